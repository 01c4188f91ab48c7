/-! GateLifterModel -/
set_option maxRecDepth 100000
abbrev wsX70 : List Cond := u_ws RX7 TX7 42
set_option maxRecDepth 100000 in
theorem nmX7 : ∀ a, a < 42 → ∀ b, b < 42 → a ≠ b → (TX7 a).2.1 ≠ (TX7 b).2.1 := by decide +kernel
set_option maxRecDepth 100000 in
theorem tyX7_ok : ∀ k, k < 42 → parseFieldDescriptor (TX7 k).2.2.1 = some (tyX7 k) := by decide +kernel
abbrev cX7_thrown : ByteArray := prog_11_method_1_code
def yX7_thrown : MethodName := ⟨RX7, "thrown", "()I"⟩
theorem dX7_thrown_0 : decode cX7_thrown 0 = .ok (.aload_n 0, 1) := by decide +kernel
theorem dX7_thrown_1 : decode cX7_thrown 1 = .ok (.getfield 1, 3) := by decide +kernel
theorem dX7_thrown_4 : decode cX7_thrown 4 = .ok (.ireturn, 1) := by decide +kernel
abbrev cX7_init : ByteArray := prog_11_method_6_code
def yX7_init : MethodName := ⟨RX7, "<init>", "()V"⟩
def dkwX7_init_7 : List UInt8 := [182, 0, 76, 177]
abbrev dktX7_init_7 : List UInt8 := dkwX7_init_7 ++ []
def dkwX7_init_6 : List UInt8 := [181, 0, 66, 42, 16, 60, 188, 4, 181, 0, 69, 42, 16, 100, 188, 8, 181, 0, 73, 42, 16, 8]
abbrev dktX7_init_6 : List UInt8 := dkwX7_init_6 ++ dktX7_init_7
def dkwX7_init_5 : List UInt8 := [181, 0, 57, 42, 16, 60, 188, 10, 181, 0, 60, 42, 16, 16, 188, 10, 181, 0, 63, 42, 16, 16, 188, 10]
abbrev dktX7_init_5 : List UInt8 := dkwX7_init_5 ++ dktX7_init_6
def dkwX7_init_4 : List UInt8 := [188, 8, 181, 0, 47, 42, 2, 181, 0, 51, 42, 8, 188, 10, 181, 0, 54, 42, 17, 1, 144, 188, 10]
abbrev dktX7_init_4 : List UInt8 := dkwX7_init_4 ++ dktX7_init_5
def dkwX7_init_3 : List UInt8 := [181, 0, 38, 42, 16, 16, 188, 10, 181, 0, 41, 42, 16, 16, 188, 10, 181, 0, 44, 42, 17, 1, 144]
abbrev dktX7_init_3 : List UInt8 := dkwX7_init_3 ++ dktX7_init_4
def dkwX7_init_2 : List UInt8 := [181, 0, 29, 42, 16, 16, 188, 10, 181, 0, 32, 42, 16, 16, 188, 10, 181, 0, 35, 42, 16, 16, 188, 10]
abbrev dktX7_init_2 : List UInt8 := dkwX7_init_2 ++ dktX7_init_3
def dkwX7_init_1 : List UInt8 := [17, 0, 200, 188, 10, 181, 0, 20, 42, 17, 6, 64, 188, 10, 181, 0, 23, 42, 2, 181, 0, 26, 42, 2]
abbrev dktX7_init_1 : List UInt8 := dkwX7_init_1 ++ dktX7_init_2
def dkwX7_init_0 : List UInt8 := [42, 183, 0, 7, 42, 17, 0, 200, 188, 10, 181, 0, 13, 42, 17, 0, 200, 188, 10, 181, 0, 17, 42]
abbrev dktX7_init_0 : List UInt8 := dkwX7_init_0 ++ dktX7_init_1
theorem dksX7_init_0 : cX7_init.data.toList.drop 0 = dktX7_init_0 := by decide +kernel
theorem dksX7_init_1 : cX7_init.data.toList.drop 23 = dktX7_init_1 := dk_seg dksX7_init_0 23 rfl rfl
theorem dksX7_init_2 : cX7_init.data.toList.drop 47 = dktX7_init_2 := dk_seg dksX7_init_1 24 rfl rfl
theorem dksX7_init_3 : cX7_init.data.toList.drop 71 = dktX7_init_3 := dk_seg dksX7_init_2 24 rfl rfl
theorem dksX7_init_4 : cX7_init.data.toList.drop 94 = dktX7_init_4 := dk_seg dksX7_init_3 23 rfl rfl
theorem dksX7_init_5 : cX7_init.data.toList.drop 117 = dktX7_init_5 := dk_seg dksX7_init_4 23 rfl rfl
theorem dksX7_init_6 : cX7_init.data.toList.drop 141 = dktX7_init_6 := dk_seg dksX7_init_5 24 rfl rfl
theorem dksX7_init_7 : cX7_init.data.toList.drop 163 = dktX7_init_7 := dk_seg dksX7_init_6 22 rfl rfl
theorem dX7_init_0 : decode cX7_init 0 = .ok (.aload_n 0, 1) := dk_42 (dk_at dksX7_init_0 0 rfl rfl)
theorem dX7_init_1 : decode cX7_init 1 = .ok (.invokespecial 7, 3) := dk_183 0 7 (dk_at dksX7_init_0 1 rfl rfl)
theorem dX7_init_4 : decode cX7_init 4 = .ok (.aload_n 0, 1) := dk_42 (dk_at dksX7_init_0 4 rfl rfl)
theorem dX7_init_5 : decode cX7_init 5 = .ok (.sipush 200, 3) := dk_17 0 200 (dk_at dksX7_init_0 5 rfl rfl)
theorem dX7_init_8 : decode cX7_init 8 = .ok (.newarray .int, 2) := dk_188_10 (dk_at dksX7_init_0 8 rfl rfl)
theorem dX7_init_10 : decode cX7_init 10 = .ok (.putfield 13, 3) := dk_181 0 13 (dk_at dksX7_init_0 10 rfl rfl)
theorem dX7_init_13 : decode cX7_init 13 = .ok (.aload_n 0, 1) := dk_42 (dk_at dksX7_init_0 13 rfl rfl)
theorem dX7_init_14 : decode cX7_init 14 = .ok (.sipush 200, 3) := dk_17 0 200 (dk_at dksX7_init_0 14 rfl rfl)
theorem dX7_init_17 : decode cX7_init 17 = .ok (.newarray .int, 2) := dk_188_10 (dk_at dksX7_init_0 17 rfl rfl)
theorem dX7_init_19 : decode cX7_init 19 = .ok (.putfield 17, 3) := dk_181 0 17 (dk_at dksX7_init_0 19 rfl rfl)
theorem dX7_init_22 : decode cX7_init 22 = .ok (.aload_n 0, 1) := dk_42 (dk_at dksX7_init_0 22 rfl rfl)
theorem dX7_init_23 : decode cX7_init 23 = .ok (.sipush 200, 3) := dk_17 0 200 (dk_at dksX7_init_1 0 rfl rfl)
theorem dX7_init_26 : decode cX7_init 26 = .ok (.newarray .int, 2) := dk_188_10 (dk_at dksX7_init_1 3 rfl rfl)
theorem dX7_init_28 : decode cX7_init 28 = .ok (.putfield 20, 3) := dk_181 0 20 (dk_at dksX7_init_1 5 rfl rfl)
theorem dX7_init_31 : decode cX7_init 31 = .ok (.aload_n 0, 1) := dk_42 (dk_at dksX7_init_1 8 rfl rfl)
theorem dX7_init_32 : decode cX7_init 32 = .ok (.sipush 1600, 3) := dk_17 6 64 (dk_at dksX7_init_1 9 rfl rfl)
theorem dX7_init_35 : decode cX7_init 35 = .ok (.newarray .int, 2) := dk_188_10 (dk_at dksX7_init_1 12 rfl rfl)
theorem dX7_init_37 : decode cX7_init 37 = .ok (.putfield 23, 3) := dk_181 0 23 (dk_at dksX7_init_1 14 rfl rfl)
theorem dX7_init_40 : decode cX7_init 40 = .ok (.aload_n 0, 1) := dk_42 (dk_at dksX7_init_1 17 rfl rfl)
theorem dX7_init_41 : decode cX7_init 41 = .ok (.iconst (-1), 1) := dk_2 (dk_at dksX7_init_1 18 rfl rfl)
theorem dX7_init_42 : decode cX7_init 42 = .ok (.putfield 26, 3) := dk_181 0 26 (dk_at dksX7_init_1 19 rfl rfl)
theorem dX7_init_45 : decode cX7_init 45 = .ok (.aload_n 0, 1) := dk_42 (dk_at dksX7_init_1 22 rfl rfl)
theorem dX7_init_46 : decode cX7_init 46 = .ok (.iconst (-1), 1) := dk_2 (dk_at dksX7_init_1 23 rfl rfl)
theorem dX7_init_47 : decode cX7_init 47 = .ok (.putfield 29, 3) := dk_181 0 29 (dk_at dksX7_init_2 0 rfl rfl)
theorem dX7_init_50 : decode cX7_init 50 = .ok (.aload_n 0, 1) := dk_42 (dk_at dksX7_init_2 3 rfl rfl)
theorem dX7_init_51 : decode cX7_init 51 = .ok (.bipush 16, 2) := dk_16 16 (dk_at dksX7_init_2 4 rfl rfl)
theorem dX7_init_53 : decode cX7_init 53 = .ok (.newarray .int, 2) := dk_188_10 (dk_at dksX7_init_2 6 rfl rfl)
theorem dX7_init_55 : decode cX7_init 55 = .ok (.putfield 32, 3) := dk_181 0 32 (dk_at dksX7_init_2 8 rfl rfl)
theorem dX7_init_58 : decode cX7_init 58 = .ok (.aload_n 0, 1) := dk_42 (dk_at dksX7_init_2 11 rfl rfl)
theorem dX7_init_59 : decode cX7_init 59 = .ok (.bipush 16, 2) := dk_16 16 (dk_at dksX7_init_2 12 rfl rfl)
theorem dX7_init_61 : decode cX7_init 61 = .ok (.newarray .int, 2) := dk_188_10 (dk_at dksX7_init_2 14 rfl rfl)
theorem dX7_init_63 : decode cX7_init 63 = .ok (.putfield 35, 3) := dk_181 0 35 (dk_at dksX7_init_2 16 rfl rfl)
theorem dX7_init_66 : decode cX7_init 66 = .ok (.aload_n 0, 1) := dk_42 (dk_at dksX7_init_2 19 rfl rfl)
theorem dX7_init_67 : decode cX7_init 67 = .ok (.bipush 16, 2) := dk_16 16 (dk_at dksX7_init_2 20 rfl rfl)
theorem dX7_init_69 : decode cX7_init 69 = .ok (.newarray .int, 2) := dk_188_10 (dk_at dksX7_init_2 22 rfl rfl)
theorem dX7_init_71 : decode cX7_init 71 = .ok (.putfield 38, 3) := dk_181 0 38 (dk_at dksX7_init_3 0 rfl rfl)
theorem dX7_init_74 : decode cX7_init 74 = .ok (.aload_n 0, 1) := dk_42 (dk_at dksX7_init_3 3 rfl rfl)
theorem dX7_init_75 : decode cX7_init 75 = .ok (.bipush 16, 2) := dk_16 16 (dk_at dksX7_init_3 4 rfl rfl)
theorem dX7_init_77 : decode cX7_init 77 = .ok (.newarray .int, 2) := dk_188_10 (dk_at dksX7_init_3 6 rfl rfl)
theorem dX7_init_79 : decode cX7_init 79 = .ok (.putfield 41, 3) := dk_181 0 41 (dk_at dksX7_init_3 8 rfl rfl)
theorem dX7_init_82 : decode cX7_init 82 = .ok (.aload_n 0, 1) := dk_42 (dk_at dksX7_init_3 11 rfl rfl)
theorem dX7_init_83 : decode cX7_init 83 = .ok (.bipush 16, 2) := dk_16 16 (dk_at dksX7_init_3 12 rfl rfl)
theorem dX7_init_85 : decode cX7_init 85 = .ok (.newarray .int, 2) := dk_188_10 (dk_at dksX7_init_3 14 rfl rfl)
theorem dX7_init_87 : decode cX7_init 87 = .ok (.putfield 44, 3) := dk_181 0 44 (dk_at dksX7_init_3 16 rfl rfl)
theorem dX7_init_90 : decode cX7_init 90 = .ok (.aload_n 0, 1) := dk_42 (dk_at dksX7_init_3 19 rfl rfl)
theorem dX7_init_91 : decode cX7_init 91 = .ok (.sipush 400, 3) := dk_17 1 144 (dk_at dksX7_init_3 20 rfl rfl)
theorem dX7_init_94 : decode cX7_init 94 = .ok (.newarray .byte, 2) := dk_188_8 (dk_at dksX7_init_4 0 rfl rfl)
theorem dX7_init_96 : decode cX7_init 96 = .ok (.putfield 47, 3) := dk_181 0 47 (dk_at dksX7_init_4 2 rfl rfl)
theorem dX7_init_99 : decode cX7_init 99 = .ok (.aload_n 0, 1) := dk_42 (dk_at dksX7_init_4 5 rfl rfl)
theorem dX7_init_100 : decode cX7_init 100 = .ok (.iconst (-1), 1) := dk_2 (dk_at dksX7_init_4 6 rfl rfl)
theorem dX7_init_101 : decode cX7_init 101 = .ok (.putfield 51, 3) := dk_181 0 51 (dk_at dksX7_init_4 7 rfl rfl)
theorem dX7_init_104 : decode cX7_init 104 = .ok (.aload_n 0, 1) := dk_42 (dk_at dksX7_init_4 10 rfl rfl)
theorem dX7_init_105 : decode cX7_init 105 = .ok (.iconst 5, 1) := dk_8 (dk_at dksX7_init_4 11 rfl rfl)
theorem dX7_init_106 : decode cX7_init 106 = .ok (.newarray .int, 2) := dk_188_10 (dk_at dksX7_init_4 12 rfl rfl)
theorem dX7_init_108 : decode cX7_init 108 = .ok (.putfield 54, 3) := dk_181 0 54 (dk_at dksX7_init_4 14 rfl rfl)
theorem dX7_init_111 : decode cX7_init 111 = .ok (.aload_n 0, 1) := dk_42 (dk_at dksX7_init_4 17 rfl rfl)
theorem dX7_init_112 : decode cX7_init 112 = .ok (.sipush 400, 3) := dk_17 1 144 (dk_at dksX7_init_4 18 rfl rfl)
theorem dX7_init_115 : decode cX7_init 115 = .ok (.newarray .int, 2) := dk_188_10 (dk_at dksX7_init_4 21 rfl rfl)
theorem dX7_init_117 : decode cX7_init 117 = .ok (.putfield 57, 3) := dk_181 0 57 (dk_at dksX7_init_5 0 rfl rfl)
theorem dX7_init_120 : decode cX7_init 120 = .ok (.aload_n 0, 1) := dk_42 (dk_at dksX7_init_5 3 rfl rfl)
theorem dX7_init_121 : decode cX7_init 121 = .ok (.bipush 60, 2) := dk_16 60 (dk_at dksX7_init_5 4 rfl rfl)
theorem dX7_init_123 : decode cX7_init 123 = .ok (.newarray .int, 2) := dk_188_10 (dk_at dksX7_init_5 6 rfl rfl)
theorem dX7_init_125 : decode cX7_init 125 = .ok (.putfield 60, 3) := dk_181 0 60 (dk_at dksX7_init_5 8 rfl rfl)
theorem dX7_init_128 : decode cX7_init 128 = .ok (.aload_n 0, 1) := dk_42 (dk_at dksX7_init_5 11 rfl rfl)
theorem dX7_init_129 : decode cX7_init 129 = .ok (.bipush 16, 2) := dk_16 16 (dk_at dksX7_init_5 12 rfl rfl)
theorem dX7_init_131 : decode cX7_init 131 = .ok (.newarray .int, 2) := dk_188_10 (dk_at dksX7_init_5 14 rfl rfl)
theorem dX7_init_133 : decode cX7_init 133 = .ok (.putfield 63, 3) := dk_181 0 63 (dk_at dksX7_init_5 16 rfl rfl)
theorem dX7_init_136 : decode cX7_init 136 = .ok (.aload_n 0, 1) := dk_42 (dk_at dksX7_init_5 19 rfl rfl)
theorem dX7_init_137 : decode cX7_init 137 = .ok (.bipush 16, 2) := dk_16 16 (dk_at dksX7_init_5 20 rfl rfl)
theorem dX7_init_139 : decode cX7_init 139 = .ok (.newarray .int, 2) := dk_188_10 (dk_at dksX7_init_5 22 rfl rfl)
theorem dX7_init_141 : decode cX7_init 141 = .ok (.putfield 66, 3) := dk_181 0 66 (dk_at dksX7_init_6 0 rfl rfl)
theorem dX7_init_144 : decode cX7_init 144 = .ok (.aload_n 0, 1) := dk_42 (dk_at dksX7_init_6 3 rfl rfl)
theorem dX7_init_145 : decode cX7_init 145 = .ok (.bipush 60, 2) := dk_16 60 (dk_at dksX7_init_6 4 rfl rfl)
theorem dX7_init_147 : decode cX7_init 147 = .ok (.newarray .boolean, 2) := dk_188_4 (dk_at dksX7_init_6 6 rfl rfl)
theorem dX7_init_149 : decode cX7_init 149 = .ok (.putfield 69, 3) := dk_181 0 69 (dk_at dksX7_init_6 8 rfl rfl)
theorem dX7_init_152 : decode cX7_init 152 = .ok (.aload_n 0, 1) := dk_42 (dk_at dksX7_init_6 11 rfl rfl)
theorem dX7_init_153 : decode cX7_init 153 = .ok (.bipush 100, 2) := dk_16 100 (dk_at dksX7_init_6 12 rfl rfl)
theorem dX7_init_155 : decode cX7_init 155 = .ok (.newarray .byte, 2) := dk_188_8 (dk_at dksX7_init_6 14 rfl rfl)
theorem dX7_init_157 : decode cX7_init 157 = .ok (.putfield 73, 3) := dk_181 0 73 (dk_at dksX7_init_6 16 rfl rfl)
theorem dX7_init_160 : decode cX7_init 160 = .ok (.aload_n 0, 1) := dk_42 (dk_at dksX7_init_6 19 rfl rfl)
theorem dX7_init_161 : decode cX7_init 161 = .ok (.bipush 8, 2) := dk_16 8 (dk_at dksX7_init_6 20 rfl rfl)
theorem dX7_init_163 : decode cX7_init 163 = .ok (.invokevirtual 76, 3) := dk_182 0 76 (dk_at dksX7_init_7 0 rfl rfl)
theorem dX7_init_166 : decode cX7_init 166 = .ok (.return_, 1) := dk_177 (dk_at dksX7_init_7 3 rfl rfl)
abbrev cX7_isFresh : ByteArray := prog_11_method_8_code
def yX7_isFresh : MethodName := ⟨RX7, "isFresh", "(I)V"⟩
def dkwX7_isFresh_2 : List UInt8 := [180, 0, 13, 5, 27, 4, 100, 79, 177]
abbrev dktX7_isFresh_2 : List UInt8 := dkwX7_isFresh_2 ++ []
def dkwX7_isFresh_1 : List UInt8 := [162, 0, 7, 4, 167, 0, 4, 3, 79, 132, 2, 1, 167, 255, 224, 42, 180, 0, 13, 3, 27, 79, 42]
abbrev dktX7_isFresh_1 : List UInt8 := dkwX7_isFresh_1 ++ dktX7_isFresh_2
def dkwX7_isFresh_0 : List UInt8 := [3, 61, 28, 17, 0, 200, 162, 0, 31, 42, 180, 0, 13, 28, 28, 7, 161, 0, 13, 28, 16, 20]
abbrev dktX7_isFresh_0 : List UInt8 := dkwX7_isFresh_0 ++ dktX7_isFresh_1
theorem dksX7_isFresh_0 : cX7_isFresh.data.toList.drop 0 = dktX7_isFresh_0 := by decide +kernel
theorem dksX7_isFresh_1 : cX7_isFresh.data.toList.drop 22 = dktX7_isFresh_1 := dk_seg dksX7_isFresh_0 22 rfl rfl
theorem dksX7_isFresh_2 : cX7_isFresh.data.toList.drop 45 = dktX7_isFresh_2 := dk_seg dksX7_isFresh_1 23 rfl rfl
theorem dX7_isFresh_0 : decode cX7_isFresh 0 = .ok (.iconst 0, 1) := dk_3 (dk_at dksX7_isFresh_0 0 rfl rfl)
theorem dX7_isFresh_1 : decode cX7_isFresh 1 = .ok (.istore_n 2, 1) := dk_61 (dk_at dksX7_isFresh_0 1 rfl rfl)
theorem dX7_isFresh_2 : decode cX7_isFresh 2 = .ok (.iload_n 2, 1) := dk_28 (dk_at dksX7_isFresh_0 2 rfl rfl)
theorem dX7_isFresh_3 : decode cX7_isFresh 3 = .ok (.sipush 200, 3) := dk_17 0 200 (dk_at dksX7_isFresh_0 3 rfl rfl)
theorem dX7_isFresh_6 : decode cX7_isFresh 6 = .ok (.if_icmp .ge 31, 3) := dk_162 0 31 (dk_at dksX7_isFresh_0 6 rfl rfl)
theorem dX7_isFresh_9 : decode cX7_isFresh 9 = .ok (.aload_n 0, 1) := dk_42 (dk_at dksX7_isFresh_0 9 rfl rfl)
theorem dX7_isFresh_10 : decode cX7_isFresh 10 = .ok (.getfield 13, 3) := dk_180 0 13 (dk_at dksX7_isFresh_0 10 rfl rfl)
theorem dX7_isFresh_13 : decode cX7_isFresh 13 = .ok (.iload_n 2, 1) := dk_28 (dk_at dksX7_isFresh_0 13 rfl rfl)
theorem dX7_isFresh_14 : decode cX7_isFresh 14 = .ok (.iload_n 2, 1) := dk_28 (dk_at dksX7_isFresh_0 14 rfl rfl)
theorem dX7_isFresh_15 : decode cX7_isFresh 15 = .ok (.iconst 4, 1) := dk_7 (dk_at dksX7_isFresh_0 15 rfl rfl)
theorem dX7_isFresh_16 : decode cX7_isFresh 16 = .ok (.if_icmp .lt 13, 3) := dk_161 0 13 (dk_at dksX7_isFresh_0 16 rfl rfl)
theorem dX7_isFresh_19 : decode cX7_isFresh 19 = .ok (.iload_n 2, 1) := dk_28 (dk_at dksX7_isFresh_0 19 rfl rfl)
theorem dX7_isFresh_20 : decode cX7_isFresh 20 = .ok (.bipush 20, 2) := dk_16 20 (dk_at dksX7_isFresh_0 20 rfl rfl)
theorem dX7_isFresh_22 : decode cX7_isFresh 22 = .ok (.if_icmp .ge 7, 3) := dk_162 0 7 (dk_at dksX7_isFresh_1 0 rfl rfl)
theorem dX7_isFresh_25 : decode cX7_isFresh 25 = .ok (.iconst 1, 1) := dk_4 (dk_at dksX7_isFresh_1 3 rfl rfl)
theorem dX7_isFresh_26 : decode cX7_isFresh 26 = .ok (.goto 4, 3) := dk_167 0 4 (dk_at dksX7_isFresh_1 4 rfl rfl)
theorem dX7_isFresh_29 : decode cX7_isFresh 29 = .ok (.iconst 0, 1) := dk_3 (dk_at dksX7_isFresh_1 7 rfl rfl)
theorem dX7_isFresh_30 : decode cX7_isFresh 30 = .ok (.iastore, 1) := dk_79 (dk_at dksX7_isFresh_1 8 rfl rfl)
theorem dX7_isFresh_31 : decode cX7_isFresh 31 = .ok (.iinc 2 1, 3) := dk_132 2 1 (dk_at dksX7_isFresh_1 9 rfl rfl)
theorem dX7_isFresh_34 : decode cX7_isFresh 34 = .ok (.goto (-32), 3) := dk_167 255 224 (dk_at dksX7_isFresh_1 12 rfl rfl)
theorem dX7_isFresh_37 : decode cX7_isFresh 37 = .ok (.aload_n 0, 1) := dk_42 (dk_at dksX7_isFresh_1 15 rfl rfl)
theorem dX7_isFresh_38 : decode cX7_isFresh 38 = .ok (.getfield 13, 3) := dk_180 0 13 (dk_at dksX7_isFresh_1 16 rfl rfl)
theorem dX7_isFresh_41 : decode cX7_isFresh 41 = .ok (.iconst 0, 1) := dk_3 (dk_at dksX7_isFresh_1 19 rfl rfl)
theorem dX7_isFresh_42 : decode cX7_isFresh 42 = .ok (.iload_n 1, 1) := dk_27 (dk_at dksX7_isFresh_1 20 rfl rfl)
theorem dX7_isFresh_43 : decode cX7_isFresh 43 = .ok (.iastore, 1) := dk_79 (dk_at dksX7_isFresh_1 21 rfl rfl)
theorem dX7_isFresh_44 : decode cX7_isFresh 44 = .ok (.aload_n 0, 1) := dk_42 (dk_at dksX7_isFresh_1 22 rfl rfl)
theorem dX7_isFresh_45 : decode cX7_isFresh 45 = .ok (.getfield 13, 3) := dk_180 0 13 (dk_at dksX7_isFresh_2 0 rfl rfl)
theorem dX7_isFresh_48 : decode cX7_isFresh 48 = .ok (.iconst 2, 1) := dk_5 (dk_at dksX7_isFresh_2 3 rfl rfl)
theorem dX7_isFresh_49 : decode cX7_isFresh 49 = .ok (.iload_n 1, 1) := dk_27 (dk_at dksX7_isFresh_2 4 rfl rfl)
theorem dX7_isFresh_50 : decode cX7_isFresh 50 = .ok (.iconst 1, 1) := dk_4 (dk_at dksX7_isFresh_2 5 rfl rfl)
theorem dX7_isFresh_51 : decode cX7_isFresh 51 = .ok (.isub, 1) := dk_100 (dk_at dksX7_isFresh_2 6 rfl rfl)
theorem dX7_isFresh_52 : decode cX7_isFresh 52 = .ok (.iastore, 1) := dk_79 (dk_at dksX7_isFresh_2 7 rfl rfl)
theorem dX7_isFresh_53 : decode cX7_isFresh 53 = .ok (.return_, 1) := dk_177 (dk_at dksX7_isFresh_2 8 rfl rfl)
abbrev cX7_undo : ByteArray := prog_11_method_28_code
def yX7_undo : MethodName := ⟨RX7, "undo", "()I"⟩
def dkwX7_undo_2 : List UInt8 := [180, 0, 144, 104, 42, 180, 0, 13, 3, 184, 0, 147, 42, 182, 0, 164, 42, 180, 0, 144, 172]
abbrev dktX7_undo_2 : List UInt8 := dkwX7_undo_2 ++ []
def dkwX7_undo_1 : List UInt8 := [153, 0, 5, 3, 172, 42, 89, 180, 0, 144, 4, 100, 181, 0, 144, 42, 180, 0, 23, 17, 0, 200, 42]
abbrev dktX7_undo_1 : List UInt8 := dkwX7_undo_1 ++ dktX7_undo_2
def dkwX7_undo_0 : List UInt8 := [42, 3, 181, 0, 1, 42, 42, 180, 0, 144, 154, 0, 7, 4, 167, 0, 4, 3, 4, 182, 0, 157]
abbrev dktX7_undo_0 : List UInt8 := dkwX7_undo_0 ++ dktX7_undo_1
theorem dksX7_undo_0 : cX7_undo.data.toList.drop 0 = dktX7_undo_0 := by decide +kernel
theorem dksX7_undo_1 : cX7_undo.data.toList.drop 22 = dktX7_undo_1 := dk_seg dksX7_undo_0 22 rfl rfl
theorem dksX7_undo_2 : cX7_undo.data.toList.drop 45 = dktX7_undo_2 := dk_seg dksX7_undo_1 23 rfl rfl
theorem dX7_undo_0 : decode cX7_undo 0 = .ok (.aload_n 0, 1) := dk_42 (dk_at dksX7_undo_0 0 rfl rfl)
theorem dX7_undo_1 : decode cX7_undo 1 = .ok (.iconst 0, 1) := dk_3 (dk_at dksX7_undo_0 1 rfl rfl)
theorem dX7_undo_2 : decode cX7_undo 2 = .ok (.putfield 1, 3) := dk_181 0 1 (dk_at dksX7_undo_0 2 rfl rfl)
theorem dX7_undo_5 : decode cX7_undo 5 = .ok (.aload_n 0, 1) := dk_42 (dk_at dksX7_undo_0 5 rfl rfl)
theorem dX7_undo_6 : decode cX7_undo 6 = .ok (.aload_n 0, 1) := dk_42 (dk_at dksX7_undo_0 6 rfl rfl)
theorem dX7_undo_7 : decode cX7_undo 7 = .ok (.getfield 144, 3) := dk_180 0 144 (dk_at dksX7_undo_0 7 rfl rfl)
theorem dX7_undo_10 : decode cX7_undo 10 = .ok (.ifCond .ne 7, 3) := dk_154 0 7 (dk_at dksX7_undo_0 10 rfl rfl)
theorem dX7_undo_13 : decode cX7_undo 13 = .ok (.iconst 1, 1) := dk_4 (dk_at dksX7_undo_0 13 rfl rfl)
theorem dX7_undo_14 : decode cX7_undo 14 = .ok (.goto 4, 3) := dk_167 0 4 (dk_at dksX7_undo_0 14 rfl rfl)
theorem dX7_undo_17 : decode cX7_undo 17 = .ok (.iconst 0, 1) := dk_3 (dk_at dksX7_undo_0 17 rfl rfl)
theorem dX7_undo_18 : decode cX7_undo 18 = .ok (.iconst 1, 1) := dk_4 (dk_at dksX7_undo_0 18 rfl rfl)
theorem dX7_undo_19 : decode cX7_undo 19 = .ok (.invokevirtual 157, 3) := dk_182 0 157 (dk_at dksX7_undo_0 19 rfl rfl)
theorem dX7_undo_22 : decode cX7_undo 22 = .ok (.ifCond .eq 5, 3) := dk_153 0 5 (dk_at dksX7_undo_1 0 rfl rfl)
theorem dX7_undo_25 : decode cX7_undo 25 = .ok (.iconst 0, 1) := dk_3 (dk_at dksX7_undo_1 3 rfl rfl)
theorem dX7_undo_26 : decode cX7_undo 26 = .ok (.ireturn, 1) := dk_172 (dk_at dksX7_undo_1 4 rfl rfl)
theorem dX7_undo_27 : decode cX7_undo 27 = .ok (.aload_n 0, 1) := dk_42 (dk_at dksX7_undo_1 5 rfl rfl)
theorem dX7_undo_28 : decode cX7_undo 28 = .ok (.dup, 1) := dk_89 (dk_at dksX7_undo_1 6 rfl rfl)
theorem dX7_undo_29 : decode cX7_undo 29 = .ok (.getfield 144, 3) := dk_180 0 144 (dk_at dksX7_undo_1 7 rfl rfl)
theorem dX7_undo_32 : decode cX7_undo 32 = .ok (.iconst 1, 1) := dk_4 (dk_at dksX7_undo_1 10 rfl rfl)
theorem dX7_undo_33 : decode cX7_undo 33 = .ok (.isub, 1) := dk_100 (dk_at dksX7_undo_1 11 rfl rfl)
theorem dX7_undo_34 : decode cX7_undo 34 = .ok (.putfield 144, 3) := dk_181 0 144 (dk_at dksX7_undo_1 12 rfl rfl)
theorem dX7_undo_37 : decode cX7_undo 37 = .ok (.aload_n 0, 1) := dk_42 (dk_at dksX7_undo_1 15 rfl rfl)
theorem dX7_undo_38 : decode cX7_undo 38 = .ok (.getfield 23, 3) := dk_180 0 23 (dk_at dksX7_undo_1 16 rfl rfl)
theorem dX7_undo_41 : decode cX7_undo 41 = .ok (.sipush 200, 3) := dk_17 0 200 (dk_at dksX7_undo_1 19 rfl rfl)
theorem dX7_undo_44 : decode cX7_undo 44 = .ok (.aload_n 0, 1) := dk_42 (dk_at dksX7_undo_1 22 rfl rfl)
theorem dX7_undo_45 : decode cX7_undo 45 = .ok (.getfield 144, 3) := dk_180 0 144 (dk_at dksX7_undo_2 0 rfl rfl)
theorem dX7_undo_48 : decode cX7_undo 48 = .ok (.imul, 1) := dk_104 (dk_at dksX7_undo_2 3 rfl rfl)
theorem dX7_undo_49 : decode cX7_undo 49 = .ok (.aload_n 0, 1) := dk_42 (dk_at dksX7_undo_2 4 rfl rfl)
theorem dX7_undo_50 : decode cX7_undo 50 = .ok (.getfield 13, 3) := dk_180 0 13 (dk_at dksX7_undo_2 5 rfl rfl)
theorem dX7_undo_53 : decode cX7_undo 53 = .ok (.iconst 0, 1) := dk_3 (dk_at dksX7_undo_2 8 rfl rfl)
theorem dX7_undo_54 : decode cX7_undo 54 = .ok (.invokestatic 147, 3) := dk_184 0 147 (dk_at dksX7_undo_2 9 rfl rfl)
theorem dX7_undo_57 : decode cX7_undo 57 = .ok (.aload_n 0, 1) := dk_42 (dk_at dksX7_undo_2 12 rfl rfl)
theorem dX7_undo_58 : decode cX7_undo 58 = .ok (.invokevirtual 164, 3) := dk_182 0 164 (dk_at dksX7_undo_2 13 rfl rfl)
theorem dX7_undo_61 : decode cX7_undo 61 = .ok (.aload_n 0, 1) := dk_42 (dk_at dksX7_undo_2 16 rfl rfl)
theorem dX7_undo_62 : decode cX7_undo 62 = .ok (.getfield 144, 3) := dk_180 0 144 (dk_at dksX7_undo_2 17 rfl rfl)
theorem dX7_undo_65 : decode cX7_undo 65 = .ok (.ireturn, 1) := dk_172 (dk_at dksX7_undo_2 20 rfl rfl)
abbrev cX7_throwsIf : ByteArray := prog_11_method_2_code
def yX7_throwsIf : MethodName := ⟨RX7, "throwsIf", "(ZI)Z"⟩
def dkwX7_throwsIf_0 : List UInt8 := [27, 153, 0, 8, 42, 28, 181, 0, 1, 27, 172]
abbrev dktX7_throwsIf_0 : List UInt8 := dkwX7_throwsIf_0 ++ []
theorem dksX7_throwsIf_0 : cX7_throwsIf.data.toList.drop 0 = dktX7_throwsIf_0 := by decide +kernel
theorem dX7_throwsIf_0 : decode cX7_throwsIf 0 = .ok (.iload_n 1, 1) := dk_27 (dk_at dksX7_throwsIf_0 0 rfl rfl)
theorem dX7_throwsIf_1 : decode cX7_throwsIf 1 = .ok (.ifCond .eq 8, 3) := dk_153 0 8 (dk_at dksX7_throwsIf_0 1 rfl rfl)
theorem dX7_throwsIf_4 : decode cX7_throwsIf 4 = .ok (.aload_n 0, 1) := dk_42 (dk_at dksX7_throwsIf_0 4 rfl rfl)
theorem dX7_throwsIf_5 : decode cX7_throwsIf 5 = .ok (.iload_n 2, 1) := dk_28 (dk_at dksX7_throwsIf_0 5 rfl rfl)
theorem dX7_throwsIf_6 : decode cX7_throwsIf 6 = .ok (.putfield 1, 3) := dk_181 0 1 (dk_at dksX7_throwsIf_0 6 rfl rfl)
theorem dX7_throwsIf_9 : decode cX7_throwsIf 9 = .ok (.iload_n 1, 1) := dk_27 (dk_at dksX7_throwsIf_0 9 rfl rfl)
theorem dX7_throwsIf_10 : decode cX7_throwsIf 10 = .ok (.ireturn, 1) := dk_172 (dk_at dksX7_throwsIf_0 10 rfl rfl)
abbrev cX7_copies : ByteArray := prog_11_method_7_code
def yX7_copies : MethodName := ⟨RX7, "copies", "([II[II)V"⟩
def dkwX7_copies_1 : List UInt8 := [132, 4, 1, 167, 255, 233, 177]
abbrev dktX7_copies_1 : List UInt8 := dkwX7_copies_1 ++ []
def dkwX7_copies_0 : List UInt8 := [3, 54, 4, 21, 4, 17, 0, 200, 162, 0, 21, 44, 29, 21, 4, 96, 42, 27, 21, 4, 96, 46, 79]
abbrev dktX7_copies_0 : List UInt8 := dkwX7_copies_0 ++ dktX7_copies_1
theorem dksX7_copies_0 : cX7_copies.data.toList.drop 0 = dktX7_copies_0 := by decide +kernel
theorem dksX7_copies_1 : cX7_copies.data.toList.drop 23 = dktX7_copies_1 := dk_seg dksX7_copies_0 23 rfl rfl
theorem dX7_copies_0 : decode cX7_copies 0 = .ok (.iconst 0, 1) := dk_3 (dk_at dksX7_copies_0 0 rfl rfl)
theorem dX7_copies_1 : decode cX7_copies 1 = .ok (.istore 4, 2) := dk_54 4 (dk_at dksX7_copies_0 1 rfl rfl)
theorem dX7_copies_3 : decode cX7_copies 3 = .ok (.iload 4, 2) := dk_21 4 (dk_at dksX7_copies_0 3 rfl rfl)
theorem dX7_copies_5 : decode cX7_copies 5 = .ok (.sipush 200, 3) := dk_17 0 200 (dk_at dksX7_copies_0 5 rfl rfl)
theorem dX7_copies_8 : decode cX7_copies 8 = .ok (.if_icmp .ge 21, 3) := dk_162 0 21 (dk_at dksX7_copies_0 8 rfl rfl)
theorem dX7_copies_11 : decode cX7_copies 11 = .ok (.aload_n 2, 1) := dk_44 (dk_at dksX7_copies_0 11 rfl rfl)
theorem dX7_copies_12 : decode cX7_copies 12 = .ok (.iload_n 3, 1) := dk_29 (dk_at dksX7_copies_0 12 rfl rfl)
theorem dX7_copies_13 : decode cX7_copies 13 = .ok (.iload 4, 2) := dk_21 4 (dk_at dksX7_copies_0 13 rfl rfl)
theorem dX7_copies_15 : decode cX7_copies 15 = .ok (.iadd, 1) := dk_96 (dk_at dksX7_copies_0 15 rfl rfl)
theorem dX7_copies_16 : decode cX7_copies 16 = .ok (.aload_n 0, 1) := dk_42 (dk_at dksX7_copies_0 16 rfl rfl)
theorem dX7_copies_17 : decode cX7_copies 17 = .ok (.iload_n 1, 1) := dk_27 (dk_at dksX7_copies_0 17 rfl rfl)
theorem dX7_copies_18 : decode cX7_copies 18 = .ok (.iload 4, 2) := dk_21 4 (dk_at dksX7_copies_0 18 rfl rfl)
theorem dX7_copies_20 : decode cX7_copies 20 = .ok (.iadd, 1) := dk_96 (dk_at dksX7_copies_0 20 rfl rfl)
theorem dX7_copies_21 : decode cX7_copies 21 = .ok (.iaload, 1) := dk_46 (dk_at dksX7_copies_0 21 rfl rfl)
theorem dX7_copies_22 : decode cX7_copies 22 = .ok (.iastore, 1) := dk_79 (dk_at dksX7_copies_0 22 rfl rfl)
theorem dX7_copies_23 : decode cX7_copies 23 = .ok (.iinc 4 1, 3) := dk_132 4 1 (dk_at dksX7_copies_1 0 rfl rfl)
theorem dX7_copies_26 : decode cX7_copies 26 = .ok (.goto (-23), 3) := dk_167 255 233 (dk_at dksX7_copies_1 3 rfl rfl)
theorem dX7_copies_29 : decode cX7_copies 29 = .ok (.return_, 1) := dk_177 (dk_at dksX7_copies_1 6 rfl rfl)
abbrev cX7_hasNoLatest : ByteArray := prog_11_method_25_code
def yX7_hasNoLatest : MethodName := ⟨RX7, "hasNoLatest", "()V"⟩
def dkwX7_hasNoLatest_0 : List UInt8 := [42, 3, 181, 0, 132, 42, 3, 181, 0, 135, 42, 3, 181, 0, 138, 42, 3, 181, 0, 141, 177]
abbrev dktX7_hasNoLatest_0 : List UInt8 := dkwX7_hasNoLatest_0 ++ []
theorem dksX7_hasNoLatest_0 : cX7_hasNoLatest.data.toList.drop 0 = dktX7_hasNoLatest_0 := by decide +kernel
theorem dX7_hasNoLatest_0 : decode cX7_hasNoLatest 0 = .ok (.aload_n 0, 1) := dk_42 (dk_at dksX7_hasNoLatest_0 0 rfl rfl)
theorem dX7_hasNoLatest_1 : decode cX7_hasNoLatest 1 = .ok (.iconst 0, 1) := dk_3 (dk_at dksX7_hasNoLatest_0 1 rfl rfl)
theorem dX7_hasNoLatest_2 : decode cX7_hasNoLatest 2 = .ok (.putfield 132, 3) := dk_181 0 132 (dk_at dksX7_hasNoLatest_0 2 rfl rfl)
theorem dX7_hasNoLatest_5 : decode cX7_hasNoLatest 5 = .ok (.aload_n 0, 1) := dk_42 (dk_at dksX7_hasNoLatest_0 5 rfl rfl)
theorem dX7_hasNoLatest_6 : decode cX7_hasNoLatest 6 = .ok (.iconst 0, 1) := dk_3 (dk_at dksX7_hasNoLatest_0 6 rfl rfl)
theorem dX7_hasNoLatest_7 : decode cX7_hasNoLatest 7 = .ok (.putfield 135, 3) := dk_181 0 135 (dk_at dksX7_hasNoLatest_0 7 rfl rfl)
theorem dX7_hasNoLatest_10 : decode cX7_hasNoLatest 10 = .ok (.aload_n 0, 1) := dk_42 (dk_at dksX7_hasNoLatest_0 10 rfl rfl)
theorem dX7_hasNoLatest_11 : decode cX7_hasNoLatest 11 = .ok (.iconst 0, 1) := dk_3 (dk_at dksX7_hasNoLatest_0 11 rfl rfl)
theorem dX7_hasNoLatest_12 : decode cX7_hasNoLatest 12 = .ok (.putfield 138, 3) := dk_181 0 138 (dk_at dksX7_hasNoLatest_0 12 rfl rfl)
theorem dX7_hasNoLatest_15 : decode cX7_hasNoLatest 15 = .ok (.aload_n 0, 1) := dk_42 (dk_at dksX7_hasNoLatest_0 15 rfl rfl)
theorem dX7_hasNoLatest_16 : decode cX7_hasNoLatest 16 = .ok (.iconst 0, 1) := dk_3 (dk_at dksX7_hasNoLatest_0 16 rfl rfl)
theorem dX7_hasNoLatest_17 : decode cX7_hasNoLatest 17 = .ok (.putfield 141, 3) := dk_181 0 141 (dk_at dksX7_hasNoLatest_0 17 rfl rfl)
theorem dX7_hasNoLatest_20 : decode cX7_hasNoLatest 20 = .ok (.return_, 1) := dk_177 (dk_at dksX7_hasNoLatest_0 20 rfl rfl)
abbrev cX7_image : ByteArray := prog_11_method_29_code
def yX7_image : MethodName := ⟨RX7, "image", "()V"⟩
def dkwX7_image_0 : List UInt8 := [42, 3, 181, 0, 1, 42, 180, 0, 13, 3, 42, 180, 0, 17, 3, 184, 0, 147, 42, 4, 181, 0, 167, 177]
abbrev dktX7_image_0 : List UInt8 := dkwX7_image_0 ++ []
theorem dksX7_image_0 : cX7_image.data.toList.drop 0 = dktX7_image_0 := by decide +kernel
theorem dX7_image_0 : decode cX7_image 0 = .ok (.aload_n 0, 1) := dk_42 (dk_at dksX7_image_0 0 rfl rfl)
theorem dX7_image_1 : decode cX7_image 1 = .ok (.iconst 0, 1) := dk_3 (dk_at dksX7_image_0 1 rfl rfl)
theorem dX7_image_2 : decode cX7_image 2 = .ok (.putfield 1, 3) := dk_181 0 1 (dk_at dksX7_image_0 2 rfl rfl)
theorem dX7_image_5 : decode cX7_image 5 = .ok (.aload_n 0, 1) := dk_42 (dk_at dksX7_image_0 5 rfl rfl)
theorem dX7_image_6 : decode cX7_image 6 = .ok (.getfield 13, 3) := dk_180 0 13 (dk_at dksX7_image_0 6 rfl rfl)
theorem dX7_image_9 : decode cX7_image 9 = .ok (.iconst 0, 1) := dk_3 (dk_at dksX7_image_0 9 rfl rfl)
theorem dX7_image_10 : decode cX7_image 10 = .ok (.aload_n 0, 1) := dk_42 (dk_at dksX7_image_0 10 rfl rfl)
theorem dX7_image_11 : decode cX7_image 11 = .ok (.getfield 17, 3) := dk_180 0 17 (dk_at dksX7_image_0 11 rfl rfl)
theorem dX7_image_14 : decode cX7_image 14 = .ok (.iconst 0, 1) := dk_3 (dk_at dksX7_image_0 14 rfl rfl)
theorem dX7_image_15 : decode cX7_image 15 = .ok (.invokestatic 147, 3) := dk_184 0 147 (dk_at dksX7_image_0 15 rfl rfl)
theorem dX7_image_18 : decode cX7_image 18 = .ok (.aload_n 0, 1) := dk_42 (dk_at dksX7_image_0 18 rfl rfl)
theorem dX7_image_19 : decode cX7_image 19 = .ok (.iconst 1, 1) := dk_4 (dk_at dksX7_image_0 19 rfl rfl)
theorem dX7_image_20 : decode cX7_image 20 = .ok (.putfield 167, 3) := dk_181 0 167 (dk_at dksX7_image_0 20 rfl rfl)
theorem dX7_image_23 : decode cX7_image 23 = .ok (.return_, 1) := dk_177 (dk_at dksX7_image_0 23 rfl rfl)
abbrev cX7_back : ByteArray := prog_11_method_30_code
def yX7_back : MethodName := ⟨RX7, "back", "()Z"⟩
def dkwX7_back_1 : List UInt8 := [184, 0, 147, 42, 3, 181, 0, 144, 42, 182, 0, 164, 4, 172]
abbrev dktX7_back_1 : List UInt8 := dkwX7_back_1 ++ []
def dkwX7_back_0 : List UInt8 := [42, 3, 181, 0, 1, 42, 180, 0, 167, 154, 0, 5, 3, 172, 42, 180, 0, 17, 3, 42, 180, 0, 13, 3]
abbrev dktX7_back_0 : List UInt8 := dkwX7_back_0 ++ dktX7_back_1
theorem dksX7_back_0 : cX7_back.data.toList.drop 0 = dktX7_back_0 := by decide +kernel
theorem dksX7_back_1 : cX7_back.data.toList.drop 24 = dktX7_back_1 := dk_seg dksX7_back_0 24 rfl rfl
theorem dX7_back_0 : decode cX7_back 0 = .ok (.aload_n 0, 1) := dk_42 (dk_at dksX7_back_0 0 rfl rfl)
theorem dX7_back_1 : decode cX7_back 1 = .ok (.iconst 0, 1) := dk_3 (dk_at dksX7_back_0 1 rfl rfl)
theorem dX7_back_2 : decode cX7_back 2 = .ok (.putfield 1, 3) := dk_181 0 1 (dk_at dksX7_back_0 2 rfl rfl)
theorem dX7_back_5 : decode cX7_back 5 = .ok (.aload_n 0, 1) := dk_42 (dk_at dksX7_back_0 5 rfl rfl)
theorem dX7_back_6 : decode cX7_back 6 = .ok (.getfield 167, 3) := dk_180 0 167 (dk_at dksX7_back_0 6 rfl rfl)
theorem dX7_back_9 : decode cX7_back 9 = .ok (.ifCond .ne 5, 3) := dk_154 0 5 (dk_at dksX7_back_0 9 rfl rfl)
theorem dX7_back_12 : decode cX7_back 12 = .ok (.iconst 0, 1) := dk_3 (dk_at dksX7_back_0 12 rfl rfl)
theorem dX7_back_13 : decode cX7_back 13 = .ok (.ireturn, 1) := dk_172 (dk_at dksX7_back_0 13 rfl rfl)
theorem dX7_back_14 : decode cX7_back 14 = .ok (.aload_n 0, 1) := dk_42 (dk_at dksX7_back_0 14 rfl rfl)
theorem dX7_back_15 : decode cX7_back 15 = .ok (.getfield 17, 3) := dk_180 0 17 (dk_at dksX7_back_0 15 rfl rfl)
theorem dX7_back_18 : decode cX7_back 18 = .ok (.iconst 0, 1) := dk_3 (dk_at dksX7_back_0 18 rfl rfl)
theorem dX7_back_19 : decode cX7_back 19 = .ok (.aload_n 0, 1) := dk_42 (dk_at dksX7_back_0 19 rfl rfl)
theorem dX7_back_20 : decode cX7_back 20 = .ok (.getfield 13, 3) := dk_180 0 13 (dk_at dksX7_back_0 20 rfl rfl)
theorem dX7_back_23 : decode cX7_back 23 = .ok (.iconst 0, 1) := dk_3 (dk_at dksX7_back_0 23 rfl rfl)
theorem dX7_back_24 : decode cX7_back 24 = .ok (.invokestatic 147, 3) := dk_184 0 147 (dk_at dksX7_back_1 0 rfl rfl)
theorem dX7_back_27 : decode cX7_back 27 = .ok (.aload_n 0, 1) := dk_42 (dk_at dksX7_back_1 3 rfl rfl)
theorem dX7_back_28 : decode cX7_back 28 = .ok (.iconst 0, 1) := dk_3 (dk_at dksX7_back_1 4 rfl rfl)
theorem dX7_back_29 : decode cX7_back 29 = .ok (.putfield 144, 3) := dk_181 0 144 (dk_at dksX7_back_1 5 rfl rfl)
theorem dX7_back_32 : decode cX7_back 32 = .ok (.aload_n 0, 1) := dk_42 (dk_at dksX7_back_1 8 rfl rfl)
theorem dX7_back_33 : decode cX7_back 33 = .ok (.invokevirtual 164, 3) := dk_182 0 164 (dk_at dksX7_back_1 9 rfl rfl)
theorem dX7_back_36 : decode cX7_back 36 = .ok (.iconst 1, 1) := dk_4 (dk_at dksX7_back_1 12 rfl rfl)
theorem dX7_back_37 : decode cX7_back 37 = .ok (.ireturn, 1) := dk_172 (dk_at dksX7_back_1 13 rfl rfl)
abbrev cX7_net : ByteArray := prog_11_method_31_code
def yX7_net : MethodName := ⟨RX7, "net", "(I)V"⟩
def dkwX7_net_2 : List UInt8 := [182, 0, 164, 177]
abbrev dktX7_net_2 : List UInt8 := dkwX7_net_2 ++ []
def dkwX7_net_1 : List UInt8 := [182, 0, 157, 153, 0, 4, 177, 42, 27, 182, 0, 76, 42, 3, 181, 0, 144, 42, 3, 181, 0, 154, 42]
abbrev dktX7_net_1 : List UInt8 := dkwX7_net_1 ++ dktX7_net_2
def dkwX7_net_0 : List UInt8 := [42, 3, 181, 0, 1, 42, 27, 5, 16, 16, 184, 0, 84, 154, 0, 7, 4, 167, 0, 4, 3, 4]
abbrev dktX7_net_0 : List UInt8 := dkwX7_net_0 ++ dktX7_net_1
theorem dksX7_net_0 : cX7_net.data.toList.drop 0 = dktX7_net_0 := by decide +kernel
theorem dksX7_net_1 : cX7_net.data.toList.drop 22 = dktX7_net_1 := dk_seg dksX7_net_0 22 rfl rfl
theorem dksX7_net_2 : cX7_net.data.toList.drop 45 = dktX7_net_2 := dk_seg dksX7_net_1 23 rfl rfl
theorem dX7_net_0 : decode cX7_net 0 = .ok (.aload_n 0, 1) := dk_42 (dk_at dksX7_net_0 0 rfl rfl)
theorem dX7_net_1 : decode cX7_net 1 = .ok (.iconst 0, 1) := dk_3 (dk_at dksX7_net_0 1 rfl rfl)
theorem dX7_net_2 : decode cX7_net 2 = .ok (.putfield 1, 3) := dk_181 0 1 (dk_at dksX7_net_0 2 rfl rfl)
theorem dX7_net_5 : decode cX7_net 5 = .ok (.aload_n 0, 1) := dk_42 (dk_at dksX7_net_0 5 rfl rfl)
theorem dX7_net_6 : decode cX7_net 6 = .ok (.iload_n 1, 1) := dk_27 (dk_at dksX7_net_0 6 rfl rfl)
theorem dX7_net_7 : decode cX7_net 7 = .ok (.iconst 2, 1) := dk_5 (dk_at dksX7_net_0 7 rfl rfl)
theorem dX7_net_8 : decode cX7_net 8 = .ok (.bipush 16, 2) := dk_16 16 (dk_at dksX7_net_0 8 rfl rfl)
theorem dX7_net_10 : decode cX7_net 10 = .ok (.invokestatic 84, 3) := dk_184 0 84 (dk_at dksX7_net_0 10 rfl rfl)
theorem dX7_net_13 : decode cX7_net 13 = .ok (.ifCond .ne 7, 3) := dk_154 0 7 (dk_at dksX7_net_0 13 rfl rfl)
theorem dX7_net_16 : decode cX7_net 16 = .ok (.iconst 1, 1) := dk_4 (dk_at dksX7_net_0 16 rfl rfl)
theorem dX7_net_17 : decode cX7_net 17 = .ok (.goto 4, 3) := dk_167 0 4 (dk_at dksX7_net_0 17 rfl rfl)
theorem dX7_net_20 : decode cX7_net 20 = .ok (.iconst 0, 1) := dk_3 (dk_at dksX7_net_0 20 rfl rfl)
theorem dX7_net_21 : decode cX7_net 21 = .ok (.iconst 1, 1) := dk_4 (dk_at dksX7_net_0 21 rfl rfl)
theorem dX7_net_22 : decode cX7_net 22 = .ok (.invokevirtual 157, 3) := dk_182 0 157 (dk_at dksX7_net_1 0 rfl rfl)
theorem dX7_net_25 : decode cX7_net 25 = .ok (.ifCond .eq 4, 3) := dk_153 0 4 (dk_at dksX7_net_1 3 rfl rfl)
theorem dX7_net_28 : decode cX7_net 28 = .ok (.return_, 1) := dk_177 (dk_at dksX7_net_1 6 rfl rfl)
theorem dX7_net_29 : decode cX7_net 29 = .ok (.aload_n 0, 1) := dk_42 (dk_at dksX7_net_1 7 rfl rfl)
theorem dX7_net_30 : decode cX7_net 30 = .ok (.iload_n 1, 1) := dk_27 (dk_at dksX7_net_1 8 rfl rfl)
theorem dX7_net_31 : decode cX7_net 31 = .ok (.invokevirtual 76, 3) := dk_182 0 76 (dk_at dksX7_net_1 9 rfl rfl)
theorem dX7_net_34 : decode cX7_net 34 = .ok (.aload_n 0, 1) := dk_42 (dk_at dksX7_net_1 12 rfl rfl)
theorem dX7_net_35 : decode cX7_net 35 = .ok (.iconst 0, 1) := dk_3 (dk_at dksX7_net_1 13 rfl rfl)
theorem dX7_net_36 : decode cX7_net 36 = .ok (.putfield 144, 3) := dk_181 0 144 (dk_at dksX7_net_1 14 rfl rfl)
theorem dX7_net_39 : decode cX7_net 39 = .ok (.aload_n 0, 1) := dk_42 (dk_at dksX7_net_1 17 rfl rfl)
theorem dX7_net_40 : decode cX7_net 40 = .ok (.iconst 0, 1) := dk_3 (dk_at dksX7_net_1 18 rfl rfl)
theorem dX7_net_41 : decode cX7_net 41 = .ok (.putfield 154, 3) := dk_181 0 154 (dk_at dksX7_net_1 19 rfl rfl)
theorem dX7_net_44 : decode cX7_net 44 = .ok (.aload_n 0, 1) := dk_42 (dk_at dksX7_net_1 22 rfl rfl)
theorem dX7_net_45 : decode cX7_net 45 = .ok (.invokevirtual 164, 3) := dk_182 0 164 (dk_at dksX7_net_2 0 rfl rfl)
theorem dX7_net_48 : decode cX7_net 48 = .ok (.return_, 1) := dk_177 (dk_at dksX7_net_2 3 rfl rfl)
abbrev cX7_in : ByteArray := prog_11_method_3_code
def yX7_in : MethodName := ⟨RX7, "in", "(III)Z"⟩
def dkwX7_in_0 : List UInt8 := [26, 27, 161, 0, 12, 26, 28, 163, 0, 7, 4, 167, 0, 4, 3, 172]
abbrev dktX7_in_0 : List UInt8 := dkwX7_in_0 ++ []
theorem dksX7_in_0 : cX7_in.data.toList.drop 0 = dktX7_in_0 := by decide +kernel
theorem dX7_in_0 : decode cX7_in 0 = .ok (.iload_n 0, 1) := dk_26 (dk_at dksX7_in_0 0 rfl rfl)
theorem dX7_in_1 : decode cX7_in 1 = .ok (.iload_n 1, 1) := dk_27 (dk_at dksX7_in_0 1 rfl rfl)
theorem dX7_in_2 : decode cX7_in 2 = .ok (.if_icmp .lt 12, 3) := dk_161 0 12 (dk_at dksX7_in_0 2 rfl rfl)
theorem dX7_in_5 : decode cX7_in 5 = .ok (.iload_n 0, 1) := dk_26 (dk_at dksX7_in_0 5 rfl rfl)
theorem dX7_in_6 : decode cX7_in 6 = .ok (.iload_n 2, 1) := dk_28 (dk_at dksX7_in_0 6 rfl rfl)
theorem dX7_in_7 : decode cX7_in 7 = .ok (.if_icmp .gt 7, 3) := dk_163 0 7 (dk_at dksX7_in_0 7 rfl rfl)
theorem dX7_in_10 : decode cX7_in 10 = .ok (.iconst 1, 1) := dk_4 (dk_at dksX7_in_0 10 rfl rfl)
theorem dX7_in_11 : decode cX7_in 11 = .ok (.goto 4, 3) := dk_167 0 4 (dk_at dksX7_in_0 11 rfl rfl)
theorem dX7_in_14 : decode cX7_in 14 = .ok (.iconst 0, 1) := dk_3 (dk_at dksX7_in_0 14 rfl rfl)
theorem dX7_in_15 : decode cX7_in 15 = .ok (.ireturn, 1) := dk_172 (dk_at dksX7_in_0 15 rfl rfl)
abbrev cX7_tell : ByteArray := prog_11_method_37_code
def yX7_tell : MethodName := ⟨RX7, "tell", "(IZ)I"⟩
def dkwX7_tell_2 : List UInt8 := [182, 0, 183, 21, 4, 172]
abbrev dktX7_tell_2 : List UInt8 := dkwX7_tell_2 ++ []
def dkwX7_tell_1 : List UInt8 := [182, 0, 180, 153, 0, 5, 3, 172, 42, 180, 0, 13, 29, 46, 54, 4, 42, 180, 0, 13, 29, 27, 79, 42]
abbrev dktX7_tell_1 : List UInt8 := dkwX7_tell_1 ++ dktX7_tell_2
def dkwX7_tell_0 : List UInt8 := [42, 3, 181, 0, 1, 28, 153, 0, 7, 5, 167, 0, 4, 4, 62, 42, 42, 27, 29, 182, 0, 177, 4]
abbrev dktX7_tell_0 : List UInt8 := dkwX7_tell_0 ++ dktX7_tell_1
theorem dksX7_tell_0 : cX7_tell.data.toList.drop 0 = dktX7_tell_0 := by decide +kernel
theorem dksX7_tell_1 : cX7_tell.data.toList.drop 23 = dktX7_tell_1 := dk_seg dksX7_tell_0 23 rfl rfl
theorem dksX7_tell_2 : cX7_tell.data.toList.drop 47 = dktX7_tell_2 := dk_seg dksX7_tell_1 24 rfl rfl
theorem dX7_tell_0 : decode cX7_tell 0 = .ok (.aload_n 0, 1) := dk_42 (dk_at dksX7_tell_0 0 rfl rfl)
theorem dX7_tell_1 : decode cX7_tell 1 = .ok (.iconst 0, 1) := dk_3 (dk_at dksX7_tell_0 1 rfl rfl)
theorem dX7_tell_2 : decode cX7_tell 2 = .ok (.putfield 1, 3) := dk_181 0 1 (dk_at dksX7_tell_0 2 rfl rfl)
theorem dX7_tell_5 : decode cX7_tell 5 = .ok (.iload_n 2, 1) := dk_28 (dk_at dksX7_tell_0 5 rfl rfl)
theorem dX7_tell_6 : decode cX7_tell 6 = .ok (.ifCond .eq 7, 3) := dk_153 0 7 (dk_at dksX7_tell_0 6 rfl rfl)
theorem dX7_tell_9 : decode cX7_tell 9 = .ok (.iconst 2, 1) := dk_5 (dk_at dksX7_tell_0 9 rfl rfl)
theorem dX7_tell_10 : decode cX7_tell 10 = .ok (.goto 4, 3) := dk_167 0 4 (dk_at dksX7_tell_0 10 rfl rfl)
theorem dX7_tell_13 : decode cX7_tell 13 = .ok (.iconst 1, 1) := dk_4 (dk_at dksX7_tell_0 13 rfl rfl)
theorem dX7_tell_14 : decode cX7_tell 14 = .ok (.istore_n 3, 1) := dk_62 (dk_at dksX7_tell_0 14 rfl rfl)
theorem dX7_tell_15 : decode cX7_tell 15 = .ok (.aload_n 0, 1) := dk_42 (dk_at dksX7_tell_0 15 rfl rfl)
theorem dX7_tell_16 : decode cX7_tell 16 = .ok (.aload_n 0, 1) := dk_42 (dk_at dksX7_tell_0 16 rfl rfl)
theorem dX7_tell_17 : decode cX7_tell 17 = .ok (.iload_n 1, 1) := dk_27 (dk_at dksX7_tell_0 17 rfl rfl)
theorem dX7_tell_18 : decode cX7_tell 18 = .ok (.iload_n 3, 1) := dk_29 (dk_at dksX7_tell_0 18 rfl rfl)
theorem dX7_tell_19 : decode cX7_tell 19 = .ok (.invokevirtual 177, 3) := dk_182 0 177 (dk_at dksX7_tell_0 19 rfl rfl)
theorem dX7_tell_22 : decode cX7_tell 22 = .ok (.iconst 1, 1) := dk_4 (dk_at dksX7_tell_0 22 rfl rfl)
theorem dX7_tell_23 : decode cX7_tell 23 = .ok (.invokevirtual 180, 3) := dk_182 0 180 (dk_at dksX7_tell_1 0 rfl rfl)
theorem dX7_tell_26 : decode cX7_tell 26 = .ok (.ifCond .eq 5, 3) := dk_153 0 5 (dk_at dksX7_tell_1 3 rfl rfl)
theorem dX7_tell_29 : decode cX7_tell 29 = .ok (.iconst 0, 1) := dk_3 (dk_at dksX7_tell_1 6 rfl rfl)
theorem dX7_tell_30 : decode cX7_tell 30 = .ok (.ireturn, 1) := dk_172 (dk_at dksX7_tell_1 7 rfl rfl)
theorem dX7_tell_31 : decode cX7_tell 31 = .ok (.aload_n 0, 1) := dk_42 (dk_at dksX7_tell_1 8 rfl rfl)
theorem dX7_tell_32 : decode cX7_tell 32 = .ok (.getfield 13, 3) := dk_180 0 13 (dk_at dksX7_tell_1 9 rfl rfl)
theorem dX7_tell_35 : decode cX7_tell 35 = .ok (.iload_n 3, 1) := dk_29 (dk_at dksX7_tell_1 12 rfl rfl)
theorem dX7_tell_36 : decode cX7_tell 36 = .ok (.iaload, 1) := dk_46 (dk_at dksX7_tell_1 13 rfl rfl)
theorem dX7_tell_37 : decode cX7_tell 37 = .ok (.istore 4, 2) := dk_54 4 (dk_at dksX7_tell_1 14 rfl rfl)
theorem dX7_tell_39 : decode cX7_tell 39 = .ok (.aload_n 0, 1) := dk_42 (dk_at dksX7_tell_1 16 rfl rfl)
theorem dX7_tell_40 : decode cX7_tell 40 = .ok (.getfield 13, 3) := dk_180 0 13 (dk_at dksX7_tell_1 17 rfl rfl)
theorem dX7_tell_43 : decode cX7_tell 43 = .ok (.iload_n 3, 1) := dk_29 (dk_at dksX7_tell_1 20 rfl rfl)
theorem dX7_tell_44 : decode cX7_tell 44 = .ok (.iload_n 1, 1) := dk_27 (dk_at dksX7_tell_1 21 rfl rfl)
theorem dX7_tell_45 : decode cX7_tell 45 = .ok (.iastore, 1) := dk_79 (dk_at dksX7_tell_1 22 rfl rfl)
theorem dX7_tell_46 : decode cX7_tell 46 = .ok (.aload_n 0, 1) := dk_42 (dk_at dksX7_tell_1 23 rfl rfl)
theorem dX7_tell_47 : decode cX7_tell 47 = .ok (.invokevirtual 183, 3) := dk_182 0 183 (dk_at dksX7_tell_2 0 rfl rfl)
theorem dX7_tell_50 : decode cX7_tell 50 = .ok (.iload 4, 2) := dk_21 4 (dk_at dksX7_tell_2 3 rfl rfl)
theorem dX7_tell_52 : decode cX7_tell 52 = .ok (.ireturn, 1) := dk_172 (dk_at dksX7_tell_2 5 rfl rfl)
abbrev cX7_whyNoTell : ByteArray := prog_11_method_32_code
def yX7_whyNoTell : MethodName := ⟨RX7, "whyNoTell", "(II)I"⟩
def dkwX7_whyNoTell_1 : List UInt8 := [167, 0, 4, 3, 172]
abbrev dktX7_whyNoTell_1 : List UInt8 := dkwX7_whyNoTell_1 ++ []
def dkwX7_whyNoTell_0 : List UInt8 := [42, 27, 182, 0, 171, 154, 0, 7, 4, 167, 0, 18, 42, 180, 0, 13, 28, 46, 27, 160, 0, 7, 7]
abbrev dktX7_whyNoTell_0 : List UInt8 := dkwX7_whyNoTell_0 ++ dktX7_whyNoTell_1
theorem dksX7_whyNoTell_0 : cX7_whyNoTell.data.toList.drop 0 = dktX7_whyNoTell_0 := by decide +kernel
theorem dksX7_whyNoTell_1 : cX7_whyNoTell.data.toList.drop 23 = dktX7_whyNoTell_1 := dk_seg dksX7_whyNoTell_0 23 rfl rfl
theorem dX7_whyNoTell_0 : decode cX7_whyNoTell 0 = .ok (.aload_n 0, 1) := dk_42 (dk_at dksX7_whyNoTell_0 0 rfl rfl)
theorem dX7_whyNoTell_1 : decode cX7_whyNoTell 1 = .ok (.iload_n 1, 1) := dk_27 (dk_at dksX7_whyNoTell_0 1 rfl rfl)
theorem dX7_whyNoTell_2 : decode cX7_whyNoTell 2 = .ok (.invokevirtual 171, 3) := dk_182 0 171 (dk_at dksX7_whyNoTell_0 2 rfl rfl)
theorem dX7_whyNoTell_5 : decode cX7_whyNoTell 5 = .ok (.ifCond .ne 7, 3) := dk_154 0 7 (dk_at dksX7_whyNoTell_0 5 rfl rfl)
theorem dX7_whyNoTell_8 : decode cX7_whyNoTell 8 = .ok (.iconst 1, 1) := dk_4 (dk_at dksX7_whyNoTell_0 8 rfl rfl)
theorem dX7_whyNoTell_9 : decode cX7_whyNoTell 9 = .ok (.goto 18, 3) := dk_167 0 18 (dk_at dksX7_whyNoTell_0 9 rfl rfl)
theorem dX7_whyNoTell_12 : decode cX7_whyNoTell 12 = .ok (.aload_n 0, 1) := dk_42 (dk_at dksX7_whyNoTell_0 12 rfl rfl)
theorem dX7_whyNoTell_13 : decode cX7_whyNoTell 13 = .ok (.getfield 13, 3) := dk_180 0 13 (dk_at dksX7_whyNoTell_0 13 rfl rfl)
theorem dX7_whyNoTell_16 : decode cX7_whyNoTell 16 = .ok (.iload_n 2, 1) := dk_28 (dk_at dksX7_whyNoTell_0 16 rfl rfl)
theorem dX7_whyNoTell_17 : decode cX7_whyNoTell 17 = .ok (.iaload, 1) := dk_46 (dk_at dksX7_whyNoTell_0 17 rfl rfl)
theorem dX7_whyNoTell_18 : decode cX7_whyNoTell 18 = .ok (.iload_n 1, 1) := dk_27 (dk_at dksX7_whyNoTell_0 18 rfl rfl)
theorem dX7_whyNoTell_19 : decode cX7_whyNoTell 19 = .ok (.if_icmp .ne 7, 3) := dk_160 0 7 (dk_at dksX7_whyNoTell_0 19 rfl rfl)
theorem dX7_whyNoTell_22 : decode cX7_whyNoTell 22 = .ok (.iconst 4, 1) := dk_7 (dk_at dksX7_whyNoTell_0 22 rfl rfl)
theorem dX7_whyNoTell_23 : decode cX7_whyNoTell 23 = .ok (.goto 4, 3) := dk_167 0 4 (dk_at dksX7_whyNoTell_1 0 rfl rfl)
theorem dX7_whyNoTell_26 : decode cX7_whyNoTell 26 = .ok (.iconst 0, 1) := dk_3 (dk_at dksX7_whyNoTell_1 3 rfl rfl)
theorem dX7_whyNoTell_27 : decode cX7_whyNoTell 27 = .ok (.ireturn, 1) := dk_172 (dk_at dksX7_whyNoTell_1 4 rfl rfl)
abbrev cX7_isNode : ByteArray := prog_11_method_15_code
def yX7_isNode : MethodName := ⟨RX7, "isNode", "(I)Z"⟩
def dkwX7_isNode_0 : List UInt8 := [27, 3, 42, 182, 0, 80, 4, 100, 184, 0, 84, 172]
abbrev dktX7_isNode_0 : List UInt8 := dkwX7_isNode_0 ++ []
theorem dksX7_isNode_0 : cX7_isNode.data.toList.drop 0 = dktX7_isNode_0 := by decide +kernel
theorem dX7_isNode_0 : decode cX7_isNode 0 = .ok (.iload_n 1, 1) := dk_27 (dk_at dksX7_isNode_0 0 rfl rfl)
theorem dX7_isNode_1 : decode cX7_isNode 1 = .ok (.iconst 0, 1) := dk_3 (dk_at dksX7_isNode_0 1 rfl rfl)
theorem dX7_isNode_2 : decode cX7_isNode 2 = .ok (.aload_n 0, 1) := dk_42 (dk_at dksX7_isNode_0 2 rfl rfl)
theorem dX7_isNode_3 : decode cX7_isNode 3 = .ok (.invokevirtual 80, 3) := dk_182 0 80 (dk_at dksX7_isNode_0 3 rfl rfl)
theorem dX7_isNode_6 : decode cX7_isNode 6 = .ok (.iconst 1, 1) := dk_4 (dk_at dksX7_isNode_0 6 rfl rfl)
theorem dX7_isNode_7 : decode cX7_isNode 7 = .ok (.isub, 1) := dk_100 (dk_at dksX7_isNode_0 7 rfl rfl)
theorem dX7_isNode_8 : decode cX7_isNode 8 = .ok (.invokestatic 84, 3) := dk_184 0 84 (dk_at dksX7_isNode_0 8 rfl rfl)
theorem dX7_isNode_11 : decode cX7_isNode 11 = .ok (.ireturn, 1) := dk_172 (dk_at dksX7_isNode_0 11 rfl rfl)
abbrev cX7_nodes : ByteArray := prog_11_method_9_code
def yX7_nodes : MethodName := ⟨RX7, "nodes", "()I"⟩
def dkwX7_nodes_0 : List UInt8 := [42, 180, 0, 13, 3, 46, 172]
abbrev dktX7_nodes_0 : List UInt8 := dkwX7_nodes_0 ++ []
theorem dksX7_nodes_0 : cX7_nodes.data.toList.drop 0 = dktX7_nodes_0 := by decide +kernel
theorem dX7_nodes_0 : decode cX7_nodes 0 = .ok (.aload_n 0, 1) := dk_42 (dk_at dksX7_nodes_0 0 rfl rfl)
theorem dX7_nodes_1 : decode cX7_nodes 1 = .ok (.getfield 13, 3) := dk_180 0 13 (dk_at dksX7_nodes_0 1 rfl rfl)
theorem dX7_nodes_4 : decode cX7_nodes 4 = .ok (.iconst 0, 1) := dk_3 (dk_at dksX7_nodes_0 4 rfl rfl)
theorem dX7_nodes_5 : decode cX7_nodes 5 = .ok (.iaload, 1) := dk_46 (dk_at dksX7_nodes_0 5 rfl rfl)
theorem dX7_nodes_6 : decode cX7_nodes 6 = .ok (.ireturn, 1) := dk_172 (dk_at dksX7_nodes_0 6 rfl rfl)
abbrev cX7_isRefused : ByteArray := prog_11_method_27_code
def yX7_isRefused : MethodName := ⟨RX7, "isRefused", "(II)Z"⟩
def dkwX7_isRefused_1 : List UInt8 := [42, 182, 0, 161, 3, 172]
abbrev dktX7_isRefused_1 : List UInt8 := dkwX7_isRefused_1 ++ []
def dkwX7_isRefused_0 : List UInt8 := [42, 27, 181, 0, 154, 42, 27, 158, 0, 7, 4, 167, 0, 4, 3, 28, 182, 0, 157, 153, 0, 5, 4, 172]
abbrev dktX7_isRefused_0 : List UInt8 := dkwX7_isRefused_0 ++ dktX7_isRefused_1
theorem dksX7_isRefused_0 : cX7_isRefused.data.toList.drop 0 = dktX7_isRefused_0 := by decide +kernel
theorem dksX7_isRefused_1 : cX7_isRefused.data.toList.drop 24 = dktX7_isRefused_1 := dk_seg dksX7_isRefused_0 24 rfl rfl
theorem dX7_isRefused_0 : decode cX7_isRefused 0 = .ok (.aload_n 0, 1) := dk_42 (dk_at dksX7_isRefused_0 0 rfl rfl)
theorem dX7_isRefused_1 : decode cX7_isRefused 1 = .ok (.iload_n 1, 1) := dk_27 (dk_at dksX7_isRefused_0 1 rfl rfl)
theorem dX7_isRefused_2 : decode cX7_isRefused 2 = .ok (.putfield 154, 3) := dk_181 0 154 (dk_at dksX7_isRefused_0 2 rfl rfl)
theorem dX7_isRefused_5 : decode cX7_isRefused 5 = .ok (.aload_n 0, 1) := dk_42 (dk_at dksX7_isRefused_0 5 rfl rfl)
theorem dX7_isRefused_6 : decode cX7_isRefused 6 = .ok (.iload_n 1, 1) := dk_27 (dk_at dksX7_isRefused_0 6 rfl rfl)
theorem dX7_isRefused_7 : decode cX7_isRefused 7 = .ok (.ifCond .le 7, 3) := dk_158 0 7 (dk_at dksX7_isRefused_0 7 rfl rfl)
theorem dX7_isRefused_10 : decode cX7_isRefused 10 = .ok (.iconst 1, 1) := dk_4 (dk_at dksX7_isRefused_0 10 rfl rfl)
theorem dX7_isRefused_11 : decode cX7_isRefused 11 = .ok (.goto 4, 3) := dk_167 0 4 (dk_at dksX7_isRefused_0 11 rfl rfl)
theorem dX7_isRefused_14 : decode cX7_isRefused 14 = .ok (.iconst 0, 1) := dk_3 (dk_at dksX7_isRefused_0 14 rfl rfl)
theorem dX7_isRefused_15 : decode cX7_isRefused 15 = .ok (.iload_n 2, 1) := dk_28 (dk_at dksX7_isRefused_0 15 rfl rfl)
theorem dX7_isRefused_16 : decode cX7_isRefused 16 = .ok (.invokevirtual 157, 3) := dk_182 0 157 (dk_at dksX7_isRefused_0 16 rfl rfl)
theorem dX7_isRefused_19 : decode cX7_isRefused 19 = .ok (.ifCond .eq 5, 3) := dk_153 0 5 (dk_at dksX7_isRefused_0 19 rfl rfl)
theorem dX7_isRefused_22 : decode cX7_isRefused 22 = .ok (.iconst 1, 1) := dk_4 (dk_at dksX7_isRefused_0 22 rfl rfl)
theorem dX7_isRefused_23 : decode cX7_isRefused 23 = .ok (.ireturn, 1) := dk_172 (dk_at dksX7_isRefused_0 23 rfl rfl)
theorem dX7_isRefused_24 : decode cX7_isRefused 24 = .ok (.aload_n 0, 1) := dk_42 (dk_at dksX7_isRefused_1 0 rfl rfl)
theorem dX7_isRefused_25 : decode cX7_isRefused 25 = .ok (.invokevirtual 161, 3) := dk_182 0 161 (dk_at dksX7_isRefused_1 1 rfl rfl)
theorem dX7_isRefused_28 : decode cX7_isRefused 28 = .ok (.iconst 0, 1) := dk_3 (dk_at dksX7_isRefused_1 4 rfl rfl)
theorem dX7_isRefused_29 : decode cX7_isRefused 29 = .ok (.ireturn, 1) := dk_172 (dk_at dksX7_isRefused_1 5 rfl rfl)
abbrev cX7_remembers : ByteArray := prog_11_method_26_code
def yX7_remembers : MethodName := ⟨RX7, "remembers", "()V"⟩
def dkwX7_remembers_3 : List UInt8 := [104, 184, 0, 147, 42, 89, 180, 0, 144, 4, 96, 181, 0, 144, 42, 182, 0, 151, 177]
abbrev dktX7_remembers_3 : List UInt8 := dkwX7_remembers_3 ++ []
def dkwX7_remembers_2 : List UInt8 := [180, 0, 144, 4, 100, 181, 0, 144, 42, 180, 0, 13, 3, 42, 180, 0, 23, 17, 0, 200, 42, 180, 0, 144]
abbrev dktX7_remembers_2 : List UInt8 := dkwX7_remembers_2 ++ dktX7_remembers_3
def dkwX7_remembers_1 : List UInt8 := [27, 104, 42, 180, 0, 23, 17, 0, 200, 27, 4, 100, 104, 184, 0, 147, 132, 1, 1, 167, 255, 224, 42, 89]
abbrev dktX7_remembers_1 : List UInt8 := dkwX7_remembers_1 ++ dktX7_remembers_2
def dkwX7_remembers_0 : List UInt8 := [42, 180, 0, 144, 16, 8, 160, 0, 50, 4, 60, 27, 16, 8, 162, 0, 32, 42, 180, 0, 23, 17, 0, 200]
abbrev dktX7_remembers_0 : List UInt8 := dkwX7_remembers_0 ++ dktX7_remembers_1
theorem dksX7_remembers_0 : cX7_remembers.data.toList.drop 0 = dktX7_remembers_0 := by decide +kernel
theorem dksX7_remembers_1 : cX7_remembers.data.toList.drop 24 = dktX7_remembers_1 := dk_seg dksX7_remembers_0 24 rfl rfl
theorem dksX7_remembers_2 : cX7_remembers.data.toList.drop 48 = dktX7_remembers_2 := dk_seg dksX7_remembers_1 24 rfl rfl
theorem dksX7_remembers_3 : cX7_remembers.data.toList.drop 72 = dktX7_remembers_3 := dk_seg dksX7_remembers_2 24 rfl rfl
theorem dX7_remembers_0 : decode cX7_remembers 0 = .ok (.aload_n 0, 1) := dk_42 (dk_at dksX7_remembers_0 0 rfl rfl)
theorem dX7_remembers_1 : decode cX7_remembers 1 = .ok (.getfield 144, 3) := dk_180 0 144 (dk_at dksX7_remembers_0 1 rfl rfl)
theorem dX7_remembers_4 : decode cX7_remembers 4 = .ok (.bipush 8, 2) := dk_16 8 (dk_at dksX7_remembers_0 4 rfl rfl)
theorem dX7_remembers_6 : decode cX7_remembers 6 = .ok (.if_icmp .ne 50, 3) := dk_160 0 50 (dk_at dksX7_remembers_0 6 rfl rfl)
theorem dX7_remembers_9 : decode cX7_remembers 9 = .ok (.iconst 1, 1) := dk_4 (dk_at dksX7_remembers_0 9 rfl rfl)
theorem dX7_remembers_10 : decode cX7_remembers 10 = .ok (.istore_n 1, 1) := dk_60 (dk_at dksX7_remembers_0 10 rfl rfl)
theorem dX7_remembers_11 : decode cX7_remembers 11 = .ok (.iload_n 1, 1) := dk_27 (dk_at dksX7_remembers_0 11 rfl rfl)
theorem dX7_remembers_12 : decode cX7_remembers 12 = .ok (.bipush 8, 2) := dk_16 8 (dk_at dksX7_remembers_0 12 rfl rfl)
theorem dX7_remembers_14 : decode cX7_remembers 14 = .ok (.if_icmp .ge 32, 3) := dk_162 0 32 (dk_at dksX7_remembers_0 14 rfl rfl)
theorem dX7_remembers_17 : decode cX7_remembers 17 = .ok (.aload_n 0, 1) := dk_42 (dk_at dksX7_remembers_0 17 rfl rfl)
theorem dX7_remembers_18 : decode cX7_remembers 18 = .ok (.getfield 23, 3) := dk_180 0 23 (dk_at dksX7_remembers_0 18 rfl rfl)
theorem dX7_remembers_21 : decode cX7_remembers 21 = .ok (.sipush 200, 3) := dk_17 0 200 (dk_at dksX7_remembers_0 21 rfl rfl)
theorem dX7_remembers_24 : decode cX7_remembers 24 = .ok (.iload_n 1, 1) := dk_27 (dk_at dksX7_remembers_1 0 rfl rfl)
theorem dX7_remembers_25 : decode cX7_remembers 25 = .ok (.imul, 1) := dk_104 (dk_at dksX7_remembers_1 1 rfl rfl)
theorem dX7_remembers_26 : decode cX7_remembers 26 = .ok (.aload_n 0, 1) := dk_42 (dk_at dksX7_remembers_1 2 rfl rfl)
theorem dX7_remembers_27 : decode cX7_remembers 27 = .ok (.getfield 23, 3) := dk_180 0 23 (dk_at dksX7_remembers_1 3 rfl rfl)
theorem dX7_remembers_30 : decode cX7_remembers 30 = .ok (.sipush 200, 3) := dk_17 0 200 (dk_at dksX7_remembers_1 6 rfl rfl)
theorem dX7_remembers_33 : decode cX7_remembers 33 = .ok (.iload_n 1, 1) := dk_27 (dk_at dksX7_remembers_1 9 rfl rfl)
theorem dX7_remembers_34 : decode cX7_remembers 34 = .ok (.iconst 1, 1) := dk_4 (dk_at dksX7_remembers_1 10 rfl rfl)
theorem dX7_remembers_35 : decode cX7_remembers 35 = .ok (.isub, 1) := dk_100 (dk_at dksX7_remembers_1 11 rfl rfl)
theorem dX7_remembers_36 : decode cX7_remembers 36 = .ok (.imul, 1) := dk_104 (dk_at dksX7_remembers_1 12 rfl rfl)
theorem dX7_remembers_37 : decode cX7_remembers 37 = .ok (.invokestatic 147, 3) := dk_184 0 147 (dk_at dksX7_remembers_1 13 rfl rfl)
theorem dX7_remembers_40 : decode cX7_remembers 40 = .ok (.iinc 1 1, 3) := dk_132 1 1 (dk_at dksX7_remembers_1 16 rfl rfl)
theorem dX7_remembers_43 : decode cX7_remembers 43 = .ok (.goto (-32), 3) := dk_167 255 224 (dk_at dksX7_remembers_1 19 rfl rfl)
theorem dX7_remembers_46 : decode cX7_remembers 46 = .ok (.aload_n 0, 1) := dk_42 (dk_at dksX7_remembers_1 22 rfl rfl)
theorem dX7_remembers_47 : decode cX7_remembers 47 = .ok (.dup, 1) := dk_89 (dk_at dksX7_remembers_1 23 rfl rfl)
theorem dX7_remembers_48 : decode cX7_remembers 48 = .ok (.getfield 144, 3) := dk_180 0 144 (dk_at dksX7_remembers_2 0 rfl rfl)
theorem dX7_remembers_51 : decode cX7_remembers 51 = .ok (.iconst 1, 1) := dk_4 (dk_at dksX7_remembers_2 3 rfl rfl)
theorem dX7_remembers_52 : decode cX7_remembers 52 = .ok (.isub, 1) := dk_100 (dk_at dksX7_remembers_2 4 rfl rfl)
theorem dX7_remembers_53 : decode cX7_remembers 53 = .ok (.putfield 144, 3) := dk_181 0 144 (dk_at dksX7_remembers_2 5 rfl rfl)
theorem dX7_remembers_56 : decode cX7_remembers 56 = .ok (.aload_n 0, 1) := dk_42 (dk_at dksX7_remembers_2 8 rfl rfl)
theorem dX7_remembers_57 : decode cX7_remembers 57 = .ok (.getfield 13, 3) := dk_180 0 13 (dk_at dksX7_remembers_2 9 rfl rfl)
theorem dX7_remembers_60 : decode cX7_remembers 60 = .ok (.iconst 0, 1) := dk_3 (dk_at dksX7_remembers_2 12 rfl rfl)
theorem dX7_remembers_61 : decode cX7_remembers 61 = .ok (.aload_n 0, 1) := dk_42 (dk_at dksX7_remembers_2 13 rfl rfl)
theorem dX7_remembers_62 : decode cX7_remembers 62 = .ok (.getfield 23, 3) := dk_180 0 23 (dk_at dksX7_remembers_2 14 rfl rfl)
theorem dX7_remembers_65 : decode cX7_remembers 65 = .ok (.sipush 200, 3) := dk_17 0 200 (dk_at dksX7_remembers_2 17 rfl rfl)
theorem dX7_remembers_68 : decode cX7_remembers 68 = .ok (.aload_n 0, 1) := dk_42 (dk_at dksX7_remembers_2 20 rfl rfl)
theorem dX7_remembers_69 : decode cX7_remembers 69 = .ok (.getfield 144, 3) := dk_180 0 144 (dk_at dksX7_remembers_2 21 rfl rfl)
theorem dX7_remembers_72 : decode cX7_remembers 72 = .ok (.imul, 1) := dk_104 (dk_at dksX7_remembers_3 0 rfl rfl)
theorem dX7_remembers_73 : decode cX7_remembers 73 = .ok (.invokestatic 147, 3) := dk_184 0 147 (dk_at dksX7_remembers_3 1 rfl rfl)
theorem dX7_remembers_76 : decode cX7_remembers 76 = .ok (.aload_n 0, 1) := dk_42 (dk_at dksX7_remembers_3 4 rfl rfl)
theorem dX7_remembers_77 : decode cX7_remembers 77 = .ok (.dup, 1) := dk_89 (dk_at dksX7_remembers_3 5 rfl rfl)
theorem dX7_remembers_78 : decode cX7_remembers 78 = .ok (.getfield 144, 3) := dk_180 0 144 (dk_at dksX7_remembers_3 6 rfl rfl)
theorem dX7_remembers_81 : decode cX7_remembers 81 = .ok (.iconst 1, 1) := dk_4 (dk_at dksX7_remembers_3 9 rfl rfl)
theorem dX7_remembers_82 : decode cX7_remembers 82 = .ok (.iadd, 1) := dk_96 (dk_at dksX7_remembers_3 10 rfl rfl)
theorem dX7_remembers_83 : decode cX7_remembers 83 = .ok (.putfield 144, 3) := dk_181 0 144 (dk_at dksX7_remembers_3 11 rfl rfl)
theorem dX7_remembers_86 : decode cX7_remembers 86 = .ok (.aload_n 0, 1) := dk_42 (dk_at dksX7_remembers_3 14 rfl rfl)
theorem dX7_remembers_87 : decode cX7_remembers 87 = .ok (.invokevirtual 151, 3) := dk_182 0 151 (dk_at dksX7_remembers_3 15 rfl rfl)
theorem dX7_remembers_90 : decode cX7_remembers 90 = .ok (.return_, 1) := dk_177 (dk_at dksX7_remembers_3 18 rfl rfl)
abbrev cX7_notes : ByteArray := prog_11_method_23_code
def yX7_notes : MethodName := ⟨RX7, "notes", "()V"⟩
def dkwX7_notes_2 : List UInt8 := [167, 255, 223, 177]
abbrev dktX7_notes_2 : List UInt8 := dkwX7_notes_2 ++ []
def dkwX7_notes_1 : List UInt8 := [27, 42, 180, 0, 35, 27, 46, 79, 42, 180, 0, 44, 27, 42, 180, 0, 38, 27, 46, 79, 132, 1, 1]
abbrev dktX7_notes_1 : List UInt8 := dkwX7_notes_1 ++ dktX7_notes_2
def dkwX7_notes_0 : List UInt8 := [42, 182, 0, 126, 42, 42, 180, 0, 120, 181, 0, 129, 3, 60, 27, 16, 16, 162, 0, 33, 42, 180, 0, 41]
abbrev dktX7_notes_0 : List UInt8 := dkwX7_notes_0 ++ dktX7_notes_1
theorem dksX7_notes_0 : cX7_notes.data.toList.drop 0 = dktX7_notes_0 := by decide +kernel
theorem dksX7_notes_1 : cX7_notes.data.toList.drop 24 = dktX7_notes_1 := dk_seg dksX7_notes_0 24 rfl rfl
theorem dksX7_notes_2 : cX7_notes.data.toList.drop 47 = dktX7_notes_2 := dk_seg dksX7_notes_1 23 rfl rfl
theorem dX7_notes_0 : decode cX7_notes 0 = .ok (.aload_n 0, 1) := dk_42 (dk_at dksX7_notes_0 0 rfl rfl)
theorem dX7_notes_1 : decode cX7_notes 1 = .ok (.invokevirtual 126, 3) := dk_182 0 126 (dk_at dksX7_notes_0 1 rfl rfl)
theorem dX7_notes_4 : decode cX7_notes 4 = .ok (.aload_n 0, 1) := dk_42 (dk_at dksX7_notes_0 4 rfl rfl)
theorem dX7_notes_5 : decode cX7_notes 5 = .ok (.aload_n 0, 1) := dk_42 (dk_at dksX7_notes_0 5 rfl rfl)
theorem dX7_notes_6 : decode cX7_notes 6 = .ok (.getfield 120, 3) := dk_180 0 120 (dk_at dksX7_notes_0 6 rfl rfl)
theorem dX7_notes_9 : decode cX7_notes 9 = .ok (.putfield 129, 3) := dk_181 0 129 (dk_at dksX7_notes_0 9 rfl rfl)
theorem dX7_notes_12 : decode cX7_notes 12 = .ok (.iconst 0, 1) := dk_3 (dk_at dksX7_notes_0 12 rfl rfl)
theorem dX7_notes_13 : decode cX7_notes 13 = .ok (.istore_n 1, 1) := dk_60 (dk_at dksX7_notes_0 13 rfl rfl)
theorem dX7_notes_14 : decode cX7_notes 14 = .ok (.iload_n 1, 1) := dk_27 (dk_at dksX7_notes_0 14 rfl rfl)
theorem dX7_notes_15 : decode cX7_notes 15 = .ok (.bipush 16, 2) := dk_16 16 (dk_at dksX7_notes_0 15 rfl rfl)
theorem dX7_notes_17 : decode cX7_notes 17 = .ok (.if_icmp .ge 33, 3) := dk_162 0 33 (dk_at dksX7_notes_0 17 rfl rfl)
theorem dX7_notes_20 : decode cX7_notes 20 = .ok (.aload_n 0, 1) := dk_42 (dk_at dksX7_notes_0 20 rfl rfl)
theorem dX7_notes_21 : decode cX7_notes 21 = .ok (.getfield 41, 3) := dk_180 0 41 (dk_at dksX7_notes_0 21 rfl rfl)
theorem dX7_notes_24 : decode cX7_notes 24 = .ok (.iload_n 1, 1) := dk_27 (dk_at dksX7_notes_1 0 rfl rfl)
theorem dX7_notes_25 : decode cX7_notes 25 = .ok (.aload_n 0, 1) := dk_42 (dk_at dksX7_notes_1 1 rfl rfl)
theorem dX7_notes_26 : decode cX7_notes 26 = .ok (.getfield 35, 3) := dk_180 0 35 (dk_at dksX7_notes_1 2 rfl rfl)
theorem dX7_notes_29 : decode cX7_notes 29 = .ok (.iload_n 1, 1) := dk_27 (dk_at dksX7_notes_1 5 rfl rfl)
theorem dX7_notes_30 : decode cX7_notes 30 = .ok (.iaload, 1) := dk_46 (dk_at dksX7_notes_1 6 rfl rfl)
theorem dX7_notes_31 : decode cX7_notes 31 = .ok (.iastore, 1) := dk_79 (dk_at dksX7_notes_1 7 rfl rfl)
theorem dX7_notes_32 : decode cX7_notes 32 = .ok (.aload_n 0, 1) := dk_42 (dk_at dksX7_notes_1 8 rfl rfl)
theorem dX7_notes_33 : decode cX7_notes 33 = .ok (.getfield 44, 3) := dk_180 0 44 (dk_at dksX7_notes_1 9 rfl rfl)
theorem dX7_notes_36 : decode cX7_notes 36 = .ok (.iload_n 1, 1) := dk_27 (dk_at dksX7_notes_1 12 rfl rfl)
theorem dX7_notes_37 : decode cX7_notes 37 = .ok (.aload_n 0, 1) := dk_42 (dk_at dksX7_notes_1 13 rfl rfl)
theorem dX7_notes_38 : decode cX7_notes 38 = .ok (.getfield 38, 3) := dk_180 0 38 (dk_at dksX7_notes_1 14 rfl rfl)
theorem dX7_notes_41 : decode cX7_notes 41 = .ok (.iload_n 1, 1) := dk_27 (dk_at dksX7_notes_1 17 rfl rfl)
theorem dX7_notes_42 : decode cX7_notes 42 = .ok (.iaload, 1) := dk_46 (dk_at dksX7_notes_1 18 rfl rfl)
theorem dX7_notes_43 : decode cX7_notes 43 = .ok (.iastore, 1) := dk_79 (dk_at dksX7_notes_1 19 rfl rfl)
theorem dX7_notes_44 : decode cX7_notes 44 = .ok (.iinc 1 1, 3) := dk_132 1 1 (dk_at dksX7_notes_1 20 rfl rfl)
theorem dX7_notes_47 : decode cX7_notes 47 = .ok (.goto (-33), 3) := dk_167 255 223 (dk_at dksX7_notes_2 0 rfl rfl)
theorem dX7_notes_50 : decode cX7_notes 50 = .ok (.return_, 1) := dk_177 (dk_at dksX7_notes_2 3 rfl rfl)
abbrev cX7_laysGates : ByteArray := prog_11_method_20_code
def yX7_laysGates : MethodName := ⟨RX7, "laysGates", "()V"⟩
def dkwX7_laysGates_9 : List UInt8 := [132, 2, 1, 167, 255, 208, 132, 1, 1, 167, 255, 192, 177]
abbrev dktX7_laysGates_9 : List UInt8 := dkwX7_laysGates_9 ++ []
def dkwX7_laysGates_8 : List UInt8 := [180, 0, 35, 28, 46, 42, 180, 0, 35, 27, 46, 4, 100, 160, 0, 10, 42, 180, 0, 38, 27, 28, 79]
abbrev dktX7_laysGates_8 : List UInt8 := dkwX7_laysGates_8 ++ dktX7_laysGates_9
def dkwX7_laysGates_7 : List UInt8 := [61, 28, 42, 182, 0, 80, 162, 0, 46, 42, 180, 0, 32, 27, 46, 28, 184, 0, 99, 153, 0, 27, 42]
abbrev dktX7_laysGates_7 : List UInt8 := dkwX7_laysGates_7 ++ dktX7_laysGates_8
def dkwX7_laysGates_6 : List UInt8 := [42, 180, 0, 38, 27, 2, 79, 132, 1, 1, 167, 255, 210, 3, 60, 27, 42, 182, 0, 80, 162, 0, 62, 3]
abbrev dktX7_laysGates_6 : List UInt8 := dkwX7_laysGates_6 ++ dktX7_laysGates_7
def dkwX7_laysGates_5 : List UInt8 := [180, 0, 120, 27, 184, 0, 99, 153, 0, 15, 42, 180, 0, 32, 27, 46, 184, 0, 123, 167, 0, 4, 2, 79]
abbrev dktX7_laysGates_5 : List UInt8 := dkwX7_laysGates_5 ++ dktX7_laysGates_6
def dkwX7_laysGates_4 : List UInt8 := [167, 255, 220, 132, 1, 1, 167, 255, 188, 3, 60, 27, 16, 16, 162, 0, 46, 42, 180, 0, 35, 27, 42]
abbrev dktX7_laysGates_4 : List UInt8 := dkwX7_laysGates_4 ++ dktX7_laysGates_5
def dkwX7_laysGates_3 : List UInt8 := [28, 29, 184, 0, 99, 153, 0, 15, 42, 180, 0, 32, 29, 92, 46, 4, 27, 120, 128, 79, 132, 3, 1]
abbrev dktX7_laysGates_3 : List UInt8 := dkwX7_laysGates_3 ++ dktX7_laysGates_4
def dkwX7_laysGates_2 : List UInt8 := [120, 2, 182, 0, 116, 2, 130, 126, 61, 3, 62, 29, 42, 182, 0, 80, 162, 0, 34, 29, 27, 159, 0, 23]
abbrev dktX7_laysGates_2 : List UInt8 := dkwX7_laysGates_2 ++ dktX7_laysGates_3
def dkwX7_laysGates_1 : List UInt8 := [79, 132, 1, 1, 167, 255, 240, 3, 60, 27, 42, 182, 0, 80, 162, 0, 66, 42, 180, 0, 120, 42, 4, 27]
abbrev dktX7_laysGates_1 : List UInt8 := dkwX7_laysGates_1 ++ dktX7_laysGates_2
def dkwX7_laysGates_0 : List UInt8 := [42, 42, 3, 2, 182, 0, 116, 181, 0, 120, 3, 60, 27, 16, 16, 162, 0, 16, 42, 180, 0, 32, 27, 3]
abbrev dktX7_laysGates_0 : List UInt8 := dkwX7_laysGates_0 ++ dktX7_laysGates_1
theorem dksX7_laysGates_0 : cX7_laysGates.data.toList.drop 0 = dktX7_laysGates_0 := by decide +kernel
theorem dksX7_laysGates_1 : cX7_laysGates.data.toList.drop 24 = dktX7_laysGates_1 := dk_seg dksX7_laysGates_0 24 rfl rfl
theorem dksX7_laysGates_2 : cX7_laysGates.data.toList.drop 48 = dktX7_laysGates_2 := dk_seg dksX7_laysGates_1 24 rfl rfl
theorem dksX7_laysGates_3 : cX7_laysGates.data.toList.drop 72 = dktX7_laysGates_3 := dk_seg dksX7_laysGates_2 24 rfl rfl
theorem dksX7_laysGates_4 : cX7_laysGates.data.toList.drop 95 = dktX7_laysGates_4 := dk_seg dksX7_laysGates_3 23 rfl rfl
theorem dksX7_laysGates_5 : cX7_laysGates.data.toList.drop 118 = dktX7_laysGates_5 := dk_seg dksX7_laysGates_4 23 rfl rfl
theorem dksX7_laysGates_6 : cX7_laysGates.data.toList.drop 142 = dktX7_laysGates_6 := dk_seg dksX7_laysGates_5 24 rfl rfl
theorem dksX7_laysGates_7 : cX7_laysGates.data.toList.drop 166 = dktX7_laysGates_7 := dk_seg dksX7_laysGates_6 24 rfl rfl
theorem dksX7_laysGates_8 : cX7_laysGates.data.toList.drop 189 = dktX7_laysGates_8 := dk_seg dksX7_laysGates_7 23 rfl rfl
theorem dksX7_laysGates_9 : cX7_laysGates.data.toList.drop 212 = dktX7_laysGates_9 := dk_seg dksX7_laysGates_8 23 rfl rfl
theorem dX7_laysGates_0 : decode cX7_laysGates 0 = .ok (.aload_n 0, 1) := dk_42 (dk_at dksX7_laysGates_0 0 rfl rfl)
theorem dX7_laysGates_1 : decode cX7_laysGates 1 = .ok (.aload_n 0, 1) := dk_42 (dk_at dksX7_laysGates_0 1 rfl rfl)
theorem dX7_laysGates_2 : decode cX7_laysGates 2 = .ok (.iconst 0, 1) := dk_3 (dk_at dksX7_laysGates_0 2 rfl rfl)
theorem dX7_laysGates_3 : decode cX7_laysGates 3 = .ok (.iconst (-1), 1) := dk_2 (dk_at dksX7_laysGates_0 3 rfl rfl)
theorem dX7_laysGates_4 : decode cX7_laysGates 4 = .ok (.invokevirtual 116, 3) := dk_182 0 116 (dk_at dksX7_laysGates_0 4 rfl rfl)
theorem dX7_laysGates_7 : decode cX7_laysGates 7 = .ok (.putfield 120, 3) := dk_181 0 120 (dk_at dksX7_laysGates_0 7 rfl rfl)
theorem dX7_laysGates_10 : decode cX7_laysGates 10 = .ok (.iconst 0, 1) := dk_3 (dk_at dksX7_laysGates_0 10 rfl rfl)
theorem dX7_laysGates_11 : decode cX7_laysGates 11 = .ok (.istore_n 1, 1) := dk_60 (dk_at dksX7_laysGates_0 11 rfl rfl)
theorem dX7_laysGates_12 : decode cX7_laysGates 12 = .ok (.iload_n 1, 1) := dk_27 (dk_at dksX7_laysGates_0 12 rfl rfl)
theorem dX7_laysGates_13 : decode cX7_laysGates 13 = .ok (.bipush 16, 2) := dk_16 16 (dk_at dksX7_laysGates_0 13 rfl rfl)
theorem dX7_laysGates_15 : decode cX7_laysGates 15 = .ok (.if_icmp .ge 16, 3) := dk_162 0 16 (dk_at dksX7_laysGates_0 15 rfl rfl)
theorem dX7_laysGates_18 : decode cX7_laysGates 18 = .ok (.aload_n 0, 1) := dk_42 (dk_at dksX7_laysGates_0 18 rfl rfl)
theorem dX7_laysGates_19 : decode cX7_laysGates 19 = .ok (.getfield 32, 3) := dk_180 0 32 (dk_at dksX7_laysGates_0 19 rfl rfl)
theorem dX7_laysGates_22 : decode cX7_laysGates 22 = .ok (.iload_n 1, 1) := dk_27 (dk_at dksX7_laysGates_0 22 rfl rfl)
theorem dX7_laysGates_23 : decode cX7_laysGates 23 = .ok (.iconst 0, 1) := dk_3 (dk_at dksX7_laysGates_0 23 rfl rfl)
theorem dX7_laysGates_24 : decode cX7_laysGates 24 = .ok (.iastore, 1) := dk_79 (dk_at dksX7_laysGates_1 0 rfl rfl)
theorem dX7_laysGates_25 : decode cX7_laysGates 25 = .ok (.iinc 1 1, 3) := dk_132 1 1 (dk_at dksX7_laysGates_1 1 rfl rfl)
theorem dX7_laysGates_28 : decode cX7_laysGates 28 = .ok (.goto (-16), 3) := dk_167 255 240 (dk_at dksX7_laysGates_1 4 rfl rfl)
theorem dX7_laysGates_31 : decode cX7_laysGates 31 = .ok (.iconst 0, 1) := dk_3 (dk_at dksX7_laysGates_1 7 rfl rfl)
theorem dX7_laysGates_32 : decode cX7_laysGates 32 = .ok (.istore_n 1, 1) := dk_60 (dk_at dksX7_laysGates_1 8 rfl rfl)
theorem dX7_laysGates_33 : decode cX7_laysGates 33 = .ok (.iload_n 1, 1) := dk_27 (dk_at dksX7_laysGates_1 9 rfl rfl)
theorem dX7_laysGates_34 : decode cX7_laysGates 34 = .ok (.aload_n 0, 1) := dk_42 (dk_at dksX7_laysGates_1 10 rfl rfl)
theorem dX7_laysGates_35 : decode cX7_laysGates 35 = .ok (.invokevirtual 80, 3) := dk_182 0 80 (dk_at dksX7_laysGates_1 11 rfl rfl)
theorem dX7_laysGates_38 : decode cX7_laysGates 38 = .ok (.if_icmp .ge 66, 3) := dk_162 0 66 (dk_at dksX7_laysGates_1 14 rfl rfl)
theorem dX7_laysGates_41 : decode cX7_laysGates 41 = .ok (.aload_n 0, 1) := dk_42 (dk_at dksX7_laysGates_1 17 rfl rfl)
theorem dX7_laysGates_42 : decode cX7_laysGates 42 = .ok (.getfield 120, 3) := dk_180 0 120 (dk_at dksX7_laysGates_1 18 rfl rfl)
theorem dX7_laysGates_45 : decode cX7_laysGates 45 = .ok (.aload_n 0, 1) := dk_42 (dk_at dksX7_laysGates_1 21 rfl rfl)
theorem dX7_laysGates_46 : decode cX7_laysGates 46 = .ok (.iconst 1, 1) := dk_4 (dk_at dksX7_laysGates_1 22 rfl rfl)
theorem dX7_laysGates_47 : decode cX7_laysGates 47 = .ok (.iload_n 1, 1) := dk_27 (dk_at dksX7_laysGates_1 23 rfl rfl)
theorem dX7_laysGates_48 : decode cX7_laysGates 48 = .ok (.ishl, 1) := dk_120 (dk_at dksX7_laysGates_2 0 rfl rfl)
theorem dX7_laysGates_49 : decode cX7_laysGates 49 = .ok (.iconst (-1), 1) := dk_2 (dk_at dksX7_laysGates_2 1 rfl rfl)
theorem dX7_laysGates_50 : decode cX7_laysGates 50 = .ok (.invokevirtual 116, 3) := dk_182 0 116 (dk_at dksX7_laysGates_2 2 rfl rfl)
theorem dX7_laysGates_53 : decode cX7_laysGates 53 = .ok (.iconst (-1), 1) := dk_2 (dk_at dksX7_laysGates_2 5 rfl rfl)
theorem dX7_laysGates_54 : decode cX7_laysGates 54 = .ok (.ixor, 1) := dk_130 (dk_at dksX7_laysGates_2 6 rfl rfl)
theorem dX7_laysGates_55 : decode cX7_laysGates 55 = .ok (.iand, 1) := dk_126 (dk_at dksX7_laysGates_2 7 rfl rfl)
theorem dX7_laysGates_56 : decode cX7_laysGates 56 = .ok (.istore_n 2, 1) := dk_61 (dk_at dksX7_laysGates_2 8 rfl rfl)
theorem dX7_laysGates_57 : decode cX7_laysGates 57 = .ok (.iconst 0, 1) := dk_3 (dk_at dksX7_laysGates_2 9 rfl rfl)
theorem dX7_laysGates_58 : decode cX7_laysGates 58 = .ok (.istore_n 3, 1) := dk_62 (dk_at dksX7_laysGates_2 10 rfl rfl)
theorem dX7_laysGates_59 : decode cX7_laysGates 59 = .ok (.iload_n 3, 1) := dk_29 (dk_at dksX7_laysGates_2 11 rfl rfl)
theorem dX7_laysGates_60 : decode cX7_laysGates 60 = .ok (.aload_n 0, 1) := dk_42 (dk_at dksX7_laysGates_2 12 rfl rfl)
theorem dX7_laysGates_61 : decode cX7_laysGates 61 = .ok (.invokevirtual 80, 3) := dk_182 0 80 (dk_at dksX7_laysGates_2 13 rfl rfl)
theorem dX7_laysGates_64 : decode cX7_laysGates 64 = .ok (.if_icmp .ge 34, 3) := dk_162 0 34 (dk_at dksX7_laysGates_2 16 rfl rfl)
theorem dX7_laysGates_67 : decode cX7_laysGates 67 = .ok (.iload_n 3, 1) := dk_29 (dk_at dksX7_laysGates_2 19 rfl rfl)
theorem dX7_laysGates_68 : decode cX7_laysGates 68 = .ok (.iload_n 1, 1) := dk_27 (dk_at dksX7_laysGates_2 20 rfl rfl)
theorem dX7_laysGates_69 : decode cX7_laysGates 69 = .ok (.if_icmp .eq 23, 3) := dk_159 0 23 (dk_at dksX7_laysGates_2 21 rfl rfl)
theorem dX7_laysGates_72 : decode cX7_laysGates 72 = .ok (.iload_n 2, 1) := dk_28 (dk_at dksX7_laysGates_3 0 rfl rfl)
theorem dX7_laysGates_73 : decode cX7_laysGates 73 = .ok (.iload_n 3, 1) := dk_29 (dk_at dksX7_laysGates_3 1 rfl rfl)
theorem dX7_laysGates_74 : decode cX7_laysGates 74 = .ok (.invokestatic 99, 3) := dk_184 0 99 (dk_at dksX7_laysGates_3 2 rfl rfl)
theorem dX7_laysGates_77 : decode cX7_laysGates 77 = .ok (.ifCond .eq 15, 3) := dk_153 0 15 (dk_at dksX7_laysGates_3 5 rfl rfl)
theorem dX7_laysGates_80 : decode cX7_laysGates 80 = .ok (.aload_n 0, 1) := dk_42 (dk_at dksX7_laysGates_3 8 rfl rfl)
theorem dX7_laysGates_81 : decode cX7_laysGates 81 = .ok (.getfield 32, 3) := dk_180 0 32 (dk_at dksX7_laysGates_3 9 rfl rfl)
theorem dX7_laysGates_84 : decode cX7_laysGates 84 = .ok (.iload_n 3, 1) := dk_29 (dk_at dksX7_laysGates_3 12 rfl rfl)
theorem dX7_laysGates_85 : decode cX7_laysGates 85 = .ok (.dup2, 1) := dk_92 (dk_at dksX7_laysGates_3 13 rfl rfl)
theorem dX7_laysGates_86 : decode cX7_laysGates 86 = .ok (.iaload, 1) := dk_46 (dk_at dksX7_laysGates_3 14 rfl rfl)
theorem dX7_laysGates_87 : decode cX7_laysGates 87 = .ok (.iconst 1, 1) := dk_4 (dk_at dksX7_laysGates_3 15 rfl rfl)
theorem dX7_laysGates_88 : decode cX7_laysGates 88 = .ok (.iload_n 1, 1) := dk_27 (dk_at dksX7_laysGates_3 16 rfl rfl)
theorem dX7_laysGates_89 : decode cX7_laysGates 89 = .ok (.ishl, 1) := dk_120 (dk_at dksX7_laysGates_3 17 rfl rfl)
theorem dX7_laysGates_90 : decode cX7_laysGates 90 = .ok (.ior, 1) := dk_128 (dk_at dksX7_laysGates_3 18 rfl rfl)
theorem dX7_laysGates_91 : decode cX7_laysGates 91 = .ok (.iastore, 1) := dk_79 (dk_at dksX7_laysGates_3 19 rfl rfl)
theorem dX7_laysGates_92 : decode cX7_laysGates 92 = .ok (.iinc 3 1, 3) := dk_132 3 1 (dk_at dksX7_laysGates_3 20 rfl rfl)
theorem dX7_laysGates_95 : decode cX7_laysGates 95 = .ok (.goto (-36), 3) := dk_167 255 220 (dk_at dksX7_laysGates_4 0 rfl rfl)
theorem dX7_laysGates_98 : decode cX7_laysGates 98 = .ok (.iinc 1 1, 3) := dk_132 1 1 (dk_at dksX7_laysGates_4 3 rfl rfl)
theorem dX7_laysGates_101 : decode cX7_laysGates 101 = .ok (.goto (-68), 3) := dk_167 255 188 (dk_at dksX7_laysGates_4 6 rfl rfl)
theorem dX7_laysGates_104 : decode cX7_laysGates 104 = .ok (.iconst 0, 1) := dk_3 (dk_at dksX7_laysGates_4 9 rfl rfl)
theorem dX7_laysGates_105 : decode cX7_laysGates 105 = .ok (.istore_n 1, 1) := dk_60 (dk_at dksX7_laysGates_4 10 rfl rfl)
theorem dX7_laysGates_106 : decode cX7_laysGates 106 = .ok (.iload_n 1, 1) := dk_27 (dk_at dksX7_laysGates_4 11 rfl rfl)
theorem dX7_laysGates_107 : decode cX7_laysGates 107 = .ok (.bipush 16, 2) := dk_16 16 (dk_at dksX7_laysGates_4 12 rfl rfl)
theorem dX7_laysGates_109 : decode cX7_laysGates 109 = .ok (.if_icmp .ge 46, 3) := dk_162 0 46 (dk_at dksX7_laysGates_4 14 rfl rfl)
theorem dX7_laysGates_112 : decode cX7_laysGates 112 = .ok (.aload_n 0, 1) := dk_42 (dk_at dksX7_laysGates_4 17 rfl rfl)
theorem dX7_laysGates_113 : decode cX7_laysGates 113 = .ok (.getfield 35, 3) := dk_180 0 35 (dk_at dksX7_laysGates_4 18 rfl rfl)
theorem dX7_laysGates_116 : decode cX7_laysGates 116 = .ok (.iload_n 1, 1) := dk_27 (dk_at dksX7_laysGates_4 21 rfl rfl)
theorem dX7_laysGates_117 : decode cX7_laysGates 117 = .ok (.aload_n 0, 1) := dk_42 (dk_at dksX7_laysGates_4 22 rfl rfl)
theorem dX7_laysGates_118 : decode cX7_laysGates 118 = .ok (.getfield 120, 3) := dk_180 0 120 (dk_at dksX7_laysGates_5 0 rfl rfl)
theorem dX7_laysGates_121 : decode cX7_laysGates 121 = .ok (.iload_n 1, 1) := dk_27 (dk_at dksX7_laysGates_5 3 rfl rfl)
theorem dX7_laysGates_122 : decode cX7_laysGates 122 = .ok (.invokestatic 99, 3) := dk_184 0 99 (dk_at dksX7_laysGates_5 4 rfl rfl)
theorem dX7_laysGates_125 : decode cX7_laysGates 125 = .ok (.ifCond .eq 15, 3) := dk_153 0 15 (dk_at dksX7_laysGates_5 7 rfl rfl)
theorem dX7_laysGates_128 : decode cX7_laysGates 128 = .ok (.aload_n 0, 1) := dk_42 (dk_at dksX7_laysGates_5 10 rfl rfl)
theorem dX7_laysGates_129 : decode cX7_laysGates 129 = .ok (.getfield 32, 3) := dk_180 0 32 (dk_at dksX7_laysGates_5 11 rfl rfl)
theorem dX7_laysGates_132 : decode cX7_laysGates 132 = .ok (.iload_n 1, 1) := dk_27 (dk_at dksX7_laysGates_5 14 rfl rfl)
theorem dX7_laysGates_133 : decode cX7_laysGates 133 = .ok (.iaload, 1) := dk_46 (dk_at dksX7_laysGates_5 15 rfl rfl)
theorem dX7_laysGates_134 : decode cX7_laysGates 134 = .ok (.invokestatic 123, 3) := dk_184 0 123 (dk_at dksX7_laysGates_5 16 rfl rfl)
theorem dX7_laysGates_137 : decode cX7_laysGates 137 = .ok (.goto 4, 3) := dk_167 0 4 (dk_at dksX7_laysGates_5 19 rfl rfl)
theorem dX7_laysGates_140 : decode cX7_laysGates 140 = .ok (.iconst (-1), 1) := dk_2 (dk_at dksX7_laysGates_5 22 rfl rfl)
theorem dX7_laysGates_141 : decode cX7_laysGates 141 = .ok (.iastore, 1) := dk_79 (dk_at dksX7_laysGates_5 23 rfl rfl)
theorem dX7_laysGates_142 : decode cX7_laysGates 142 = .ok (.aload_n 0, 1) := dk_42 (dk_at dksX7_laysGates_6 0 rfl rfl)
theorem dX7_laysGates_143 : decode cX7_laysGates 143 = .ok (.getfield 38, 3) := dk_180 0 38 (dk_at dksX7_laysGates_6 1 rfl rfl)
theorem dX7_laysGates_146 : decode cX7_laysGates 146 = .ok (.iload_n 1, 1) := dk_27 (dk_at dksX7_laysGates_6 4 rfl rfl)
theorem dX7_laysGates_147 : decode cX7_laysGates 147 = .ok (.iconst (-1), 1) := dk_2 (dk_at dksX7_laysGates_6 5 rfl rfl)
theorem dX7_laysGates_148 : decode cX7_laysGates 148 = .ok (.iastore, 1) := dk_79 (dk_at dksX7_laysGates_6 6 rfl rfl)
theorem dX7_laysGates_149 : decode cX7_laysGates 149 = .ok (.iinc 1 1, 3) := dk_132 1 1 (dk_at dksX7_laysGates_6 7 rfl rfl)
theorem dX7_laysGates_152 : decode cX7_laysGates 152 = .ok (.goto (-46), 3) := dk_167 255 210 (dk_at dksX7_laysGates_6 10 rfl rfl)
theorem dX7_laysGates_155 : decode cX7_laysGates 155 = .ok (.iconst 0, 1) := dk_3 (dk_at dksX7_laysGates_6 13 rfl rfl)
theorem dX7_laysGates_156 : decode cX7_laysGates 156 = .ok (.istore_n 1, 1) := dk_60 (dk_at dksX7_laysGates_6 14 rfl rfl)
theorem dX7_laysGates_157 : decode cX7_laysGates 157 = .ok (.iload_n 1, 1) := dk_27 (dk_at dksX7_laysGates_6 15 rfl rfl)
theorem dX7_laysGates_158 : decode cX7_laysGates 158 = .ok (.aload_n 0, 1) := dk_42 (dk_at dksX7_laysGates_6 16 rfl rfl)
theorem dX7_laysGates_159 : decode cX7_laysGates 159 = .ok (.invokevirtual 80, 3) := dk_182 0 80 (dk_at dksX7_laysGates_6 17 rfl rfl)
theorem dX7_laysGates_162 : decode cX7_laysGates 162 = .ok (.if_icmp .ge 62, 3) := dk_162 0 62 (dk_at dksX7_laysGates_6 20 rfl rfl)
theorem dX7_laysGates_165 : decode cX7_laysGates 165 = .ok (.iconst 0, 1) := dk_3 (dk_at dksX7_laysGates_6 23 rfl rfl)
theorem dX7_laysGates_166 : decode cX7_laysGates 166 = .ok (.istore_n 2, 1) := dk_61 (dk_at dksX7_laysGates_7 0 rfl rfl)
theorem dX7_laysGates_167 : decode cX7_laysGates 167 = .ok (.iload_n 2, 1) := dk_28 (dk_at dksX7_laysGates_7 1 rfl rfl)
theorem dX7_laysGates_168 : decode cX7_laysGates 168 = .ok (.aload_n 0, 1) := dk_42 (dk_at dksX7_laysGates_7 2 rfl rfl)
theorem dX7_laysGates_169 : decode cX7_laysGates 169 = .ok (.invokevirtual 80, 3) := dk_182 0 80 (dk_at dksX7_laysGates_7 3 rfl rfl)
theorem dX7_laysGates_172 : decode cX7_laysGates 172 = .ok (.if_icmp .ge 46, 3) := dk_162 0 46 (dk_at dksX7_laysGates_7 6 rfl rfl)
theorem dX7_laysGates_175 : decode cX7_laysGates 175 = .ok (.aload_n 0, 1) := dk_42 (dk_at dksX7_laysGates_7 9 rfl rfl)
theorem dX7_laysGates_176 : decode cX7_laysGates 176 = .ok (.getfield 32, 3) := dk_180 0 32 (dk_at dksX7_laysGates_7 10 rfl rfl)
theorem dX7_laysGates_179 : decode cX7_laysGates 179 = .ok (.iload_n 1, 1) := dk_27 (dk_at dksX7_laysGates_7 13 rfl rfl)
theorem dX7_laysGates_180 : decode cX7_laysGates 180 = .ok (.iaload, 1) := dk_46 (dk_at dksX7_laysGates_7 14 rfl rfl)
theorem dX7_laysGates_181 : decode cX7_laysGates 181 = .ok (.iload_n 2, 1) := dk_28 (dk_at dksX7_laysGates_7 15 rfl rfl)
theorem dX7_laysGates_182 : decode cX7_laysGates 182 = .ok (.invokestatic 99, 3) := dk_184 0 99 (dk_at dksX7_laysGates_7 16 rfl rfl)
theorem dX7_laysGates_185 : decode cX7_laysGates 185 = .ok (.ifCond .eq 27, 3) := dk_153 0 27 (dk_at dksX7_laysGates_7 19 rfl rfl)
theorem dX7_laysGates_188 : decode cX7_laysGates 188 = .ok (.aload_n 0, 1) := dk_42 (dk_at dksX7_laysGates_7 22 rfl rfl)
theorem dX7_laysGates_189 : decode cX7_laysGates 189 = .ok (.getfield 35, 3) := dk_180 0 35 (dk_at dksX7_laysGates_8 0 rfl rfl)
theorem dX7_laysGates_192 : decode cX7_laysGates 192 = .ok (.iload_n 2, 1) := dk_28 (dk_at dksX7_laysGates_8 3 rfl rfl)
theorem dX7_laysGates_193 : decode cX7_laysGates 193 = .ok (.iaload, 1) := dk_46 (dk_at dksX7_laysGates_8 4 rfl rfl)
theorem dX7_laysGates_194 : decode cX7_laysGates 194 = .ok (.aload_n 0, 1) := dk_42 (dk_at dksX7_laysGates_8 5 rfl rfl)
theorem dX7_laysGates_195 : decode cX7_laysGates 195 = .ok (.getfield 35, 3) := dk_180 0 35 (dk_at dksX7_laysGates_8 6 rfl rfl)
theorem dX7_laysGates_198 : decode cX7_laysGates 198 = .ok (.iload_n 1, 1) := dk_27 (dk_at dksX7_laysGates_8 9 rfl rfl)
theorem dX7_laysGates_199 : decode cX7_laysGates 199 = .ok (.iaload, 1) := dk_46 (dk_at dksX7_laysGates_8 10 rfl rfl)
theorem dX7_laysGates_200 : decode cX7_laysGates 200 = .ok (.iconst 1, 1) := dk_4 (dk_at dksX7_laysGates_8 11 rfl rfl)
theorem dX7_laysGates_201 : decode cX7_laysGates 201 = .ok (.isub, 1) := dk_100 (dk_at dksX7_laysGates_8 12 rfl rfl)
theorem dX7_laysGates_202 : decode cX7_laysGates 202 = .ok (.if_icmp .ne 10, 3) := dk_160 0 10 (dk_at dksX7_laysGates_8 13 rfl rfl)
theorem dX7_laysGates_205 : decode cX7_laysGates 205 = .ok (.aload_n 0, 1) := dk_42 (dk_at dksX7_laysGates_8 16 rfl rfl)
theorem dX7_laysGates_206 : decode cX7_laysGates 206 = .ok (.getfield 38, 3) := dk_180 0 38 (dk_at dksX7_laysGates_8 17 rfl rfl)
theorem dX7_laysGates_209 : decode cX7_laysGates 209 = .ok (.iload_n 1, 1) := dk_27 (dk_at dksX7_laysGates_8 20 rfl rfl)
theorem dX7_laysGates_210 : decode cX7_laysGates 210 = .ok (.iload_n 2, 1) := dk_28 (dk_at dksX7_laysGates_8 21 rfl rfl)
theorem dX7_laysGates_211 : decode cX7_laysGates 211 = .ok (.iastore, 1) := dk_79 (dk_at dksX7_laysGates_8 22 rfl rfl)
theorem dX7_laysGates_212 : decode cX7_laysGates 212 = .ok (.iinc 2 1, 3) := dk_132 2 1 (dk_at dksX7_laysGates_9 0 rfl rfl)
theorem dX7_laysGates_215 : decode cX7_laysGates 215 = .ok (.goto (-48), 3) := dk_167 255 208 (dk_at dksX7_laysGates_9 3 rfl rfl)
theorem dX7_laysGates_218 : decode cX7_laysGates 218 = .ok (.iinc 1 1, 3) := dk_132 1 1 (dk_at dksX7_laysGates_9 6 rfl rfl)
theorem dX7_laysGates_221 : decode cX7_laysGates 221 = .ok (.goto (-64), 3) := dk_167 255 192 (dk_at dksX7_laysGates_9 9 rfl rfl)
theorem dX7_laysGates_224 : decode cX7_laysGates 224 = .ok (.return_, 1) := dk_177 (dk_at dksX7_laysGates_9 12 rfl rfl)
abbrev cX7_reachedBut : ByteArray := prog_11_method_19_code
def yX7_reachedBut : MethodName := ⟨RX7, "reachedBut", "(II)I"⟩
def dkwX7_reachedBut_0 : List UInt8 := [42, 4, 42, 182, 0, 109, 120, 27, 28, 182, 0, 112, 172]
abbrev dktX7_reachedBut_0 : List UInt8 := dkwX7_reachedBut_0 ++ []
theorem dksX7_reachedBut_0 : cX7_reachedBut.data.toList.drop 0 = dktX7_reachedBut_0 := by decide +kernel
theorem dX7_reachedBut_0 : decode cX7_reachedBut 0 = .ok (.aload_n 0, 1) := dk_42 (dk_at dksX7_reachedBut_0 0 rfl rfl)
theorem dX7_reachedBut_1 : decode cX7_reachedBut 1 = .ok (.iconst 1, 1) := dk_4 (dk_at dksX7_reachedBut_0 1 rfl rfl)
theorem dX7_reachedBut_2 : decode cX7_reachedBut 2 = .ok (.aload_n 0, 1) := dk_42 (dk_at dksX7_reachedBut_0 2 rfl rfl)
theorem dX7_reachedBut_3 : decode cX7_reachedBut 3 = .ok (.invokevirtual 109, 3) := dk_182 0 109 (dk_at dksX7_reachedBut_0 3 rfl rfl)
theorem dX7_reachedBut_6 : decode cX7_reachedBut 6 = .ok (.ishl, 1) := dk_120 (dk_at dksX7_reachedBut_0 6 rfl rfl)
theorem dX7_reachedBut_7 : decode cX7_reachedBut 7 = .ok (.iload_n 1, 1) := dk_27 (dk_at dksX7_reachedBut_0 7 rfl rfl)
theorem dX7_reachedBut_8 : decode cX7_reachedBut 8 = .ok (.iload_n 2, 1) := dk_28 (dk_at dksX7_reachedBut_0 8 rfl rfl)
theorem dX7_reachedBut_9 : decode cX7_reachedBut 9 = .ok (.invokevirtual 112, 3) := dk_182 0 112 (dk_at dksX7_reachedBut_0 9 rfl rfl)
theorem dX7_reachedBut_12 : decode cX7_reachedBut 12 = .ok (.ireturn, 1) := dk_172 (dk_at dksX7_reachedBut_0 12 rfl rfl)
abbrev cX7_root : ByteArray := prog_11_method_10_code
def yX7_root : MethodName := ⟨RX7, "root", "()I"⟩
def dkwX7_root_0 : List UInt8 := [42, 180, 0, 13, 4, 46, 172]
abbrev dktX7_root_0 : List UInt8 := dkwX7_root_0 ++ []
theorem dksX7_root_0 : cX7_root.data.toList.drop 0 = dktX7_root_0 := by decide +kernel
theorem dX7_root_0 : decode cX7_root 0 = .ok (.aload_n 0, 1) := dk_42 (dk_at dksX7_root_0 0 rfl rfl)
theorem dX7_root_1 : decode cX7_root 1 = .ok (.getfield 13, 3) := dk_180 0 13 (dk_at dksX7_root_0 1 rfl rfl)
theorem dX7_root_4 : decode cX7_root 4 = .ok (.iconst 1, 1) := dk_4 (dk_at dksX7_root_0 4 rfl rfl)
theorem dX7_root_5 : decode cX7_root 5 = .ok (.iaload, 1) := dk_46 (dk_at dksX7_root_0 5 rfl rfl)
theorem dX7_root_6 : decode cX7_root 6 = .ok (.ireturn, 1) := dk_172 (dk_at dksX7_root_0 6 rfl rfl)
abbrev cX7_reach : ByteArray := prog_11_method_17_code
def yX7_reach : MethodName := ⟨RX7, "reach", "(III)I"⟩
def dkwX7_reach_6 : List UInt8 := [120, 128, 54, 4, 167, 255, 121, 21, 4, 172]
abbrev dktX7_reach_6 : List UInt8 := dkwX7_reach_6 ++ []
def dkwX7_reach_5 : List UInt8 := [184, 0, 99, 153, 255, 146, 28, 42, 180, 0, 106, 184, 0, 99, 154, 255, 135, 21, 4, 4, 42, 180, 0, 106]
abbrev dktX7_reach_5 : List UInt8 := dkwX7_reach_5 ++ dktX7_reach_6
def dkwX7_reach_4 : List UInt8 := [54, 4, 132, 6, 1, 167, 255, 180, 42, 180, 0, 26, 2, 159, 255, 158, 21, 4, 42, 180, 0, 26]
abbrev dktX7_reach_4 : List UInt8 := dkwX7_reach_4 ++ dktX7_reach_5
def dkwX7_reach_3 : List UInt8 := [42, 21, 6, 182, 0, 103, 184, 0, 99, 154, 0, 16, 21, 4, 4, 42, 21, 6, 182, 0, 103, 120, 128]
abbrev dktX7_reach_3 : List UInt8 := dkwX7_reach_3 ++ dktX7_reach_4
def dkwX7_reach_2 : List UInt8 := [42, 21, 6, 182, 0, 91, 153, 0, 43, 21, 4, 42, 21, 6, 182, 0, 95, 184, 0, 99, 153, 0, 29, 28]
abbrev dktX7_reach_2 : List UInt8 := dkwX7_reach_2 ++ dktX7_reach_3
def dkwX7_reach_1 : List UInt8 := [21, 6, 42, 182, 0, 88, 162, 0, 73, 21, 6, 29, 159, 0, 61, 21, 6, 42, 180, 0, 29, 159, 0, 52]
abbrev dktX7_reach_1 : List UInt8 := dkwX7_reach_1 ++ dktX7_reach_2
def dkwX7_reach_0 : List UInt8 := [27, 28, 2, 130, 126, 54, 4, 3, 54, 5, 21, 4, 21, 5, 159, 0, 134, 21, 4, 54, 5, 3, 54, 6]
abbrev dktX7_reach_0 : List UInt8 := dkwX7_reach_0 ++ dktX7_reach_1
theorem dksX7_reach_0 : cX7_reach.data.toList.drop 0 = dktX7_reach_0 := by decide +kernel
theorem dksX7_reach_1 : cX7_reach.data.toList.drop 24 = dktX7_reach_1 := dk_seg dksX7_reach_0 24 rfl rfl
theorem dksX7_reach_2 : cX7_reach.data.toList.drop 48 = dktX7_reach_2 := dk_seg dksX7_reach_1 24 rfl rfl
theorem dksX7_reach_3 : cX7_reach.data.toList.drop 72 = dktX7_reach_3 := dk_seg dksX7_reach_2 24 rfl rfl
theorem dksX7_reach_4 : cX7_reach.data.toList.drop 95 = dktX7_reach_4 := dk_seg dksX7_reach_3 23 rfl rfl
theorem dksX7_reach_5 : cX7_reach.data.toList.drop 117 = dktX7_reach_5 := dk_seg dksX7_reach_4 22 rfl rfl
theorem dksX7_reach_6 : cX7_reach.data.toList.drop 141 = dktX7_reach_6 := dk_seg dksX7_reach_5 24 rfl rfl
theorem dX7_reach_0 : decode cX7_reach 0 = .ok (.iload_n 1, 1) := dk_27 (dk_at dksX7_reach_0 0 rfl rfl)
theorem dX7_reach_1 : decode cX7_reach 1 = .ok (.iload_n 2, 1) := dk_28 (dk_at dksX7_reach_0 1 rfl rfl)
theorem dX7_reach_2 : decode cX7_reach 2 = .ok (.iconst (-1), 1) := dk_2 (dk_at dksX7_reach_0 2 rfl rfl)
theorem dX7_reach_3 : decode cX7_reach 3 = .ok (.ixor, 1) := dk_130 (dk_at dksX7_reach_0 3 rfl rfl)
theorem dX7_reach_4 : decode cX7_reach 4 = .ok (.iand, 1) := dk_126 (dk_at dksX7_reach_0 4 rfl rfl)
theorem dX7_reach_5 : decode cX7_reach 5 = .ok (.istore 4, 2) := dk_54 4 (dk_at dksX7_reach_0 5 rfl rfl)
theorem dX7_reach_7 : decode cX7_reach 7 = .ok (.iconst 0, 1) := dk_3 (dk_at dksX7_reach_0 7 rfl rfl)
theorem dX7_reach_8 : decode cX7_reach 8 = .ok (.istore 5, 2) := dk_54 5 (dk_at dksX7_reach_0 8 rfl rfl)
theorem dX7_reach_10 : decode cX7_reach 10 = .ok (.iload 4, 2) := dk_21 4 (dk_at dksX7_reach_0 10 rfl rfl)
theorem dX7_reach_12 : decode cX7_reach 12 = .ok (.iload 5, 2) := dk_21 5 (dk_at dksX7_reach_0 12 rfl rfl)
theorem dX7_reach_14 : decode cX7_reach 14 = .ok (.if_icmp .eq 134, 3) := dk_159 0 134 (dk_at dksX7_reach_0 14 rfl rfl)
theorem dX7_reach_17 : decode cX7_reach 17 = .ok (.iload 4, 2) := dk_21 4 (dk_at dksX7_reach_0 17 rfl rfl)
theorem dX7_reach_19 : decode cX7_reach 19 = .ok (.istore 5, 2) := dk_54 5 (dk_at dksX7_reach_0 19 rfl rfl)
theorem dX7_reach_21 : decode cX7_reach 21 = .ok (.iconst 0, 1) := dk_3 (dk_at dksX7_reach_0 21 rfl rfl)
theorem dX7_reach_22 : decode cX7_reach 22 = .ok (.istore 6, 2) := dk_54 6 (dk_at dksX7_reach_0 22 rfl rfl)
theorem dX7_reach_24 : decode cX7_reach 24 = .ok (.iload 6, 2) := dk_21 6 (dk_at dksX7_reach_1 0 rfl rfl)
theorem dX7_reach_26 : decode cX7_reach 26 = .ok (.aload_n 0, 1) := dk_42 (dk_at dksX7_reach_1 2 rfl rfl)
theorem dX7_reach_27 : decode cX7_reach 27 = .ok (.invokevirtual 88, 3) := dk_182 0 88 (dk_at dksX7_reach_1 3 rfl rfl)
theorem dX7_reach_30 : decode cX7_reach 30 = .ok (.if_icmp .ge 73, 3) := dk_162 0 73 (dk_at dksX7_reach_1 6 rfl rfl)
theorem dX7_reach_33 : decode cX7_reach 33 = .ok (.iload 6, 2) := dk_21 6 (dk_at dksX7_reach_1 9 rfl rfl)
theorem dX7_reach_35 : decode cX7_reach 35 = .ok (.iload_n 3, 1) := dk_29 (dk_at dksX7_reach_1 11 rfl rfl)
theorem dX7_reach_36 : decode cX7_reach 36 = .ok (.if_icmp .eq 61, 3) := dk_159 0 61 (dk_at dksX7_reach_1 12 rfl rfl)
theorem dX7_reach_39 : decode cX7_reach 39 = .ok (.iload 6, 2) := dk_21 6 (dk_at dksX7_reach_1 15 rfl rfl)
theorem dX7_reach_41 : decode cX7_reach 41 = .ok (.aload_n 0, 1) := dk_42 (dk_at dksX7_reach_1 17 rfl rfl)
theorem dX7_reach_42 : decode cX7_reach 42 = .ok (.getfield 29, 3) := dk_180 0 29 (dk_at dksX7_reach_1 18 rfl rfl)
theorem dX7_reach_45 : decode cX7_reach 45 = .ok (.if_icmp .eq 52, 3) := dk_159 0 52 (dk_at dksX7_reach_1 21 rfl rfl)
theorem dX7_reach_48 : decode cX7_reach 48 = .ok (.aload_n 0, 1) := dk_42 (dk_at dksX7_reach_2 0 rfl rfl)
theorem dX7_reach_49 : decode cX7_reach 49 = .ok (.iload 6, 2) := dk_21 6 (dk_at dksX7_reach_2 1 rfl rfl)
theorem dX7_reach_51 : decode cX7_reach 51 = .ok (.invokevirtual 91, 3) := dk_182 0 91 (dk_at dksX7_reach_2 3 rfl rfl)
theorem dX7_reach_54 : decode cX7_reach 54 = .ok (.ifCond .eq 43, 3) := dk_153 0 43 (dk_at dksX7_reach_2 6 rfl rfl)
theorem dX7_reach_57 : decode cX7_reach 57 = .ok (.iload 4, 2) := dk_21 4 (dk_at dksX7_reach_2 9 rfl rfl)
theorem dX7_reach_59 : decode cX7_reach 59 = .ok (.aload_n 0, 1) := dk_42 (dk_at dksX7_reach_2 11 rfl rfl)
theorem dX7_reach_60 : decode cX7_reach 60 = .ok (.iload 6, 2) := dk_21 6 (dk_at dksX7_reach_2 12 rfl rfl)
theorem dX7_reach_62 : decode cX7_reach 62 = .ok (.invokevirtual 95, 3) := dk_182 0 95 (dk_at dksX7_reach_2 14 rfl rfl)
theorem dX7_reach_65 : decode cX7_reach 65 = .ok (.invokestatic 99, 3) := dk_184 0 99 (dk_at dksX7_reach_2 17 rfl rfl)
theorem dX7_reach_68 : decode cX7_reach 68 = .ok (.ifCond .eq 29, 3) := dk_153 0 29 (dk_at dksX7_reach_2 20 rfl rfl)
theorem dX7_reach_71 : decode cX7_reach 71 = .ok (.iload_n 2, 1) := dk_28 (dk_at dksX7_reach_2 23 rfl rfl)
theorem dX7_reach_72 : decode cX7_reach 72 = .ok (.aload_n 0, 1) := dk_42 (dk_at dksX7_reach_3 0 rfl rfl)
theorem dX7_reach_73 : decode cX7_reach 73 = .ok (.iload 6, 2) := dk_21 6 (dk_at dksX7_reach_3 1 rfl rfl)
theorem dX7_reach_75 : decode cX7_reach 75 = .ok (.invokevirtual 103, 3) := dk_182 0 103 (dk_at dksX7_reach_3 3 rfl rfl)
theorem dX7_reach_78 : decode cX7_reach 78 = .ok (.invokestatic 99, 3) := dk_184 0 99 (dk_at dksX7_reach_3 6 rfl rfl)
theorem dX7_reach_81 : decode cX7_reach 81 = .ok (.ifCond .ne 16, 3) := dk_154 0 16 (dk_at dksX7_reach_3 9 rfl rfl)
theorem dX7_reach_84 : decode cX7_reach 84 = .ok (.iload 4, 2) := dk_21 4 (dk_at dksX7_reach_3 12 rfl rfl)
theorem dX7_reach_86 : decode cX7_reach 86 = .ok (.iconst 1, 1) := dk_4 (dk_at dksX7_reach_3 14 rfl rfl)
theorem dX7_reach_87 : decode cX7_reach 87 = .ok (.aload_n 0, 1) := dk_42 (dk_at dksX7_reach_3 15 rfl rfl)
theorem dX7_reach_88 : decode cX7_reach 88 = .ok (.iload 6, 2) := dk_21 6 (dk_at dksX7_reach_3 16 rfl rfl)
theorem dX7_reach_90 : decode cX7_reach 90 = .ok (.invokevirtual 103, 3) := dk_182 0 103 (dk_at dksX7_reach_3 18 rfl rfl)
theorem dX7_reach_93 : decode cX7_reach 93 = .ok (.ishl, 1) := dk_120 (dk_at dksX7_reach_3 21 rfl rfl)
theorem dX7_reach_94 : decode cX7_reach 94 = .ok (.ior, 1) := dk_128 (dk_at dksX7_reach_3 22 rfl rfl)
theorem dX7_reach_95 : decode cX7_reach 95 = .ok (.istore 4, 2) := dk_54 4 (dk_at dksX7_reach_4 0 rfl rfl)
theorem dX7_reach_97 : decode cX7_reach 97 = .ok (.iinc 6 1, 3) := dk_132 6 1 (dk_at dksX7_reach_4 2 rfl rfl)
theorem dX7_reach_100 : decode cX7_reach 100 = .ok (.goto (-76), 3) := dk_167 255 180 (dk_at dksX7_reach_4 5 rfl rfl)
theorem dX7_reach_103 : decode cX7_reach 103 = .ok (.aload_n 0, 1) := dk_42 (dk_at dksX7_reach_4 8 rfl rfl)
theorem dX7_reach_104 : decode cX7_reach 104 = .ok (.getfield 26, 3) := dk_180 0 26 (dk_at dksX7_reach_4 9 rfl rfl)
theorem dX7_reach_107 : decode cX7_reach 107 = .ok (.iconst (-1), 1) := dk_2 (dk_at dksX7_reach_4 12 rfl rfl)
theorem dX7_reach_108 : decode cX7_reach 108 = .ok (.if_icmp .eq (-98), 3) := dk_159 255 158 (dk_at dksX7_reach_4 13 rfl rfl)
theorem dX7_reach_111 : decode cX7_reach 111 = .ok (.iload 4, 2) := dk_21 4 (dk_at dksX7_reach_4 16 rfl rfl)
theorem dX7_reach_113 : decode cX7_reach 113 = .ok (.aload_n 0, 1) := dk_42 (dk_at dksX7_reach_4 18 rfl rfl)
theorem dX7_reach_114 : decode cX7_reach 114 = .ok (.getfield 26, 3) := dk_180 0 26 (dk_at dksX7_reach_4 19 rfl rfl)
theorem dX7_reach_117 : decode cX7_reach 117 = .ok (.invokestatic 99, 3) := dk_184 0 99 (dk_at dksX7_reach_5 0 rfl rfl)
theorem dX7_reach_120 : decode cX7_reach 120 = .ok (.ifCond .eq (-110), 3) := dk_153 255 146 (dk_at dksX7_reach_5 3 rfl rfl)
theorem dX7_reach_123 : decode cX7_reach 123 = .ok (.iload_n 2, 1) := dk_28 (dk_at dksX7_reach_5 6 rfl rfl)
theorem dX7_reach_124 : decode cX7_reach 124 = .ok (.aload_n 0, 1) := dk_42 (dk_at dksX7_reach_5 7 rfl rfl)
theorem dX7_reach_125 : decode cX7_reach 125 = .ok (.getfield 106, 3) := dk_180 0 106 (dk_at dksX7_reach_5 8 rfl rfl)
theorem dX7_reach_128 : decode cX7_reach 128 = .ok (.invokestatic 99, 3) := dk_184 0 99 (dk_at dksX7_reach_5 11 rfl rfl)
theorem dX7_reach_131 : decode cX7_reach 131 = .ok (.ifCond .ne (-121), 3) := dk_154 255 135 (dk_at dksX7_reach_5 14 rfl rfl)
theorem dX7_reach_134 : decode cX7_reach 134 = .ok (.iload 4, 2) := dk_21 4 (dk_at dksX7_reach_5 17 rfl rfl)
theorem dX7_reach_136 : decode cX7_reach 136 = .ok (.iconst 1, 1) := dk_4 (dk_at dksX7_reach_5 19 rfl rfl)
theorem dX7_reach_137 : decode cX7_reach 137 = .ok (.aload_n 0, 1) := dk_42 (dk_at dksX7_reach_5 20 rfl rfl)
theorem dX7_reach_138 : decode cX7_reach 138 = .ok (.getfield 106, 3) := dk_180 0 106 (dk_at dksX7_reach_5 21 rfl rfl)
theorem dX7_reach_141 : decode cX7_reach 141 = .ok (.ishl, 1) := dk_120 (dk_at dksX7_reach_6 0 rfl rfl)
theorem dX7_reach_142 : decode cX7_reach 142 = .ok (.ior, 1) := dk_128 (dk_at dksX7_reach_6 1 rfl rfl)
theorem dX7_reach_143 : decode cX7_reach 143 = .ok (.istore 4, 2) := dk_54 4 (dk_at dksX7_reach_6 2 rfl rfl)
theorem dX7_reach_145 : decode cX7_reach 145 = .ok (.goto (-135), 3) := dk_167 255 121 (dk_at dksX7_reach_6 4 rfl rfl)
theorem dX7_reach_148 : decode cX7_reach 148 = .ok (.iload 4, 2) := dk_21 4 (dk_at dksX7_reach_6 7 rfl rfl)
theorem dX7_reach_150 : decode cX7_reach 150 = .ok (.ireturn, 1) := dk_172 (dk_at dksX7_reach_6 9 rfl rfl)
abbrev cX7_arcs : ByteArray := prog_11_method_11_code
def yX7_arcs : MethodName := ⟨RX7, "arcs", "()I"⟩
def dkwX7_arcs_0 : List UInt8 := [42, 180, 0, 13, 6, 46, 172]
abbrev dktX7_arcs_0 : List UInt8 := dkwX7_arcs_0 ++ []
theorem dksX7_arcs_0 : cX7_arcs.data.toList.drop 0 = dktX7_arcs_0 := by decide +kernel
theorem dX7_arcs_0 : decode cX7_arcs 0 = .ok (.aload_n 0, 1) := dk_42 (dk_at dksX7_arcs_0 0 rfl rfl)
theorem dX7_arcs_1 : decode cX7_arcs 1 = .ok (.getfield 13, 3) := dk_180 0 13 (dk_at dksX7_arcs_0 1 rfl rfl)
theorem dX7_arcs_4 : decode cX7_arcs 4 = .ok (.iconst 3, 1) := dk_6 (dk_at dksX7_arcs_0 4 rfl rfl)
theorem dX7_arcs_5 : decode cX7_arcs 5 = .ok (.iaload, 1) := dk_46 (dk_at dksX7_arcs_0 5 rfl rfl)
theorem dX7_arcs_6 : decode cX7_arcs 6 = .ok (.ireturn, 1) := dk_172 (dk_at dksX7_arcs_0 6 rfl rfl)
abbrev cX7_isOpen : ByteArray := prog_11_method_14_code
def yX7_isOpen : MethodName := ⟨RX7, "isOpen", "(I)Z"⟩
def dkwX7_isOpen_0 : List UInt8 := [42, 180, 0, 13, 17, 0, 140, 27, 96, 46, 4, 160, 0, 7, 4, 167, 0, 4, 3, 172]
abbrev dktX7_isOpen_0 : List UInt8 := dkwX7_isOpen_0 ++ []
theorem dksX7_isOpen_0 : cX7_isOpen.data.toList.drop 0 = dktX7_isOpen_0 := by decide +kernel
theorem dX7_isOpen_0 : decode cX7_isOpen 0 = .ok (.aload_n 0, 1) := dk_42 (dk_at dksX7_isOpen_0 0 rfl rfl)
theorem dX7_isOpen_1 : decode cX7_isOpen 1 = .ok (.getfield 13, 3) := dk_180 0 13 (dk_at dksX7_isOpen_0 1 rfl rfl)
theorem dX7_isOpen_4 : decode cX7_isOpen 4 = .ok (.sipush 140, 3) := dk_17 0 140 (dk_at dksX7_isOpen_0 4 rfl rfl)
theorem dX7_isOpen_7 : decode cX7_isOpen 7 = .ok (.iload_n 1, 1) := dk_27 (dk_at dksX7_isOpen_0 7 rfl rfl)
theorem dX7_isOpen_8 : decode cX7_isOpen 8 = .ok (.iadd, 1) := dk_96 (dk_at dksX7_isOpen_0 8 rfl rfl)
theorem dX7_isOpen_9 : decode cX7_isOpen 9 = .ok (.iaload, 1) := dk_46 (dk_at dksX7_isOpen_0 9 rfl rfl)
theorem dX7_isOpen_10 : decode cX7_isOpen 10 = .ok (.iconst 1, 1) := dk_4 (dk_at dksX7_isOpen_0 10 rfl rfl)
theorem dX7_isOpen_11 : decode cX7_isOpen 11 = .ok (.if_icmp .ne 7, 3) := dk_160 0 7 (dk_at dksX7_isOpen_0 11 rfl rfl)
theorem dX7_isOpen_14 : decode cX7_isOpen 14 = .ok (.iconst 1, 1) := dk_4 (dk_at dksX7_isOpen_0 14 rfl rfl)
theorem dX7_isOpen_15 : decode cX7_isOpen 15 = .ok (.goto 4, 3) := dk_167 0 4 (dk_at dksX7_isOpen_0 15 rfl rfl)
theorem dX7_isOpen_18 : decode cX7_isOpen 18 = .ok (.iconst 0, 1) := dk_3 (dk_at dksX7_isOpen_0 18 rfl rfl)
theorem dX7_isOpen_19 : decode cX7_isOpen 19 = .ok (.ireturn, 1) := dk_172 (dk_at dksX7_isOpen_0 19 rfl rfl)
abbrev cX7_fromOf : ByteArray := prog_11_method_12_code
def yX7_fromOf : MethodName := ⟨RX7, "fromOf", "(I)I"⟩
def dkwX7_fromOf_0 : List UInt8 := [42, 180, 0, 13, 16, 20, 27, 96, 46, 172]
abbrev dktX7_fromOf_0 : List UInt8 := dkwX7_fromOf_0 ++ []
theorem dksX7_fromOf_0 : cX7_fromOf.data.toList.drop 0 = dktX7_fromOf_0 := by decide +kernel
theorem dX7_fromOf_0 : decode cX7_fromOf 0 = .ok (.aload_n 0, 1) := dk_42 (dk_at dksX7_fromOf_0 0 rfl rfl)
theorem dX7_fromOf_1 : decode cX7_fromOf 1 = .ok (.getfield 13, 3) := dk_180 0 13 (dk_at dksX7_fromOf_0 1 rfl rfl)
theorem dX7_fromOf_4 : decode cX7_fromOf 4 = .ok (.bipush 20, 2) := dk_16 20 (dk_at dksX7_fromOf_0 4 rfl rfl)
theorem dX7_fromOf_6 : decode cX7_fromOf 6 = .ok (.iload_n 1, 1) := dk_27 (dk_at dksX7_fromOf_0 6 rfl rfl)
theorem dX7_fromOf_7 : decode cX7_fromOf 7 = .ok (.iadd, 1) := dk_96 (dk_at dksX7_fromOf_0 7 rfl rfl)
theorem dX7_fromOf_8 : decode cX7_fromOf 8 = .ok (.iaload, 1) := dk_46 (dk_at dksX7_fromOf_0 8 rfl rfl)
theorem dX7_fromOf_9 : decode cX7_fromOf 9 = .ok (.ireturn, 1) := dk_172 (dk_at dksX7_fromOf_0 9 rfl rfl)
abbrev cX7_holds : ByteArray := prog_11_method_4_code
def yX7_holds : MethodName := ⟨RX7, "holds", "(II)Z"⟩
def dkwX7_holds_0 : List UInt8 := [26, 27, 122, 4, 126, 4, 160, 0, 7, 4, 167, 0, 4, 3, 172]
abbrev dktX7_holds_0 : List UInt8 := dkwX7_holds_0 ++ []
theorem dksX7_holds_0 : cX7_holds.data.toList.drop 0 = dktX7_holds_0 := by decide +kernel
theorem dX7_holds_0 : decode cX7_holds 0 = .ok (.iload_n 0, 1) := dk_26 (dk_at dksX7_holds_0 0 rfl rfl)
theorem dX7_holds_1 : decode cX7_holds 1 = .ok (.iload_n 1, 1) := dk_27 (dk_at dksX7_holds_0 1 rfl rfl)
theorem dX7_holds_2 : decode cX7_holds 2 = .ok (.ishr, 1) := dk_122 (dk_at dksX7_holds_0 2 rfl rfl)
theorem dX7_holds_3 : decode cX7_holds 3 = .ok (.iconst 1, 1) := dk_4 (dk_at dksX7_holds_0 3 rfl rfl)
theorem dX7_holds_4 : decode cX7_holds 4 = .ok (.iand, 1) := dk_126 (dk_at dksX7_holds_0 4 rfl rfl)
theorem dX7_holds_5 : decode cX7_holds 5 = .ok (.iconst 1, 1) := dk_4 (dk_at dksX7_holds_0 5 rfl rfl)
theorem dX7_holds_6 : decode cX7_holds 6 = .ok (.if_icmp .ne 7, 3) := dk_160 0 7 (dk_at dksX7_holds_0 6 rfl rfl)
theorem dX7_holds_9 : decode cX7_holds 9 = .ok (.iconst 1, 1) := dk_4 (dk_at dksX7_holds_0 9 rfl rfl)
theorem dX7_holds_10 : decode cX7_holds 10 = .ok (.goto 4, 3) := dk_167 0 4 (dk_at dksX7_holds_0 10 rfl rfl)
theorem dX7_holds_13 : decode cX7_holds 13 = .ok (.iconst 0, 1) := dk_3 (dk_at dksX7_holds_0 13 rfl rfl)
theorem dX7_holds_14 : decode cX7_holds 14 = .ok (.ireturn, 1) := dk_172 (dk_at dksX7_holds_0 14 rfl rfl)
abbrev cX7_toOf : ByteArray := prog_11_method_13_code
def yX7_toOf : MethodName := ⟨RX7, "toOf", "(I)I"⟩
def dkwX7_toOf_0 : List UInt8 := [42, 180, 0, 13, 16, 80, 27, 96, 46, 172]
abbrev dktX7_toOf_0 : List UInt8 := dkwX7_toOf_0 ++ []
theorem dksX7_toOf_0 : cX7_toOf.data.toList.drop 0 = dktX7_toOf_0 := by decide +kernel
theorem dX7_toOf_0 : decode cX7_toOf 0 = .ok (.aload_n 0, 1) := dk_42 (dk_at dksX7_toOf_0 0 rfl rfl)
theorem dX7_toOf_1 : decode cX7_toOf 1 = .ok (.getfield 13, 3) := dk_180 0 13 (dk_at dksX7_toOf_0 1 rfl rfl)
theorem dX7_toOf_4 : decode cX7_toOf 4 = .ok (.bipush 80, 2) := dk_16 80 (dk_at dksX7_toOf_0 4 rfl rfl)
theorem dX7_toOf_6 : decode cX7_toOf 6 = .ok (.iload_n 1, 1) := dk_27 (dk_at dksX7_toOf_0 6 rfl rfl)
theorem dX7_toOf_7 : decode cX7_toOf 7 = .ok (.iadd, 1) := dk_96 (dk_at dksX7_toOf_0 7 rfl rfl)
theorem dX7_toOf_8 : decode cX7_toOf 8 = .ok (.iaload, 1) := dk_46 (dk_at dksX7_toOf_0 8 rfl rfl)
theorem dX7_toOf_9 : decode cX7_toOf 9 = .ok (.ireturn, 1) := dk_172 (dk_at dksX7_toOf_0 9 rfl rfl)
abbrev cX7_bits : ByteArray := prog_11_method_5_code
def yX7_bits : MethodName := ⟨RX7, "bits", "(I)I"⟩
def dkwX7_bits_1 : List UInt8 := [27, 172]
abbrev dktX7_bits_1 : List UInt8 := dkwX7_bits_1 ++ []
def dkwX7_bits_0 : List UInt8 := [3, 60, 3, 61, 28, 16, 16, 162, 0, 17, 27, 26, 28, 122, 4, 126, 96, 60, 132, 2, 1, 167, 255, 239]
abbrev dktX7_bits_0 : List UInt8 := dkwX7_bits_0 ++ dktX7_bits_1
theorem dksX7_bits_0 : cX7_bits.data.toList.drop 0 = dktX7_bits_0 := by decide +kernel
theorem dksX7_bits_1 : cX7_bits.data.toList.drop 24 = dktX7_bits_1 := dk_seg dksX7_bits_0 24 rfl rfl
theorem dX7_bits_0 : decode cX7_bits 0 = .ok (.iconst 0, 1) := dk_3 (dk_at dksX7_bits_0 0 rfl rfl)
theorem dX7_bits_1 : decode cX7_bits 1 = .ok (.istore_n 1, 1) := dk_60 (dk_at dksX7_bits_0 1 rfl rfl)
theorem dX7_bits_2 : decode cX7_bits 2 = .ok (.iconst 0, 1) := dk_3 (dk_at dksX7_bits_0 2 rfl rfl)
theorem dX7_bits_3 : decode cX7_bits 3 = .ok (.istore_n 2, 1) := dk_61 (dk_at dksX7_bits_0 3 rfl rfl)
theorem dX7_bits_4 : decode cX7_bits 4 = .ok (.iload_n 2, 1) := dk_28 (dk_at dksX7_bits_0 4 rfl rfl)
theorem dX7_bits_5 : decode cX7_bits 5 = .ok (.bipush 16, 2) := dk_16 16 (dk_at dksX7_bits_0 5 rfl rfl)
theorem dX7_bits_7 : decode cX7_bits 7 = .ok (.if_icmp .ge 17, 3) := dk_162 0 17 (dk_at dksX7_bits_0 7 rfl rfl)
theorem dX7_bits_10 : decode cX7_bits 10 = .ok (.iload_n 1, 1) := dk_27 (dk_at dksX7_bits_0 10 rfl rfl)
theorem dX7_bits_11 : decode cX7_bits 11 = .ok (.iload_n 0, 1) := dk_26 (dk_at dksX7_bits_0 11 rfl rfl)
theorem dX7_bits_12 : decode cX7_bits 12 = .ok (.iload_n 2, 1) := dk_28 (dk_at dksX7_bits_0 12 rfl rfl)
theorem dX7_bits_13 : decode cX7_bits 13 = .ok (.ishr, 1) := dk_122 (dk_at dksX7_bits_0 13 rfl rfl)
theorem dX7_bits_14 : decode cX7_bits 14 = .ok (.iconst 1, 1) := dk_4 (dk_at dksX7_bits_0 14 rfl rfl)
theorem dX7_bits_15 : decode cX7_bits 15 = .ok (.iand, 1) := dk_126 (dk_at dksX7_bits_0 15 rfl rfl)
theorem dX7_bits_16 : decode cX7_bits 16 = .ok (.iadd, 1) := dk_96 (dk_at dksX7_bits_0 16 rfl rfl)
theorem dX7_bits_17 : decode cX7_bits 17 = .ok (.istore_n 1, 1) := dk_60 (dk_at dksX7_bits_0 17 rfl rfl)
theorem dX7_bits_18 : decode cX7_bits 18 = .ok (.iinc 2 1, 3) := dk_132 2 1 (dk_at dksX7_bits_0 18 rfl rfl)
theorem dX7_bits_21 : decode cX7_bits 21 = .ok (.goto (-17), 3) := dk_167 255 239 (dk_at dksX7_bits_0 21 rfl rfl)
theorem dX7_bits_24 : decode cX7_bits 24 = .ok (.iload_n 1, 1) := dk_27 (dk_at dksX7_bits_1 0 rfl rfl)
theorem dX7_bits_25 : decode cX7_bits 25 = .ok (.ireturn, 1) := dk_172 (dk_at dksX7_bits_1 1 rfl rfl)
abbrev cX7_holdsAgainst : ByteArray := prog_11_method_24_code
def yX7_holdsAgainst : MethodName := ⟨RX7, "holdsAgainst", "()V"⟩
def dkwX7_holdsAgainst_5 : List UInt8 := [180, 0, 35, 27, 46, 100, 96, 181, 0, 141, 132, 1, 1, 167, 255, 173, 177]
abbrev dktX7_holdsAgainst_5 : List UInt8 := dkwX7_holdsAgainst_5 ++ []
def dkwX7_holdsAgainst_4 : List UInt8 := [167, 0, 6, 4, 27, 120, 128, 181, 0, 138, 42, 89, 180, 0, 141, 42, 180, 0, 41, 27, 46, 42]
abbrev dktX7_holdsAgainst_4 : List UInt8 := dkwX7_holdsAgainst_4 ++ dktX7_holdsAgainst_5
def dkwX7_holdsAgainst_3 : List UInt8 := [167, 0, 56, 42, 89, 180, 0, 138, 42, 180, 0, 38, 27, 46, 42, 180, 0, 44, 27, 46, 160, 0, 7, 3]
abbrev dktX7_holdsAgainst_3 : List UInt8 := dkwX7_holdsAgainst_3 ++ dktX7_holdsAgainst_4
def dkwX7_holdsAgainst_2 : List UInt8 := [182, 0, 80, 162, 0, 81, 42, 180, 0, 120, 42, 180, 0, 129, 126, 27, 184, 0, 99, 154, 0, 6]
abbrev dktX7_holdsAgainst_2 : List UInt8 := dkwX7_holdsAgainst_2 ++ dktX7_holdsAgainst_3
def dkwX7_holdsAgainst_1 : List UInt8 := [42, 180, 0, 120, 2, 130, 126, 181, 0, 135, 42, 3, 181, 0, 138, 42, 3, 181, 0, 141, 3, 60, 27, 42]
abbrev dktX7_holdsAgainst_1 : List UInt8 := dkwX7_holdsAgainst_1 ++ dktX7_holdsAgainst_2
def dkwX7_holdsAgainst_0 : List UInt8 := [42, 182, 0, 126, 42, 42, 180, 0, 120, 42, 180, 0, 129, 2, 130, 126, 181, 0, 132, 42, 42, 180, 0, 129]
abbrev dktX7_holdsAgainst_0 : List UInt8 := dkwX7_holdsAgainst_0 ++ dktX7_holdsAgainst_1
theorem dksX7_holdsAgainst_0 : cX7_holdsAgainst.data.toList.drop 0 = dktX7_holdsAgainst_0 := by decide +kernel
theorem dksX7_holdsAgainst_1 : cX7_holdsAgainst.data.toList.drop 24 = dktX7_holdsAgainst_1 := dk_seg dksX7_holdsAgainst_0 24 rfl rfl
theorem dksX7_holdsAgainst_2 : cX7_holdsAgainst.data.toList.drop 48 = dktX7_holdsAgainst_2 := dk_seg dksX7_holdsAgainst_1 24 rfl rfl
theorem dksX7_holdsAgainst_3 : cX7_holdsAgainst.data.toList.drop 70 = dktX7_holdsAgainst_3 := dk_seg dksX7_holdsAgainst_2 22 rfl rfl
theorem dksX7_holdsAgainst_4 : cX7_holdsAgainst.data.toList.drop 94 = dktX7_holdsAgainst_4 := dk_seg dksX7_holdsAgainst_3 24 rfl rfl
theorem dksX7_holdsAgainst_5 : cX7_holdsAgainst.data.toList.drop 116 = dktX7_holdsAgainst_5 := dk_seg dksX7_holdsAgainst_4 22 rfl rfl
theorem dX7_holdsAgainst_0 : decode cX7_holdsAgainst 0 = .ok (.aload_n 0, 1) := dk_42 (dk_at dksX7_holdsAgainst_0 0 rfl rfl)
theorem dX7_holdsAgainst_1 : decode cX7_holdsAgainst 1 = .ok (.invokevirtual 126, 3) := dk_182 0 126 (dk_at dksX7_holdsAgainst_0 1 rfl rfl)
theorem dX7_holdsAgainst_4 : decode cX7_holdsAgainst 4 = .ok (.aload_n 0, 1) := dk_42 (dk_at dksX7_holdsAgainst_0 4 rfl rfl)
theorem dX7_holdsAgainst_5 : decode cX7_holdsAgainst 5 = .ok (.aload_n 0, 1) := dk_42 (dk_at dksX7_holdsAgainst_0 5 rfl rfl)
theorem dX7_holdsAgainst_6 : decode cX7_holdsAgainst 6 = .ok (.getfield 120, 3) := dk_180 0 120 (dk_at dksX7_holdsAgainst_0 6 rfl rfl)
theorem dX7_holdsAgainst_9 : decode cX7_holdsAgainst 9 = .ok (.aload_n 0, 1) := dk_42 (dk_at dksX7_holdsAgainst_0 9 rfl rfl)
theorem dX7_holdsAgainst_10 : decode cX7_holdsAgainst 10 = .ok (.getfield 129, 3) := dk_180 0 129 (dk_at dksX7_holdsAgainst_0 10 rfl rfl)
theorem dX7_holdsAgainst_13 : decode cX7_holdsAgainst 13 = .ok (.iconst (-1), 1) := dk_2 (dk_at dksX7_holdsAgainst_0 13 rfl rfl)
theorem dX7_holdsAgainst_14 : decode cX7_holdsAgainst 14 = .ok (.ixor, 1) := dk_130 (dk_at dksX7_holdsAgainst_0 14 rfl rfl)
theorem dX7_holdsAgainst_15 : decode cX7_holdsAgainst 15 = .ok (.iand, 1) := dk_126 (dk_at dksX7_holdsAgainst_0 15 rfl rfl)
theorem dX7_holdsAgainst_16 : decode cX7_holdsAgainst 16 = .ok (.putfield 132, 3) := dk_181 0 132 (dk_at dksX7_holdsAgainst_0 16 rfl rfl)
theorem dX7_holdsAgainst_19 : decode cX7_holdsAgainst 19 = .ok (.aload_n 0, 1) := dk_42 (dk_at dksX7_holdsAgainst_0 19 rfl rfl)
theorem dX7_holdsAgainst_20 : decode cX7_holdsAgainst 20 = .ok (.aload_n 0, 1) := dk_42 (dk_at dksX7_holdsAgainst_0 20 rfl rfl)
theorem dX7_holdsAgainst_21 : decode cX7_holdsAgainst 21 = .ok (.getfield 129, 3) := dk_180 0 129 (dk_at dksX7_holdsAgainst_0 21 rfl rfl)
theorem dX7_holdsAgainst_24 : decode cX7_holdsAgainst 24 = .ok (.aload_n 0, 1) := dk_42 (dk_at dksX7_holdsAgainst_1 0 rfl rfl)
theorem dX7_holdsAgainst_25 : decode cX7_holdsAgainst 25 = .ok (.getfield 120, 3) := dk_180 0 120 (dk_at dksX7_holdsAgainst_1 1 rfl rfl)
theorem dX7_holdsAgainst_28 : decode cX7_holdsAgainst 28 = .ok (.iconst (-1), 1) := dk_2 (dk_at dksX7_holdsAgainst_1 4 rfl rfl)
theorem dX7_holdsAgainst_29 : decode cX7_holdsAgainst 29 = .ok (.ixor, 1) := dk_130 (dk_at dksX7_holdsAgainst_1 5 rfl rfl)
theorem dX7_holdsAgainst_30 : decode cX7_holdsAgainst 30 = .ok (.iand, 1) := dk_126 (dk_at dksX7_holdsAgainst_1 6 rfl rfl)
theorem dX7_holdsAgainst_31 : decode cX7_holdsAgainst 31 = .ok (.putfield 135, 3) := dk_181 0 135 (dk_at dksX7_holdsAgainst_1 7 rfl rfl)
theorem dX7_holdsAgainst_34 : decode cX7_holdsAgainst 34 = .ok (.aload_n 0, 1) := dk_42 (dk_at dksX7_holdsAgainst_1 10 rfl rfl)
theorem dX7_holdsAgainst_35 : decode cX7_holdsAgainst 35 = .ok (.iconst 0, 1) := dk_3 (dk_at dksX7_holdsAgainst_1 11 rfl rfl)
theorem dX7_holdsAgainst_36 : decode cX7_holdsAgainst 36 = .ok (.putfield 138, 3) := dk_181 0 138 (dk_at dksX7_holdsAgainst_1 12 rfl rfl)
theorem dX7_holdsAgainst_39 : decode cX7_holdsAgainst 39 = .ok (.aload_n 0, 1) := dk_42 (dk_at dksX7_holdsAgainst_1 15 rfl rfl)
theorem dX7_holdsAgainst_40 : decode cX7_holdsAgainst 40 = .ok (.iconst 0, 1) := dk_3 (dk_at dksX7_holdsAgainst_1 16 rfl rfl)
theorem dX7_holdsAgainst_41 : decode cX7_holdsAgainst 41 = .ok (.putfield 141, 3) := dk_181 0 141 (dk_at dksX7_holdsAgainst_1 17 rfl rfl)
theorem dX7_holdsAgainst_44 : decode cX7_holdsAgainst 44 = .ok (.iconst 0, 1) := dk_3 (dk_at dksX7_holdsAgainst_1 20 rfl rfl)
theorem dX7_holdsAgainst_45 : decode cX7_holdsAgainst 45 = .ok (.istore_n 1, 1) := dk_60 (dk_at dksX7_holdsAgainst_1 21 rfl rfl)
theorem dX7_holdsAgainst_46 : decode cX7_holdsAgainst 46 = .ok (.iload_n 1, 1) := dk_27 (dk_at dksX7_holdsAgainst_1 22 rfl rfl)
theorem dX7_holdsAgainst_47 : decode cX7_holdsAgainst 47 = .ok (.aload_n 0, 1) := dk_42 (dk_at dksX7_holdsAgainst_1 23 rfl rfl)
theorem dX7_holdsAgainst_48 : decode cX7_holdsAgainst 48 = .ok (.invokevirtual 80, 3) := dk_182 0 80 (dk_at dksX7_holdsAgainst_2 0 rfl rfl)
theorem dX7_holdsAgainst_51 : decode cX7_holdsAgainst 51 = .ok (.if_icmp .ge 81, 3) := dk_162 0 81 (dk_at dksX7_holdsAgainst_2 3 rfl rfl)
theorem dX7_holdsAgainst_54 : decode cX7_holdsAgainst 54 = .ok (.aload_n 0, 1) := dk_42 (dk_at dksX7_holdsAgainst_2 6 rfl rfl)
theorem dX7_holdsAgainst_55 : decode cX7_holdsAgainst 55 = .ok (.getfield 120, 3) := dk_180 0 120 (dk_at dksX7_holdsAgainst_2 7 rfl rfl)
theorem dX7_holdsAgainst_58 : decode cX7_holdsAgainst 58 = .ok (.aload_n 0, 1) := dk_42 (dk_at dksX7_holdsAgainst_2 10 rfl rfl)
theorem dX7_holdsAgainst_59 : decode cX7_holdsAgainst 59 = .ok (.getfield 129, 3) := dk_180 0 129 (dk_at dksX7_holdsAgainst_2 11 rfl rfl)
theorem dX7_holdsAgainst_62 : decode cX7_holdsAgainst 62 = .ok (.iand, 1) := dk_126 (dk_at dksX7_holdsAgainst_2 14 rfl rfl)
theorem dX7_holdsAgainst_63 : decode cX7_holdsAgainst 63 = .ok (.iload_n 1, 1) := dk_27 (dk_at dksX7_holdsAgainst_2 15 rfl rfl)
theorem dX7_holdsAgainst_64 : decode cX7_holdsAgainst 64 = .ok (.invokestatic 99, 3) := dk_184 0 99 (dk_at dksX7_holdsAgainst_2 16 rfl rfl)
theorem dX7_holdsAgainst_67 : decode cX7_holdsAgainst 67 = .ok (.ifCond .ne 6, 3) := dk_154 0 6 (dk_at dksX7_holdsAgainst_2 19 rfl rfl)
theorem dX7_holdsAgainst_70 : decode cX7_holdsAgainst 70 = .ok (.goto 56, 3) := dk_167 0 56 (dk_at dksX7_holdsAgainst_3 0 rfl rfl)
theorem dX7_holdsAgainst_73 : decode cX7_holdsAgainst 73 = .ok (.aload_n 0, 1) := dk_42 (dk_at dksX7_holdsAgainst_3 3 rfl rfl)
theorem dX7_holdsAgainst_74 : decode cX7_holdsAgainst 74 = .ok (.dup, 1) := dk_89 (dk_at dksX7_holdsAgainst_3 4 rfl rfl)
theorem dX7_holdsAgainst_75 : decode cX7_holdsAgainst 75 = .ok (.getfield 138, 3) := dk_180 0 138 (dk_at dksX7_holdsAgainst_3 5 rfl rfl)
theorem dX7_holdsAgainst_78 : decode cX7_holdsAgainst 78 = .ok (.aload_n 0, 1) := dk_42 (dk_at dksX7_holdsAgainst_3 8 rfl rfl)
theorem dX7_holdsAgainst_79 : decode cX7_holdsAgainst 79 = .ok (.getfield 38, 3) := dk_180 0 38 (dk_at dksX7_holdsAgainst_3 9 rfl rfl)
theorem dX7_holdsAgainst_82 : decode cX7_holdsAgainst 82 = .ok (.iload_n 1, 1) := dk_27 (dk_at dksX7_holdsAgainst_3 12 rfl rfl)
theorem dX7_holdsAgainst_83 : decode cX7_holdsAgainst 83 = .ok (.iaload, 1) := dk_46 (dk_at dksX7_holdsAgainst_3 13 rfl rfl)
theorem dX7_holdsAgainst_84 : decode cX7_holdsAgainst 84 = .ok (.aload_n 0, 1) := dk_42 (dk_at dksX7_holdsAgainst_3 14 rfl rfl)
theorem dX7_holdsAgainst_85 : decode cX7_holdsAgainst 85 = .ok (.getfield 44, 3) := dk_180 0 44 (dk_at dksX7_holdsAgainst_3 15 rfl rfl)
theorem dX7_holdsAgainst_88 : decode cX7_holdsAgainst 88 = .ok (.iload_n 1, 1) := dk_27 (dk_at dksX7_holdsAgainst_3 18 rfl rfl)
theorem dX7_holdsAgainst_89 : decode cX7_holdsAgainst 89 = .ok (.iaload, 1) := dk_46 (dk_at dksX7_holdsAgainst_3 19 rfl rfl)
theorem dX7_holdsAgainst_90 : decode cX7_holdsAgainst 90 = .ok (.if_icmp .ne 7, 3) := dk_160 0 7 (dk_at dksX7_holdsAgainst_3 20 rfl rfl)
theorem dX7_holdsAgainst_93 : decode cX7_holdsAgainst 93 = .ok (.iconst 0, 1) := dk_3 (dk_at dksX7_holdsAgainst_3 23 rfl rfl)
theorem dX7_holdsAgainst_94 : decode cX7_holdsAgainst 94 = .ok (.goto 6, 3) := dk_167 0 6 (dk_at dksX7_holdsAgainst_4 0 rfl rfl)
theorem dX7_holdsAgainst_97 : decode cX7_holdsAgainst 97 = .ok (.iconst 1, 1) := dk_4 (dk_at dksX7_holdsAgainst_4 3 rfl rfl)
theorem dX7_holdsAgainst_98 : decode cX7_holdsAgainst 98 = .ok (.iload_n 1, 1) := dk_27 (dk_at dksX7_holdsAgainst_4 4 rfl rfl)
theorem dX7_holdsAgainst_99 : decode cX7_holdsAgainst 99 = .ok (.ishl, 1) := dk_120 (dk_at dksX7_holdsAgainst_4 5 rfl rfl)
theorem dX7_holdsAgainst_100 : decode cX7_holdsAgainst 100 = .ok (.ior, 1) := dk_128 (dk_at dksX7_holdsAgainst_4 6 rfl rfl)
theorem dX7_holdsAgainst_101 : decode cX7_holdsAgainst 101 = .ok (.putfield 138, 3) := dk_181 0 138 (dk_at dksX7_holdsAgainst_4 7 rfl rfl)
theorem dX7_holdsAgainst_104 : decode cX7_holdsAgainst 104 = .ok (.aload_n 0, 1) := dk_42 (dk_at dksX7_holdsAgainst_4 10 rfl rfl)
theorem dX7_holdsAgainst_105 : decode cX7_holdsAgainst 105 = .ok (.dup, 1) := dk_89 (dk_at dksX7_holdsAgainst_4 11 rfl rfl)
theorem dX7_holdsAgainst_106 : decode cX7_holdsAgainst 106 = .ok (.getfield 141, 3) := dk_180 0 141 (dk_at dksX7_holdsAgainst_4 12 rfl rfl)
theorem dX7_holdsAgainst_109 : decode cX7_holdsAgainst 109 = .ok (.aload_n 0, 1) := dk_42 (dk_at dksX7_holdsAgainst_4 15 rfl rfl)
theorem dX7_holdsAgainst_110 : decode cX7_holdsAgainst 110 = .ok (.getfield 41, 3) := dk_180 0 41 (dk_at dksX7_holdsAgainst_4 16 rfl rfl)
theorem dX7_holdsAgainst_113 : decode cX7_holdsAgainst 113 = .ok (.iload_n 1, 1) := dk_27 (dk_at dksX7_holdsAgainst_4 19 rfl rfl)
theorem dX7_holdsAgainst_114 : decode cX7_holdsAgainst 114 = .ok (.iaload, 1) := dk_46 (dk_at dksX7_holdsAgainst_4 20 rfl rfl)
theorem dX7_holdsAgainst_115 : decode cX7_holdsAgainst 115 = .ok (.aload_n 0, 1) := dk_42 (dk_at dksX7_holdsAgainst_4 21 rfl rfl)
theorem dX7_holdsAgainst_116 : decode cX7_holdsAgainst 116 = .ok (.getfield 35, 3) := dk_180 0 35 (dk_at dksX7_holdsAgainst_5 0 rfl rfl)
theorem dX7_holdsAgainst_119 : decode cX7_holdsAgainst 119 = .ok (.iload_n 1, 1) := dk_27 (dk_at dksX7_holdsAgainst_5 3 rfl rfl)
theorem dX7_holdsAgainst_120 : decode cX7_holdsAgainst 120 = .ok (.iaload, 1) := dk_46 (dk_at dksX7_holdsAgainst_5 4 rfl rfl)
theorem dX7_holdsAgainst_121 : decode cX7_holdsAgainst 121 = .ok (.isub, 1) := dk_100 (dk_at dksX7_holdsAgainst_5 5 rfl rfl)
theorem dX7_holdsAgainst_122 : decode cX7_holdsAgainst 122 = .ok (.iadd, 1) := dk_96 (dk_at dksX7_holdsAgainst_5 6 rfl rfl)
theorem dX7_holdsAgainst_123 : decode cX7_holdsAgainst 123 = .ok (.putfield 141, 3) := dk_181 0 141 (dk_at dksX7_holdsAgainst_5 7 rfl rfl)
theorem dX7_holdsAgainst_126 : decode cX7_holdsAgainst 126 = .ok (.iinc 1 1, 3) := dk_132 1 1 (dk_at dksX7_holdsAgainst_5 10 rfl rfl)
theorem dX7_holdsAgainst_129 : decode cX7_holdsAgainst 129 = .ok (.goto (-83), 3) := dk_167 255 173 (dk_at dksX7_holdsAgainst_5 13 rfl rfl)
theorem dX7_holdsAgainst_132 : decode cX7_holdsAgainst 132 = .ok (.return_, 1) := dk_177 (dk_at dksX7_holdsAgainst_5 16 rfl rfl)
abbrev cX7_lay : ByteArray := prog_11_method_38_code
def yX7_lay : MethodName := ⟨RX7, "lay", "(II)I"⟩
def dkwX7_lay_1 : List UInt8 := [182, 0, 189, 62, 42, 182, 0, 183, 29, 172]
abbrev dktX7_lay_1 : List UInt8 := dkwX7_lay_1 ++ []
def dkwX7_lay_0 : List UInt8 := [42, 3, 181, 0, 1, 42, 42, 27, 28, 182, 0, 186, 4, 182, 0, 180, 153, 0, 5, 3, 172, 42, 27, 28]
abbrev dktX7_lay_0 : List UInt8 := dkwX7_lay_0 ++ dktX7_lay_1
theorem dksX7_lay_0 : cX7_lay.data.toList.drop 0 = dktX7_lay_0 := by decide +kernel
theorem dksX7_lay_1 : cX7_lay.data.toList.drop 24 = dktX7_lay_1 := dk_seg dksX7_lay_0 24 rfl rfl
theorem dX7_lay_0 : decode cX7_lay 0 = .ok (.aload_n 0, 1) := dk_42 (dk_at dksX7_lay_0 0 rfl rfl)
theorem dX7_lay_1 : decode cX7_lay 1 = .ok (.iconst 0, 1) := dk_3 (dk_at dksX7_lay_0 1 rfl rfl)
theorem dX7_lay_2 : decode cX7_lay 2 = .ok (.putfield 1, 3) := dk_181 0 1 (dk_at dksX7_lay_0 2 rfl rfl)
theorem dX7_lay_5 : decode cX7_lay 5 = .ok (.aload_n 0, 1) := dk_42 (dk_at dksX7_lay_0 5 rfl rfl)
theorem dX7_lay_6 : decode cX7_lay 6 = .ok (.aload_n 0, 1) := dk_42 (dk_at dksX7_lay_0 6 rfl rfl)
theorem dX7_lay_7 : decode cX7_lay 7 = .ok (.iload_n 1, 1) := dk_27 (dk_at dksX7_lay_0 7 rfl rfl)
theorem dX7_lay_8 : decode cX7_lay 8 = .ok (.iload_n 2, 1) := dk_28 (dk_at dksX7_lay_0 8 rfl rfl)
theorem dX7_lay_9 : decode cX7_lay 9 = .ok (.invokevirtual 186, 3) := dk_182 0 186 (dk_at dksX7_lay_0 9 rfl rfl)
theorem dX7_lay_12 : decode cX7_lay 12 = .ok (.iconst 1, 1) := dk_4 (dk_at dksX7_lay_0 12 rfl rfl)
theorem dX7_lay_13 : decode cX7_lay 13 = .ok (.invokevirtual 180, 3) := dk_182 0 180 (dk_at dksX7_lay_0 13 rfl rfl)
theorem dX7_lay_16 : decode cX7_lay 16 = .ok (.ifCond .eq 5, 3) := dk_153 0 5 (dk_at dksX7_lay_0 16 rfl rfl)
theorem dX7_lay_19 : decode cX7_lay 19 = .ok (.iconst 0, 1) := dk_3 (dk_at dksX7_lay_0 19 rfl rfl)
theorem dX7_lay_20 : decode cX7_lay 20 = .ok (.ireturn, 1) := dk_172 (dk_at dksX7_lay_0 20 rfl rfl)
theorem dX7_lay_21 : decode cX7_lay 21 = .ok (.aload_n 0, 1) := dk_42 (dk_at dksX7_lay_0 21 rfl rfl)
theorem dX7_lay_22 : decode cX7_lay 22 = .ok (.iload_n 1, 1) := dk_27 (dk_at dksX7_lay_0 22 rfl rfl)
theorem dX7_lay_23 : decode cX7_lay 23 = .ok (.iload_n 2, 1) := dk_28 (dk_at dksX7_lay_0 23 rfl rfl)
theorem dX7_lay_24 : decode cX7_lay 24 = .ok (.invokevirtual 189, 3) := dk_182 0 189 (dk_at dksX7_lay_1 0 rfl rfl)
theorem dX7_lay_27 : decode cX7_lay 27 = .ok (.istore_n 3, 1) := dk_62 (dk_at dksX7_lay_1 3 rfl rfl)
theorem dX7_lay_28 : decode cX7_lay 28 = .ok (.aload_n 0, 1) := dk_42 (dk_at dksX7_lay_1 4 rfl rfl)
theorem dX7_lay_29 : decode cX7_lay 29 = .ok (.invokevirtual 183, 3) := dk_182 0 183 (dk_at dksX7_lay_1 5 rfl rfl)
theorem dX7_lay_32 : decode cX7_lay 32 = .ok (.iload_n 3, 1) := dk_29 (dk_at dksX7_lay_1 8 rfl rfl)
theorem dX7_lay_33 : decode cX7_lay 33 = .ok (.ireturn, 1) := dk_172 (dk_at dksX7_lay_1 9 rfl rfl)
abbrev cX7_whyNoLay : ByteArray := prog_11_method_33_code
def yX7_whyNoLay : MethodName := ⟨RX7, "whyNoLay", "(II)I"⟩
def dkwX7_whyNoLay_1 : List UInt8 := [16, 60, 160, 0, 7, 5, 167, 0, 4, 3, 172]
abbrev dktX7_whyNoLay_1 : List UInt8 := dkwX7_whyNoLay_1 ++ []
def dkwX7_whyNoLay_0 : List UInt8 := [42, 27, 182, 0, 171, 153, 0, 11, 42, 28, 182, 0, 171, 154, 0, 7, 4, 167, 0, 17, 42, 182, 0, 88]
abbrev dktX7_whyNoLay_0 : List UInt8 := dkwX7_whyNoLay_0 ++ dktX7_whyNoLay_1
theorem dksX7_whyNoLay_0 : cX7_whyNoLay.data.toList.drop 0 = dktX7_whyNoLay_0 := by decide +kernel
theorem dksX7_whyNoLay_1 : cX7_whyNoLay.data.toList.drop 24 = dktX7_whyNoLay_1 := dk_seg dksX7_whyNoLay_0 24 rfl rfl
theorem dX7_whyNoLay_0 : decode cX7_whyNoLay 0 = .ok (.aload_n 0, 1) := dk_42 (dk_at dksX7_whyNoLay_0 0 rfl rfl)
theorem dX7_whyNoLay_1 : decode cX7_whyNoLay 1 = .ok (.iload_n 1, 1) := dk_27 (dk_at dksX7_whyNoLay_0 1 rfl rfl)
theorem dX7_whyNoLay_2 : decode cX7_whyNoLay 2 = .ok (.invokevirtual 171, 3) := dk_182 0 171 (dk_at dksX7_whyNoLay_0 2 rfl rfl)
theorem dX7_whyNoLay_5 : decode cX7_whyNoLay 5 = .ok (.ifCond .eq 11, 3) := dk_153 0 11 (dk_at dksX7_whyNoLay_0 5 rfl rfl)
theorem dX7_whyNoLay_8 : decode cX7_whyNoLay 8 = .ok (.aload_n 0, 1) := dk_42 (dk_at dksX7_whyNoLay_0 8 rfl rfl)
theorem dX7_whyNoLay_9 : decode cX7_whyNoLay 9 = .ok (.iload_n 2, 1) := dk_28 (dk_at dksX7_whyNoLay_0 9 rfl rfl)
theorem dX7_whyNoLay_10 : decode cX7_whyNoLay 10 = .ok (.invokevirtual 171, 3) := dk_182 0 171 (dk_at dksX7_whyNoLay_0 10 rfl rfl)
theorem dX7_whyNoLay_13 : decode cX7_whyNoLay 13 = .ok (.ifCond .ne 7, 3) := dk_154 0 7 (dk_at dksX7_whyNoLay_0 13 rfl rfl)
theorem dX7_whyNoLay_16 : decode cX7_whyNoLay 16 = .ok (.iconst 1, 1) := dk_4 (dk_at dksX7_whyNoLay_0 16 rfl rfl)
theorem dX7_whyNoLay_17 : decode cX7_whyNoLay 17 = .ok (.goto 17, 3) := dk_167 0 17 (dk_at dksX7_whyNoLay_0 17 rfl rfl)
theorem dX7_whyNoLay_20 : decode cX7_whyNoLay 20 = .ok (.aload_n 0, 1) := dk_42 (dk_at dksX7_whyNoLay_0 20 rfl rfl)
theorem dX7_whyNoLay_21 : decode cX7_whyNoLay 21 = .ok (.invokevirtual 88, 3) := dk_182 0 88 (dk_at dksX7_whyNoLay_0 21 rfl rfl)
theorem dX7_whyNoLay_24 : decode cX7_whyNoLay 24 = .ok (.bipush 60, 2) := dk_16 60 (dk_at dksX7_whyNoLay_1 0 rfl rfl)
theorem dX7_whyNoLay_26 : decode cX7_whyNoLay 26 = .ok (.if_icmp .ne 7, 3) := dk_160 0 7 (dk_at dksX7_whyNoLay_1 2 rfl rfl)
theorem dX7_whyNoLay_29 : decode cX7_whyNoLay 29 = .ok (.iconst 2, 1) := dk_5 (dk_at dksX7_whyNoLay_1 5 rfl rfl)
theorem dX7_whyNoLay_30 : decode cX7_whyNoLay 30 = .ok (.goto 4, 3) := dk_167 0 4 (dk_at dksX7_whyNoLay_1 6 rfl rfl)
theorem dX7_whyNoLay_33 : decode cX7_whyNoLay 33 = .ok (.iconst 0, 1) := dk_3 (dk_at dksX7_whyNoLay_1 9 rfl rfl)
theorem dX7_whyNoLay_34 : decode cX7_whyNoLay 34 = .ok (.ireturn, 1) := dk_172 (dk_at dksX7_whyNoLay_1 10 rfl rfl)
abbrev cX7_lays : ByteArray := prog_11_method_36_code
def yX7_lays : MethodName := ⟨RX7, "lays", "(II)I"⟩
def dkwX7_lays_1 : List UInt8 := [79, 42, 180, 0, 13, 17, 0, 140, 29, 96, 4, 79, 42, 180, 0, 13, 6, 92, 46, 4, 96, 79, 29, 172]
abbrev dktX7_lays_1 : List UInt8 := dkwX7_lays_1 ++ []
def dkwX7_lays_0 : List UInt8 := [42, 182, 0, 88, 62, 42, 180, 0, 13, 16, 20, 29, 96, 27, 79, 42, 180, 0, 13, 16, 80, 29, 96, 28]
abbrev dktX7_lays_0 : List UInt8 := dkwX7_lays_0 ++ dktX7_lays_1
theorem dksX7_lays_0 : cX7_lays.data.toList.drop 0 = dktX7_lays_0 := by decide +kernel
theorem dksX7_lays_1 : cX7_lays.data.toList.drop 24 = dktX7_lays_1 := dk_seg dksX7_lays_0 24 rfl rfl
theorem dX7_lays_0 : decode cX7_lays 0 = .ok (.aload_n 0, 1) := dk_42 (dk_at dksX7_lays_0 0 rfl rfl)
theorem dX7_lays_1 : decode cX7_lays 1 = .ok (.invokevirtual 88, 3) := dk_182 0 88 (dk_at dksX7_lays_0 1 rfl rfl)
theorem dX7_lays_4 : decode cX7_lays 4 = .ok (.istore_n 3, 1) := dk_62 (dk_at dksX7_lays_0 4 rfl rfl)
theorem dX7_lays_5 : decode cX7_lays 5 = .ok (.aload_n 0, 1) := dk_42 (dk_at dksX7_lays_0 5 rfl rfl)
theorem dX7_lays_6 : decode cX7_lays 6 = .ok (.getfield 13, 3) := dk_180 0 13 (dk_at dksX7_lays_0 6 rfl rfl)
theorem dX7_lays_9 : decode cX7_lays 9 = .ok (.bipush 20, 2) := dk_16 20 (dk_at dksX7_lays_0 9 rfl rfl)
theorem dX7_lays_11 : decode cX7_lays 11 = .ok (.iload_n 3, 1) := dk_29 (dk_at dksX7_lays_0 11 rfl rfl)
theorem dX7_lays_12 : decode cX7_lays 12 = .ok (.iadd, 1) := dk_96 (dk_at dksX7_lays_0 12 rfl rfl)
theorem dX7_lays_13 : decode cX7_lays 13 = .ok (.iload_n 1, 1) := dk_27 (dk_at dksX7_lays_0 13 rfl rfl)
theorem dX7_lays_14 : decode cX7_lays 14 = .ok (.iastore, 1) := dk_79 (dk_at dksX7_lays_0 14 rfl rfl)
theorem dX7_lays_15 : decode cX7_lays 15 = .ok (.aload_n 0, 1) := dk_42 (dk_at dksX7_lays_0 15 rfl rfl)
theorem dX7_lays_16 : decode cX7_lays 16 = .ok (.getfield 13, 3) := dk_180 0 13 (dk_at dksX7_lays_0 16 rfl rfl)
theorem dX7_lays_19 : decode cX7_lays 19 = .ok (.bipush 80, 2) := dk_16 80 (dk_at dksX7_lays_0 19 rfl rfl)
theorem dX7_lays_21 : decode cX7_lays 21 = .ok (.iload_n 3, 1) := dk_29 (dk_at dksX7_lays_0 21 rfl rfl)
theorem dX7_lays_22 : decode cX7_lays 22 = .ok (.iadd, 1) := dk_96 (dk_at dksX7_lays_0 22 rfl rfl)
theorem dX7_lays_23 : decode cX7_lays 23 = .ok (.iload_n 2, 1) := dk_28 (dk_at dksX7_lays_0 23 rfl rfl)
theorem dX7_lays_24 : decode cX7_lays 24 = .ok (.iastore, 1) := dk_79 (dk_at dksX7_lays_1 0 rfl rfl)
theorem dX7_lays_25 : decode cX7_lays 25 = .ok (.aload_n 0, 1) := dk_42 (dk_at dksX7_lays_1 1 rfl rfl)
theorem dX7_lays_26 : decode cX7_lays 26 = .ok (.getfield 13, 3) := dk_180 0 13 (dk_at dksX7_lays_1 2 rfl rfl)
theorem dX7_lays_29 : decode cX7_lays 29 = .ok (.sipush 140, 3) := dk_17 0 140 (dk_at dksX7_lays_1 5 rfl rfl)
theorem dX7_lays_32 : decode cX7_lays 32 = .ok (.iload_n 3, 1) := dk_29 (dk_at dksX7_lays_1 8 rfl rfl)
theorem dX7_lays_33 : decode cX7_lays 33 = .ok (.iadd, 1) := dk_96 (dk_at dksX7_lays_1 9 rfl rfl)
theorem dX7_lays_34 : decode cX7_lays 34 = .ok (.iconst 1, 1) := dk_4 (dk_at dksX7_lays_1 10 rfl rfl)
theorem dX7_lays_35 : decode cX7_lays 35 = .ok (.iastore, 1) := dk_79 (dk_at dksX7_lays_1 11 rfl rfl)
theorem dX7_lays_36 : decode cX7_lays 36 = .ok (.aload_n 0, 1) := dk_42 (dk_at dksX7_lays_1 12 rfl rfl)
theorem dX7_lays_37 : decode cX7_lays 37 = .ok (.getfield 13, 3) := dk_180 0 13 (dk_at dksX7_lays_1 13 rfl rfl)
theorem dX7_lays_40 : decode cX7_lays 40 = .ok (.iconst 3, 1) := dk_6 (dk_at dksX7_lays_1 16 rfl rfl)
theorem dX7_lays_41 : decode cX7_lays 41 = .ok (.dup2, 1) := dk_92 (dk_at dksX7_lays_1 17 rfl rfl)
theorem dX7_lays_42 : decode cX7_lays 42 = .ok (.iaload, 1) := dk_46 (dk_at dksX7_lays_1 18 rfl rfl)
theorem dX7_lays_43 : decode cX7_lays 43 = .ok (.iconst 1, 1) := dk_4 (dk_at dksX7_lays_1 19 rfl rfl)
theorem dX7_lays_44 : decode cX7_lays 44 = .ok (.iadd, 1) := dk_96 (dk_at dksX7_lays_1 20 rfl rfl)
theorem dX7_lays_45 : decode cX7_lays 45 = .ok (.iastore, 1) := dk_79 (dk_at dksX7_lays_1 21 rfl rfl)
theorem dX7_lays_46 : decode cX7_lays 46 = .ok (.iload_n 3, 1) := dk_29 (dk_at dksX7_lays_1 22 rfl rfl)
theorem dX7_lays_47 : decode cX7_lays 47 = .ok (.ireturn, 1) := dk_172 (dk_at dksX7_lays_1 23 rfl rfl)
abbrev cX7_shut : ByteArray := prog_11_method_39_code
def yX7_shut : MethodName := ⟨RX7, "shut", "(I)I"⟩
def dkwX7_shut_1 : List UInt8 := [180, 0, 13, 17, 0, 140, 27, 96, 3, 79, 42, 182, 0, 183, 42, 180, 0, 135, 184, 0, 123, 172]
abbrev dktX7_shut_1 : List UInt8 := dkwX7_shut_1 ++ []
def dkwX7_shut_0 : List UInt8 := [42, 3, 181, 0, 1, 42, 42, 27, 3, 182, 0, 192, 4, 182, 0, 180, 153, 0, 5, 3, 172, 42]
abbrev dktX7_shut_0 : List UInt8 := dkwX7_shut_0 ++ dktX7_shut_1
theorem dksX7_shut_0 : cX7_shut.data.toList.drop 0 = dktX7_shut_0 := by decide +kernel
theorem dksX7_shut_1 : cX7_shut.data.toList.drop 22 = dktX7_shut_1 := dk_seg dksX7_shut_0 22 rfl rfl
theorem dX7_shut_0 : decode cX7_shut 0 = .ok (.aload_n 0, 1) := dk_42 (dk_at dksX7_shut_0 0 rfl rfl)
theorem dX7_shut_1 : decode cX7_shut 1 = .ok (.iconst 0, 1) := dk_3 (dk_at dksX7_shut_0 1 rfl rfl)
theorem dX7_shut_2 : decode cX7_shut 2 = .ok (.putfield 1, 3) := dk_181 0 1 (dk_at dksX7_shut_0 2 rfl rfl)
theorem dX7_shut_5 : decode cX7_shut 5 = .ok (.aload_n 0, 1) := dk_42 (dk_at dksX7_shut_0 5 rfl rfl)
theorem dX7_shut_6 : decode cX7_shut 6 = .ok (.aload_n 0, 1) := dk_42 (dk_at dksX7_shut_0 6 rfl rfl)
theorem dX7_shut_7 : decode cX7_shut 7 = .ok (.iload_n 1, 1) := dk_27 (dk_at dksX7_shut_0 7 rfl rfl)
theorem dX7_shut_8 : decode cX7_shut 8 = .ok (.iconst 0, 1) := dk_3 (dk_at dksX7_shut_0 8 rfl rfl)
theorem dX7_shut_9 : decode cX7_shut 9 = .ok (.invokevirtual 192, 3) := dk_182 0 192 (dk_at dksX7_shut_0 9 rfl rfl)
theorem dX7_shut_12 : decode cX7_shut 12 = .ok (.iconst 1, 1) := dk_4 (dk_at dksX7_shut_0 12 rfl rfl)
theorem dX7_shut_13 : decode cX7_shut 13 = .ok (.invokevirtual 180, 3) := dk_182 0 180 (dk_at dksX7_shut_0 13 rfl rfl)
theorem dX7_shut_16 : decode cX7_shut 16 = .ok (.ifCond .eq 5, 3) := dk_153 0 5 (dk_at dksX7_shut_0 16 rfl rfl)
theorem dX7_shut_19 : decode cX7_shut 19 = .ok (.iconst 0, 1) := dk_3 (dk_at dksX7_shut_0 19 rfl rfl)
theorem dX7_shut_20 : decode cX7_shut 20 = .ok (.ireturn, 1) := dk_172 (dk_at dksX7_shut_0 20 rfl rfl)
theorem dX7_shut_21 : decode cX7_shut 21 = .ok (.aload_n 0, 1) := dk_42 (dk_at dksX7_shut_0 21 rfl rfl)
theorem dX7_shut_22 : decode cX7_shut 22 = .ok (.getfield 13, 3) := dk_180 0 13 (dk_at dksX7_shut_1 0 rfl rfl)
theorem dX7_shut_25 : decode cX7_shut 25 = .ok (.sipush 140, 3) := dk_17 0 140 (dk_at dksX7_shut_1 3 rfl rfl)
theorem dX7_shut_28 : decode cX7_shut 28 = .ok (.iload_n 1, 1) := dk_27 (dk_at dksX7_shut_1 6 rfl rfl)
theorem dX7_shut_29 : decode cX7_shut 29 = .ok (.iadd, 1) := dk_96 (dk_at dksX7_shut_1 7 rfl rfl)
theorem dX7_shut_30 : decode cX7_shut 30 = .ok (.iconst 0, 1) := dk_3 (dk_at dksX7_shut_1 8 rfl rfl)
theorem dX7_shut_31 : decode cX7_shut 31 = .ok (.iastore, 1) := dk_79 (dk_at dksX7_shut_1 9 rfl rfl)
theorem dX7_shut_32 : decode cX7_shut 32 = .ok (.aload_n 0, 1) := dk_42 (dk_at dksX7_shut_1 10 rfl rfl)
theorem dX7_shut_33 : decode cX7_shut 33 = .ok (.invokevirtual 183, 3) := dk_182 0 183 (dk_at dksX7_shut_1 11 rfl rfl)
theorem dX7_shut_36 : decode cX7_shut 36 = .ok (.aload_n 0, 1) := dk_42 (dk_at dksX7_shut_1 14 rfl rfl)
theorem dX7_shut_37 : decode cX7_shut 37 = .ok (.getfield 135, 3) := dk_180 0 135 (dk_at dksX7_shut_1 15 rfl rfl)
theorem dX7_shut_40 : decode cX7_shut 40 = .ok (.invokestatic 123, 3) := dk_184 0 123 (dk_at dksX7_shut_1 18 rfl rfl)
theorem dX7_shut_43 : decode cX7_shut 43 = .ok (.ireturn, 1) := dk_172 (dk_at dksX7_shut_1 21 rfl rfl)
abbrev cX7_whyNoTurn : ByteArray := prog_11_method_34_code
def yX7_whyNoTurn : MethodName := ⟨RX7, "whyNoTurn", "(II)I"⟩
def dkwX7_whyNoTurn_1 : List UInt8 := [160, 0, 7, 7, 167, 0, 4, 3, 172]
abbrev dktX7_whyNoTurn_1 : List UInt8 := dkwX7_whyNoTurn_1 ++ []
def dkwX7_whyNoTurn_0 : List UInt8 := [42, 27, 182, 0, 174, 154, 0, 7, 6, 167, 0, 22, 42, 180, 0, 13, 17, 0, 140, 27, 96, 46, 28]
abbrev dktX7_whyNoTurn_0 : List UInt8 := dkwX7_whyNoTurn_0 ++ dktX7_whyNoTurn_1
theorem dksX7_whyNoTurn_0 : cX7_whyNoTurn.data.toList.drop 0 = dktX7_whyNoTurn_0 := by decide +kernel
theorem dksX7_whyNoTurn_1 : cX7_whyNoTurn.data.toList.drop 23 = dktX7_whyNoTurn_1 := dk_seg dksX7_whyNoTurn_0 23 rfl rfl
theorem dX7_whyNoTurn_0 : decode cX7_whyNoTurn 0 = .ok (.aload_n 0, 1) := dk_42 (dk_at dksX7_whyNoTurn_0 0 rfl rfl)
theorem dX7_whyNoTurn_1 : decode cX7_whyNoTurn 1 = .ok (.iload_n 1, 1) := dk_27 (dk_at dksX7_whyNoTurn_0 1 rfl rfl)
theorem dX7_whyNoTurn_2 : decode cX7_whyNoTurn 2 = .ok (.invokevirtual 174, 3) := dk_182 0 174 (dk_at dksX7_whyNoTurn_0 2 rfl rfl)
theorem dX7_whyNoTurn_5 : decode cX7_whyNoTurn 5 = .ok (.ifCond .ne 7, 3) := dk_154 0 7 (dk_at dksX7_whyNoTurn_0 5 rfl rfl)
theorem dX7_whyNoTurn_8 : decode cX7_whyNoTurn 8 = .ok (.iconst 3, 1) := dk_6 (dk_at dksX7_whyNoTurn_0 8 rfl rfl)
theorem dX7_whyNoTurn_9 : decode cX7_whyNoTurn 9 = .ok (.goto 22, 3) := dk_167 0 22 (dk_at dksX7_whyNoTurn_0 9 rfl rfl)
theorem dX7_whyNoTurn_12 : decode cX7_whyNoTurn 12 = .ok (.aload_n 0, 1) := dk_42 (dk_at dksX7_whyNoTurn_0 12 rfl rfl)
theorem dX7_whyNoTurn_13 : decode cX7_whyNoTurn 13 = .ok (.getfield 13, 3) := dk_180 0 13 (dk_at dksX7_whyNoTurn_0 13 rfl rfl)
theorem dX7_whyNoTurn_16 : decode cX7_whyNoTurn 16 = .ok (.sipush 140, 3) := dk_17 0 140 (dk_at dksX7_whyNoTurn_0 16 rfl rfl)
theorem dX7_whyNoTurn_19 : decode cX7_whyNoTurn 19 = .ok (.iload_n 1, 1) := dk_27 (dk_at dksX7_whyNoTurn_0 19 rfl rfl)
theorem dX7_whyNoTurn_20 : decode cX7_whyNoTurn 20 = .ok (.iadd, 1) := dk_96 (dk_at dksX7_whyNoTurn_0 20 rfl rfl)
theorem dX7_whyNoTurn_21 : decode cX7_whyNoTurn 21 = .ok (.iaload, 1) := dk_46 (dk_at dksX7_whyNoTurn_0 21 rfl rfl)
theorem dX7_whyNoTurn_22 : decode cX7_whyNoTurn 22 = .ok (.iload_n 2, 1) := dk_28 (dk_at dksX7_whyNoTurn_0 22 rfl rfl)
theorem dX7_whyNoTurn_23 : decode cX7_whyNoTurn 23 = .ok (.if_icmp .ne 7, 3) := dk_160 0 7 (dk_at dksX7_whyNoTurn_1 0 rfl rfl)
theorem dX7_whyNoTurn_26 : decode cX7_whyNoTurn 26 = .ok (.iconst 4, 1) := dk_7 (dk_at dksX7_whyNoTurn_1 3 rfl rfl)
theorem dX7_whyNoTurn_27 : decode cX7_whyNoTurn 27 = .ok (.goto 4, 3) := dk_167 0 4 (dk_at dksX7_whyNoTurn_1 4 rfl rfl)
theorem dX7_whyNoTurn_30 : decode cX7_whyNoTurn 30 = .ok (.iconst 0, 1) := dk_3 (dk_at dksX7_whyNoTurn_1 7 rfl rfl)
theorem dX7_whyNoTurn_31 : decode cX7_whyNoTurn 31 = .ok (.ireturn, 1) := dk_172 (dk_at dksX7_whyNoTurn_1 8 rfl rfl)
abbrev cX7_isArc : ByteArray := prog_11_method_16_code
def yX7_isArc : MethodName := ⟨RX7, "isArc", "(I)Z"⟩
def dkwX7_isArc_0 : List UInt8 := [27, 3, 42, 182, 0, 88, 4, 100, 184, 0, 84, 172]
abbrev dktX7_isArc_0 : List UInt8 := dkwX7_isArc_0 ++ []
theorem dksX7_isArc_0 : cX7_isArc.data.toList.drop 0 = dktX7_isArc_0 := by decide +kernel
theorem dX7_isArc_0 : decode cX7_isArc 0 = .ok (.iload_n 1, 1) := dk_27 (dk_at dksX7_isArc_0 0 rfl rfl)
theorem dX7_isArc_1 : decode cX7_isArc 1 = .ok (.iconst 0, 1) := dk_3 (dk_at dksX7_isArc_0 1 rfl rfl)
theorem dX7_isArc_2 : decode cX7_isArc 2 = .ok (.aload_n 0, 1) := dk_42 (dk_at dksX7_isArc_0 2 rfl rfl)
theorem dX7_isArc_3 : decode cX7_isArc 3 = .ok (.invokevirtual 88, 3) := dk_182 0 88 (dk_at dksX7_isArc_0 3 rfl rfl)
theorem dX7_isArc_6 : decode cX7_isArc 6 = .ok (.iconst 1, 1) := dk_4 (dk_at dksX7_isArc_0 6 rfl rfl)
theorem dX7_isArc_7 : decode cX7_isArc 7 = .ok (.isub, 1) := dk_100 (dk_at dksX7_isArc_0 7 rfl rfl)
theorem dX7_isArc_8 : decode cX7_isArc 8 = .ok (.invokestatic 84, 3) := dk_184 0 84 (dk_at dksX7_isArc_0 8 rfl rfl)
theorem dX7_isArc_11 : decode cX7_isArc 11 = .ok (.ireturn, 1) := dk_172 (dk_at dksX7_isArc_0 11 rfl rfl)
abbrev cX7_open : ByteArray := prog_11_method_40_code
def yX7_open : MethodName := ⟨RX7, "open", "(I)I"⟩
def dkwX7_open_1 : List UInt8 := [180, 0, 13, 17, 0, 140, 27, 96, 4, 79, 42, 182, 0, 183, 42, 180, 0, 132, 184, 0, 123, 172]
abbrev dktX7_open_1 : List UInt8 := dkwX7_open_1 ++ []
def dkwX7_open_0 : List UInt8 := [42, 3, 181, 0, 1, 42, 42, 27, 4, 182, 0, 192, 4, 182, 0, 180, 153, 0, 5, 3, 172, 42]
abbrev dktX7_open_0 : List UInt8 := dkwX7_open_0 ++ dktX7_open_1
theorem dksX7_open_0 : cX7_open.data.toList.drop 0 = dktX7_open_0 := by decide +kernel
theorem dksX7_open_1 : cX7_open.data.toList.drop 22 = dktX7_open_1 := dk_seg dksX7_open_0 22 rfl rfl
theorem dX7_open_0 : decode cX7_open 0 = .ok (.aload_n 0, 1) := dk_42 (dk_at dksX7_open_0 0 rfl rfl)
theorem dX7_open_1 : decode cX7_open 1 = .ok (.iconst 0, 1) := dk_3 (dk_at dksX7_open_0 1 rfl rfl)
theorem dX7_open_2 : decode cX7_open 2 = .ok (.putfield 1, 3) := dk_181 0 1 (dk_at dksX7_open_0 2 rfl rfl)
theorem dX7_open_5 : decode cX7_open 5 = .ok (.aload_n 0, 1) := dk_42 (dk_at dksX7_open_0 5 rfl rfl)
theorem dX7_open_6 : decode cX7_open 6 = .ok (.aload_n 0, 1) := dk_42 (dk_at dksX7_open_0 6 rfl rfl)
theorem dX7_open_7 : decode cX7_open 7 = .ok (.iload_n 1, 1) := dk_27 (dk_at dksX7_open_0 7 rfl rfl)
theorem dX7_open_8 : decode cX7_open 8 = .ok (.iconst 1, 1) := dk_4 (dk_at dksX7_open_0 8 rfl rfl)
theorem dX7_open_9 : decode cX7_open 9 = .ok (.invokevirtual 192, 3) := dk_182 0 192 (dk_at dksX7_open_0 9 rfl rfl)
theorem dX7_open_12 : decode cX7_open 12 = .ok (.iconst 1, 1) := dk_4 (dk_at dksX7_open_0 12 rfl rfl)
theorem dX7_open_13 : decode cX7_open 13 = .ok (.invokevirtual 180, 3) := dk_182 0 180 (dk_at dksX7_open_0 13 rfl rfl)
theorem dX7_open_16 : decode cX7_open 16 = .ok (.ifCond .eq 5, 3) := dk_153 0 5 (dk_at dksX7_open_0 16 rfl rfl)
theorem dX7_open_19 : decode cX7_open 19 = .ok (.iconst 0, 1) := dk_3 (dk_at dksX7_open_0 19 rfl rfl)
theorem dX7_open_20 : decode cX7_open 20 = .ok (.ireturn, 1) := dk_172 (dk_at dksX7_open_0 20 rfl rfl)
theorem dX7_open_21 : decode cX7_open 21 = .ok (.aload_n 0, 1) := dk_42 (dk_at dksX7_open_0 21 rfl rfl)
theorem dX7_open_22 : decode cX7_open 22 = .ok (.getfield 13, 3) := dk_180 0 13 (dk_at dksX7_open_1 0 rfl rfl)
theorem dX7_open_25 : decode cX7_open 25 = .ok (.sipush 140, 3) := dk_17 0 140 (dk_at dksX7_open_1 3 rfl rfl)
theorem dX7_open_28 : decode cX7_open 28 = .ok (.iload_n 1, 1) := dk_27 (dk_at dksX7_open_1 6 rfl rfl)
theorem dX7_open_29 : decode cX7_open 29 = .ok (.iadd, 1) := dk_96 (dk_at dksX7_open_1 7 rfl rfl)
theorem dX7_open_30 : decode cX7_open 30 = .ok (.iconst 1, 1) := dk_4 (dk_at dksX7_open_1 8 rfl rfl)
theorem dX7_open_31 : decode cX7_open 31 = .ok (.iastore, 1) := dk_79 (dk_at dksX7_open_1 9 rfl rfl)
theorem dX7_open_32 : decode cX7_open 32 = .ok (.aload_n 0, 1) := dk_42 (dk_at dksX7_open_1 10 rfl rfl)
theorem dX7_open_33 : decode cX7_open 33 = .ok (.invokevirtual 183, 3) := dk_182 0 183 (dk_at dksX7_open_1 11 rfl rfl)
theorem dX7_open_36 : decode cX7_open 36 = .ok (.aload_n 0, 1) := dk_42 (dk_at dksX7_open_1 14 rfl rfl)
theorem dX7_open_37 : decode cX7_open 37 = .ok (.getfield 132, 3) := dk_180 0 132 (dk_at dksX7_open_1 15 rfl rfl)
theorem dX7_open_40 : decode cX7_open 40 = .ok (.invokestatic 123, 3) := dk_184 0 123 (dk_at dksX7_open_1 18 rfl rfl)
theorem dX7_open_43 : decode cX7_open 43 = .ok (.ireturn, 1) := dk_172 (dk_at dksX7_open_1 21 rfl rfl)
abbrev cX7_toll : ByteArray := prog_11_method_41_code
def yX7_toll : MethodName := ⟨RX7, "toll", "(II)I"⟩
def dkwX7_toll_2 : List UInt8 := [180, 0, 13, 7, 27, 96, 46, 62, 42, 180, 0, 13, 7, 27, 96, 28, 79, 42, 182, 0, 183, 29, 172]
abbrev dktX7_toll_2 : List UInt8 := dkwX7_toll_2 ++ []
def dkwX7_toll_1 : List UInt8 := [182, 0, 157, 154, 0, 17, 42, 42, 27, 28, 182, 0, 195, 5, 182, 0, 180, 153, 0, 5, 3, 172, 42]
abbrev dktX7_toll_1 : List UInt8 := dkwX7_toll_1 ++ dktX7_toll_2
def dkwX7_toll_0 : List UInt8 := [42, 3, 181, 0, 1, 42, 28, 3, 16, 99, 184, 0, 84, 154, 0, 7, 4, 167, 0, 4, 3, 4]
abbrev dktX7_toll_0 : List UInt8 := dkwX7_toll_0 ++ dktX7_toll_1
theorem dksX7_toll_0 : cX7_toll.data.toList.drop 0 = dktX7_toll_0 := by decide +kernel
theorem dksX7_toll_1 : cX7_toll.data.toList.drop 22 = dktX7_toll_1 := dk_seg dksX7_toll_0 22 rfl rfl
theorem dksX7_toll_2 : cX7_toll.data.toList.drop 45 = dktX7_toll_2 := dk_seg dksX7_toll_1 23 rfl rfl
theorem dX7_toll_0 : decode cX7_toll 0 = .ok (.aload_n 0, 1) := dk_42 (dk_at dksX7_toll_0 0 rfl rfl)
theorem dX7_toll_1 : decode cX7_toll 1 = .ok (.iconst 0, 1) := dk_3 (dk_at dksX7_toll_0 1 rfl rfl)
theorem dX7_toll_2 : decode cX7_toll 2 = .ok (.putfield 1, 3) := dk_181 0 1 (dk_at dksX7_toll_0 2 rfl rfl)
theorem dX7_toll_5 : decode cX7_toll 5 = .ok (.aload_n 0, 1) := dk_42 (dk_at dksX7_toll_0 5 rfl rfl)
theorem dX7_toll_6 : decode cX7_toll 6 = .ok (.iload_n 2, 1) := dk_28 (dk_at dksX7_toll_0 6 rfl rfl)
theorem dX7_toll_7 : decode cX7_toll 7 = .ok (.iconst 0, 1) := dk_3 (dk_at dksX7_toll_0 7 rfl rfl)
theorem dX7_toll_8 : decode cX7_toll 8 = .ok (.bipush 99, 2) := dk_16 99 (dk_at dksX7_toll_0 8 rfl rfl)
theorem dX7_toll_10 : decode cX7_toll 10 = .ok (.invokestatic 84, 3) := dk_184 0 84 (dk_at dksX7_toll_0 10 rfl rfl)
theorem dX7_toll_13 : decode cX7_toll 13 = .ok (.ifCond .ne 7, 3) := dk_154 0 7 (dk_at dksX7_toll_0 13 rfl rfl)
theorem dX7_toll_16 : decode cX7_toll 16 = .ok (.iconst 1, 1) := dk_4 (dk_at dksX7_toll_0 16 rfl rfl)
theorem dX7_toll_17 : decode cX7_toll 17 = .ok (.goto 4, 3) := dk_167 0 4 (dk_at dksX7_toll_0 17 rfl rfl)
theorem dX7_toll_20 : decode cX7_toll 20 = .ok (.iconst 0, 1) := dk_3 (dk_at dksX7_toll_0 20 rfl rfl)
theorem dX7_toll_21 : decode cX7_toll 21 = .ok (.iconst 1, 1) := dk_4 (dk_at dksX7_toll_0 21 rfl rfl)
theorem dX7_toll_22 : decode cX7_toll 22 = .ok (.invokevirtual 157, 3) := dk_182 0 157 (dk_at dksX7_toll_1 0 rfl rfl)
theorem dX7_toll_25 : decode cX7_toll 25 = .ok (.ifCond .ne 17, 3) := dk_154 0 17 (dk_at dksX7_toll_1 3 rfl rfl)
theorem dX7_toll_28 : decode cX7_toll 28 = .ok (.aload_n 0, 1) := dk_42 (dk_at dksX7_toll_1 6 rfl rfl)
theorem dX7_toll_29 : decode cX7_toll 29 = .ok (.aload_n 0, 1) := dk_42 (dk_at dksX7_toll_1 7 rfl rfl)
theorem dX7_toll_30 : decode cX7_toll 30 = .ok (.iload_n 1, 1) := dk_27 (dk_at dksX7_toll_1 8 rfl rfl)
theorem dX7_toll_31 : decode cX7_toll 31 = .ok (.iload_n 2, 1) := dk_28 (dk_at dksX7_toll_1 9 rfl rfl)
theorem dX7_toll_32 : decode cX7_toll 32 = .ok (.invokevirtual 195, 3) := dk_182 0 195 (dk_at dksX7_toll_1 10 rfl rfl)
theorem dX7_toll_35 : decode cX7_toll 35 = .ok (.iconst 2, 1) := dk_5 (dk_at dksX7_toll_1 13 rfl rfl)
theorem dX7_toll_36 : decode cX7_toll 36 = .ok (.invokevirtual 180, 3) := dk_182 0 180 (dk_at dksX7_toll_1 14 rfl rfl)
theorem dX7_toll_39 : decode cX7_toll 39 = .ok (.ifCond .eq 5, 3) := dk_153 0 5 (dk_at dksX7_toll_1 17 rfl rfl)
theorem dX7_toll_42 : decode cX7_toll 42 = .ok (.iconst 0, 1) := dk_3 (dk_at dksX7_toll_1 20 rfl rfl)
theorem dX7_toll_43 : decode cX7_toll 43 = .ok (.ireturn, 1) := dk_172 (dk_at dksX7_toll_1 21 rfl rfl)
theorem dX7_toll_44 : decode cX7_toll 44 = .ok (.aload_n 0, 1) := dk_42 (dk_at dksX7_toll_1 22 rfl rfl)
theorem dX7_toll_45 : decode cX7_toll 45 = .ok (.getfield 13, 3) := dk_180 0 13 (dk_at dksX7_toll_2 0 rfl rfl)
theorem dX7_toll_48 : decode cX7_toll 48 = .ok (.iconst 4, 1) := dk_7 (dk_at dksX7_toll_2 3 rfl rfl)
theorem dX7_toll_49 : decode cX7_toll 49 = .ok (.iload_n 1, 1) := dk_27 (dk_at dksX7_toll_2 4 rfl rfl)
theorem dX7_toll_50 : decode cX7_toll 50 = .ok (.iadd, 1) := dk_96 (dk_at dksX7_toll_2 5 rfl rfl)
theorem dX7_toll_51 : decode cX7_toll 51 = .ok (.iaload, 1) := dk_46 (dk_at dksX7_toll_2 6 rfl rfl)
theorem dX7_toll_52 : decode cX7_toll 52 = .ok (.istore_n 3, 1) := dk_62 (dk_at dksX7_toll_2 7 rfl rfl)
theorem dX7_toll_53 : decode cX7_toll 53 = .ok (.aload_n 0, 1) := dk_42 (dk_at dksX7_toll_2 8 rfl rfl)
theorem dX7_toll_54 : decode cX7_toll 54 = .ok (.getfield 13, 3) := dk_180 0 13 (dk_at dksX7_toll_2 9 rfl rfl)
theorem dX7_toll_57 : decode cX7_toll 57 = .ok (.iconst 4, 1) := dk_7 (dk_at dksX7_toll_2 12 rfl rfl)
theorem dX7_toll_58 : decode cX7_toll 58 = .ok (.iload_n 1, 1) := dk_27 (dk_at dksX7_toll_2 13 rfl rfl)
theorem dX7_toll_59 : decode cX7_toll 59 = .ok (.iadd, 1) := dk_96 (dk_at dksX7_toll_2 14 rfl rfl)
theorem dX7_toll_60 : decode cX7_toll 60 = .ok (.iload_n 2, 1) := dk_28 (dk_at dksX7_toll_2 15 rfl rfl)
theorem dX7_toll_61 : decode cX7_toll 61 = .ok (.iastore, 1) := dk_79 (dk_at dksX7_toll_2 16 rfl rfl)
theorem dX7_toll_62 : decode cX7_toll 62 = .ok (.aload_n 0, 1) := dk_42 (dk_at dksX7_toll_2 17 rfl rfl)
theorem dX7_toll_63 : decode cX7_toll 63 = .ok (.invokevirtual 183, 3) := dk_182 0 183 (dk_at dksX7_toll_2 18 rfl rfl)
theorem dX7_toll_66 : decode cX7_toll 66 = .ok (.iload_n 3, 1) := dk_29 (dk_at dksX7_toll_2 21 rfl rfl)
theorem dX7_toll_67 : decode cX7_toll 67 = .ok (.ireturn, 1) := dk_172 (dk_at dksX7_toll_2 22 rfl rfl)
abbrev cX7_whyNoToll : ByteArray := prog_11_method_35_code
def yX7_whyNoToll : MethodName := ⟨RX7, "whyNoToll", "(II)I"⟩
def dkwX7_whyNoToll_1 : List UInt8 := [7, 167, 0, 4, 3, 172]
abbrev dktX7_whyNoToll_1 : List UInt8 := dkwX7_whyNoToll_1 ++ []
def dkwX7_whyNoToll_0 : List UInt8 := [42, 27, 182, 0, 171, 154, 0, 7, 4, 167, 0, 20, 42, 180, 0, 13, 7, 27, 96, 46, 28, 160, 0, 7]
abbrev dktX7_whyNoToll_0 : List UInt8 := dkwX7_whyNoToll_0 ++ dktX7_whyNoToll_1
theorem dksX7_whyNoToll_0 : cX7_whyNoToll.data.toList.drop 0 = dktX7_whyNoToll_0 := by decide +kernel
theorem dksX7_whyNoToll_1 : cX7_whyNoToll.data.toList.drop 24 = dktX7_whyNoToll_1 := dk_seg dksX7_whyNoToll_0 24 rfl rfl
theorem dX7_whyNoToll_0 : decode cX7_whyNoToll 0 = .ok (.aload_n 0, 1) := dk_42 (dk_at dksX7_whyNoToll_0 0 rfl rfl)
theorem dX7_whyNoToll_1 : decode cX7_whyNoToll 1 = .ok (.iload_n 1, 1) := dk_27 (dk_at dksX7_whyNoToll_0 1 rfl rfl)
theorem dX7_whyNoToll_2 : decode cX7_whyNoToll 2 = .ok (.invokevirtual 171, 3) := dk_182 0 171 (dk_at dksX7_whyNoToll_0 2 rfl rfl)
theorem dX7_whyNoToll_5 : decode cX7_whyNoToll 5 = .ok (.ifCond .ne 7, 3) := dk_154 0 7 (dk_at dksX7_whyNoToll_0 5 rfl rfl)
theorem dX7_whyNoToll_8 : decode cX7_whyNoToll 8 = .ok (.iconst 1, 1) := dk_4 (dk_at dksX7_whyNoToll_0 8 rfl rfl)
theorem dX7_whyNoToll_9 : decode cX7_whyNoToll 9 = .ok (.goto 20, 3) := dk_167 0 20 (dk_at dksX7_whyNoToll_0 9 rfl rfl)
theorem dX7_whyNoToll_12 : decode cX7_whyNoToll 12 = .ok (.aload_n 0, 1) := dk_42 (dk_at dksX7_whyNoToll_0 12 rfl rfl)
theorem dX7_whyNoToll_13 : decode cX7_whyNoToll 13 = .ok (.getfield 13, 3) := dk_180 0 13 (dk_at dksX7_whyNoToll_0 13 rfl rfl)
theorem dX7_whyNoToll_16 : decode cX7_whyNoToll 16 = .ok (.iconst 4, 1) := dk_7 (dk_at dksX7_whyNoToll_0 16 rfl rfl)
theorem dX7_whyNoToll_17 : decode cX7_whyNoToll 17 = .ok (.iload_n 1, 1) := dk_27 (dk_at dksX7_whyNoToll_0 17 rfl rfl)
theorem dX7_whyNoToll_18 : decode cX7_whyNoToll 18 = .ok (.iadd, 1) := dk_96 (dk_at dksX7_whyNoToll_0 18 rfl rfl)
theorem dX7_whyNoToll_19 : decode cX7_whyNoToll 19 = .ok (.iaload, 1) := dk_46 (dk_at dksX7_whyNoToll_0 19 rfl rfl)
theorem dX7_whyNoToll_20 : decode cX7_whyNoToll 20 = .ok (.iload_n 2, 1) := dk_28 (dk_at dksX7_whyNoToll_0 20 rfl rfl)
theorem dX7_whyNoToll_21 : decode cX7_whyNoToll 21 = .ok (.if_icmp .ne 7, 3) := dk_160 0 7 (dk_at dksX7_whyNoToll_0 21 rfl rfl)
theorem dX7_whyNoToll_24 : decode cX7_whyNoToll 24 = .ok (.iconst 4, 1) := dk_7 (dk_at dksX7_whyNoToll_1 0 rfl rfl)
theorem dX7_whyNoToll_25 : decode cX7_whyNoToll 25 = .ok (.goto 4, 3) := dk_167 0 4 (dk_at dksX7_whyNoToll_1 1 rfl rfl)
theorem dX7_whyNoToll_28 : decode cX7_whyNoToll 28 = .ok (.iconst 0, 1) := dk_3 (dk_at dksX7_whyNoToll_1 4 rfl rfl)
theorem dX7_whyNoToll_29 : decode cX7_whyNoToll 29 = .ok (.ireturn, 1) := dk_172 (dk_at dksX7_whyNoToll_1 5 rfl rfl)
abbrev cX7_why : ByteArray := prog_11_method_42_code
def yX7_why : MethodName := ⟨RX7, "why", "()I"⟩
def dkwX7_why_0 : List UInt8 := [42, 3, 181, 0, 1, 42, 180, 0, 154, 172]
abbrev dktX7_why_0 : List UInt8 := dkwX7_why_0 ++ []
theorem dksX7_why_0 : cX7_why.data.toList.drop 0 = dktX7_why_0 := by decide +kernel
theorem dX7_why_0 : decode cX7_why 0 = .ok (.aload_n 0, 1) := dk_42 (dk_at dksX7_why_0 0 rfl rfl)
theorem dX7_why_1 : decode cX7_why 1 = .ok (.iconst 0, 1) := dk_3 (dk_at dksX7_why_0 1 rfl rfl)
theorem dX7_why_2 : decode cX7_why 2 = .ok (.putfield 1, 3) := dk_181 0 1 (dk_at dksX7_why_0 2 rfl rfl)
theorem dX7_why_5 : decode cX7_why 5 = .ok (.aload_n 0, 1) := dk_42 (dk_at dksX7_why_0 5 rfl rfl)
theorem dX7_why_6 : decode cX7_why 6 = .ok (.getfield 154, 3) := dk_180 0 154 (dk_at dksX7_why_0 6 rfl rfl)
theorem dX7_why_9 : decode cX7_why 9 = .ok (.ireturn, 1) := dk_172 (dk_at dksX7_why_0 9 rfl rfl)
abbrev cX7_latest : ByteArray := prog_11_method_43_code
def yX7_latest : MethodName := ⟨RX7, "latest", "(I)I"⟩
def dkwX7_latest_2 : List UInt8 := [180, 0, 135, 167, 0, 19, 27, 5, 160, 0, 10, 42, 180, 0, 138, 167, 0, 7, 42, 180, 0, 141, 172]
abbrev dktX7_latest_2 : List UInt8 := dkwX7_latest_2 ++ []
def dkwX7_latest_1 : List UInt8 := [153, 0, 5, 3, 172, 27, 154, 0, 10, 42, 180, 0, 132, 167, 0, 31, 27, 4, 160, 0, 10, 42]
abbrev dktX7_latest_1 : List UInt8 := dkwX7_latest_1 ++ dktX7_latest_2
def dkwX7_latest_0 : List UInt8 := [42, 3, 181, 0, 1, 42, 27, 3, 6, 184, 0, 84, 154, 0, 7, 4, 167, 0, 4, 3, 4, 182, 0, 157]
abbrev dktX7_latest_0 : List UInt8 := dkwX7_latest_0 ++ dktX7_latest_1
theorem dksX7_latest_0 : cX7_latest.data.toList.drop 0 = dktX7_latest_0 := by decide +kernel
theorem dksX7_latest_1 : cX7_latest.data.toList.drop 24 = dktX7_latest_1 := dk_seg dksX7_latest_0 24 rfl rfl
theorem dksX7_latest_2 : cX7_latest.data.toList.drop 46 = dktX7_latest_2 := dk_seg dksX7_latest_1 22 rfl rfl
theorem dX7_latest_0 : decode cX7_latest 0 = .ok (.aload_n 0, 1) := dk_42 (dk_at dksX7_latest_0 0 rfl rfl)
theorem dX7_latest_1 : decode cX7_latest 1 = .ok (.iconst 0, 1) := dk_3 (dk_at dksX7_latest_0 1 rfl rfl)
theorem dX7_latest_2 : decode cX7_latest 2 = .ok (.putfield 1, 3) := dk_181 0 1 (dk_at dksX7_latest_0 2 rfl rfl)
theorem dX7_latest_5 : decode cX7_latest 5 = .ok (.aload_n 0, 1) := dk_42 (dk_at dksX7_latest_0 5 rfl rfl)
theorem dX7_latest_6 : decode cX7_latest 6 = .ok (.iload_n 1, 1) := dk_27 (dk_at dksX7_latest_0 6 rfl rfl)
theorem dX7_latest_7 : decode cX7_latest 7 = .ok (.iconst 0, 1) := dk_3 (dk_at dksX7_latest_0 7 rfl rfl)
theorem dX7_latest_8 : decode cX7_latest 8 = .ok (.iconst 3, 1) := dk_6 (dk_at dksX7_latest_0 8 rfl rfl)
theorem dX7_latest_9 : decode cX7_latest 9 = .ok (.invokestatic 84, 3) := dk_184 0 84 (dk_at dksX7_latest_0 9 rfl rfl)
theorem dX7_latest_12 : decode cX7_latest 12 = .ok (.ifCond .ne 7, 3) := dk_154 0 7 (dk_at dksX7_latest_0 12 rfl rfl)
theorem dX7_latest_15 : decode cX7_latest 15 = .ok (.iconst 1, 1) := dk_4 (dk_at dksX7_latest_0 15 rfl rfl)
theorem dX7_latest_16 : decode cX7_latest 16 = .ok (.goto 4, 3) := dk_167 0 4 (dk_at dksX7_latest_0 16 rfl rfl)
theorem dX7_latest_19 : decode cX7_latest 19 = .ok (.iconst 0, 1) := dk_3 (dk_at dksX7_latest_0 19 rfl rfl)
theorem dX7_latest_20 : decode cX7_latest 20 = .ok (.iconst 1, 1) := dk_4 (dk_at dksX7_latest_0 20 rfl rfl)
theorem dX7_latest_21 : decode cX7_latest 21 = .ok (.invokevirtual 157, 3) := dk_182 0 157 (dk_at dksX7_latest_0 21 rfl rfl)
theorem dX7_latest_24 : decode cX7_latest 24 = .ok (.ifCond .eq 5, 3) := dk_153 0 5 (dk_at dksX7_latest_1 0 rfl rfl)
theorem dX7_latest_27 : decode cX7_latest 27 = .ok (.iconst 0, 1) := dk_3 (dk_at dksX7_latest_1 3 rfl rfl)
theorem dX7_latest_28 : decode cX7_latest 28 = .ok (.ireturn, 1) := dk_172 (dk_at dksX7_latest_1 4 rfl rfl)
theorem dX7_latest_29 : decode cX7_latest 29 = .ok (.iload_n 1, 1) := dk_27 (dk_at dksX7_latest_1 5 rfl rfl)
theorem dX7_latest_30 : decode cX7_latest 30 = .ok (.ifCond .ne 10, 3) := dk_154 0 10 (dk_at dksX7_latest_1 6 rfl rfl)
theorem dX7_latest_33 : decode cX7_latest 33 = .ok (.aload_n 0, 1) := dk_42 (dk_at dksX7_latest_1 9 rfl rfl)
theorem dX7_latest_34 : decode cX7_latest 34 = .ok (.getfield 132, 3) := dk_180 0 132 (dk_at dksX7_latest_1 10 rfl rfl)
theorem dX7_latest_37 : decode cX7_latest 37 = .ok (.goto 31, 3) := dk_167 0 31 (dk_at dksX7_latest_1 13 rfl rfl)
theorem dX7_latest_40 : decode cX7_latest 40 = .ok (.iload_n 1, 1) := dk_27 (dk_at dksX7_latest_1 16 rfl rfl)
theorem dX7_latest_41 : decode cX7_latest 41 = .ok (.iconst 1, 1) := dk_4 (dk_at dksX7_latest_1 17 rfl rfl)
theorem dX7_latest_42 : decode cX7_latest 42 = .ok (.if_icmp .ne 10, 3) := dk_160 0 10 (dk_at dksX7_latest_1 18 rfl rfl)
theorem dX7_latest_45 : decode cX7_latest 45 = .ok (.aload_n 0, 1) := dk_42 (dk_at dksX7_latest_1 21 rfl rfl)
theorem dX7_latest_46 : decode cX7_latest 46 = .ok (.getfield 135, 3) := dk_180 0 135 (dk_at dksX7_latest_2 0 rfl rfl)
theorem dX7_latest_49 : decode cX7_latest 49 = .ok (.goto 19, 3) := dk_167 0 19 (dk_at dksX7_latest_2 3 rfl rfl)
theorem dX7_latest_52 : decode cX7_latest 52 = .ok (.iload_n 1, 1) := dk_27 (dk_at dksX7_latest_2 6 rfl rfl)
theorem dX7_latest_53 : decode cX7_latest 53 = .ok (.iconst 2, 1) := dk_5 (dk_at dksX7_latest_2 7 rfl rfl)
theorem dX7_latest_54 : decode cX7_latest 54 = .ok (.if_icmp .ne 10, 3) := dk_160 0 10 (dk_at dksX7_latest_2 8 rfl rfl)
theorem dX7_latest_57 : decode cX7_latest 57 = .ok (.aload_n 0, 1) := dk_42 (dk_at dksX7_latest_2 11 rfl rfl)
theorem dX7_latest_58 : decode cX7_latest 58 = .ok (.getfield 138, 3) := dk_180 0 138 (dk_at dksX7_latest_2 12 rfl rfl)
theorem dX7_latest_61 : decode cX7_latest 61 = .ok (.goto 7, 3) := dk_167 0 7 (dk_at dksX7_latest_2 15 rfl rfl)
theorem dX7_latest_64 : decode cX7_latest 64 = .ok (.aload_n 0, 1) := dk_42 (dk_at dksX7_latest_2 18 rfl rfl)
theorem dX7_latest_65 : decode cX7_latest 65 = .ok (.getfield 141, 3) := dk_180 0 141 (dk_at dksX7_latest_2 19 rfl rfl)
theorem dX7_latest_68 : decode cX7_latest 68 = .ok (.ireturn, 1) := dk_172 (dk_at dksX7_latest_2 22 rfl rfl)
abbrev cX7_feed : ByteArray := prog_11_method_44_code
def yX7_feed : MethodName := ⟨RX7, "feed", "(IIIII)I"⟩
def dkwX7_feed_5 : List UInt8 := [180, 0, 198, 172]
abbrev dktX7_feed_5 : List UInt8 := dkwX7_feed_5 ++ []
def dkwX7_feed_4 : List UInt8 := [100, 122, 145, 84, 132, 6, 1, 167, 255, 213, 42, 89, 180, 0, 198, 16, 20, 96, 181, 0, 198, 42]
abbrev dktX7_feed_4 : List UInt8 := dkwX7_feed_4 ++ dktX7_feed_5
def dkwX7_feed_3 : List UInt8 := [180, 0, 198, 21, 6, 96, 42, 180, 0, 54, 21, 6, 7, 108, 46, 16, 24, 16, 8, 21, 6, 7, 112, 104]
abbrev dktX7_feed_3 : List UInt8 := dkwX7_feed_3 ++ dktX7_feed_4
def dkwX7_feed_2 : List UInt8 := [79, 42, 180, 0, 54, 7, 21, 5, 79, 3, 54, 6, 21, 6, 16, 20, 162, 0, 42, 42, 180, 0, 47, 42]
abbrev dktX7_feed_2 : List UInt8 := dkwX7_feed_2 ++ dktX7_feed_3
def dkwX7_feed_1 : List UInt8 := [3, 27, 79, 42, 180, 0, 54, 4, 28, 79, 42, 180, 0, 54, 5, 29, 79, 42, 180, 0, 54, 6, 21, 4]
abbrev dktX7_feed_1 : List UInt8 := dkwX7_feed_1 ++ dktX7_feed_2
def dkwX7_feed_0 : List UInt8 := [42, 3, 181, 0, 1, 42, 180, 0, 198, 16, 20, 96, 17, 1, 144, 164, 0, 5, 2, 172, 42, 180, 0, 54]
abbrev dktX7_feed_0 : List UInt8 := dkwX7_feed_0 ++ dktX7_feed_1
theorem dksX7_feed_0 : cX7_feed.data.toList.drop 0 = dktX7_feed_0 := by decide +kernel
theorem dksX7_feed_1 : cX7_feed.data.toList.drop 24 = dktX7_feed_1 := dk_seg dksX7_feed_0 24 rfl rfl
theorem dksX7_feed_2 : cX7_feed.data.toList.drop 48 = dktX7_feed_2 := dk_seg dksX7_feed_1 24 rfl rfl
theorem dksX7_feed_3 : cX7_feed.data.toList.drop 72 = dktX7_feed_3 := dk_seg dksX7_feed_2 24 rfl rfl
theorem dksX7_feed_4 : cX7_feed.data.toList.drop 96 = dktX7_feed_4 := dk_seg dksX7_feed_3 24 rfl rfl
theorem dksX7_feed_5 : cX7_feed.data.toList.drop 118 = dktX7_feed_5 := dk_seg dksX7_feed_4 22 rfl rfl
theorem dX7_feed_0 : decode cX7_feed 0 = .ok (.aload_n 0, 1) := dk_42 (dk_at dksX7_feed_0 0 rfl rfl)
theorem dX7_feed_1 : decode cX7_feed 1 = .ok (.iconst 0, 1) := dk_3 (dk_at dksX7_feed_0 1 rfl rfl)
theorem dX7_feed_2 : decode cX7_feed 2 = .ok (.putfield 1, 3) := dk_181 0 1 (dk_at dksX7_feed_0 2 rfl rfl)
theorem dX7_feed_5 : decode cX7_feed 5 = .ok (.aload_n 0, 1) := dk_42 (dk_at dksX7_feed_0 5 rfl rfl)
theorem dX7_feed_6 : decode cX7_feed 6 = .ok (.getfield 198, 3) := dk_180 0 198 (dk_at dksX7_feed_0 6 rfl rfl)
theorem dX7_feed_9 : decode cX7_feed 9 = .ok (.bipush 20, 2) := dk_16 20 (dk_at dksX7_feed_0 9 rfl rfl)
theorem dX7_feed_11 : decode cX7_feed 11 = .ok (.iadd, 1) := dk_96 (dk_at dksX7_feed_0 11 rfl rfl)
theorem dX7_feed_12 : decode cX7_feed 12 = .ok (.sipush 400, 3) := dk_17 1 144 (dk_at dksX7_feed_0 12 rfl rfl)
theorem dX7_feed_15 : decode cX7_feed 15 = .ok (.if_icmp .le 5, 3) := dk_164 0 5 (dk_at dksX7_feed_0 15 rfl rfl)
theorem dX7_feed_18 : decode cX7_feed 18 = .ok (.iconst (-1), 1) := dk_2 (dk_at dksX7_feed_0 18 rfl rfl)
theorem dX7_feed_19 : decode cX7_feed 19 = .ok (.ireturn, 1) := dk_172 (dk_at dksX7_feed_0 19 rfl rfl)
theorem dX7_feed_20 : decode cX7_feed 20 = .ok (.aload_n 0, 1) := dk_42 (dk_at dksX7_feed_0 20 rfl rfl)
theorem dX7_feed_21 : decode cX7_feed 21 = .ok (.getfield 54, 3) := dk_180 0 54 (dk_at dksX7_feed_0 21 rfl rfl)
theorem dX7_feed_24 : decode cX7_feed 24 = .ok (.iconst 0, 1) := dk_3 (dk_at dksX7_feed_1 0 rfl rfl)
theorem dX7_feed_25 : decode cX7_feed 25 = .ok (.iload_n 1, 1) := dk_27 (dk_at dksX7_feed_1 1 rfl rfl)
theorem dX7_feed_26 : decode cX7_feed 26 = .ok (.iastore, 1) := dk_79 (dk_at dksX7_feed_1 2 rfl rfl)
theorem dX7_feed_27 : decode cX7_feed 27 = .ok (.aload_n 0, 1) := dk_42 (dk_at dksX7_feed_1 3 rfl rfl)
theorem dX7_feed_28 : decode cX7_feed 28 = .ok (.getfield 54, 3) := dk_180 0 54 (dk_at dksX7_feed_1 4 rfl rfl)
theorem dX7_feed_31 : decode cX7_feed 31 = .ok (.iconst 1, 1) := dk_4 (dk_at dksX7_feed_1 7 rfl rfl)
theorem dX7_feed_32 : decode cX7_feed 32 = .ok (.iload_n 2, 1) := dk_28 (dk_at dksX7_feed_1 8 rfl rfl)
theorem dX7_feed_33 : decode cX7_feed 33 = .ok (.iastore, 1) := dk_79 (dk_at dksX7_feed_1 9 rfl rfl)
theorem dX7_feed_34 : decode cX7_feed 34 = .ok (.aload_n 0, 1) := dk_42 (dk_at dksX7_feed_1 10 rfl rfl)
theorem dX7_feed_35 : decode cX7_feed 35 = .ok (.getfield 54, 3) := dk_180 0 54 (dk_at dksX7_feed_1 11 rfl rfl)
theorem dX7_feed_38 : decode cX7_feed 38 = .ok (.iconst 2, 1) := dk_5 (dk_at dksX7_feed_1 14 rfl rfl)
theorem dX7_feed_39 : decode cX7_feed 39 = .ok (.iload_n 3, 1) := dk_29 (dk_at dksX7_feed_1 15 rfl rfl)
theorem dX7_feed_40 : decode cX7_feed 40 = .ok (.iastore, 1) := dk_79 (dk_at dksX7_feed_1 16 rfl rfl)
theorem dX7_feed_41 : decode cX7_feed 41 = .ok (.aload_n 0, 1) := dk_42 (dk_at dksX7_feed_1 17 rfl rfl)
theorem dX7_feed_42 : decode cX7_feed 42 = .ok (.getfield 54, 3) := dk_180 0 54 (dk_at dksX7_feed_1 18 rfl rfl)
theorem dX7_feed_45 : decode cX7_feed 45 = .ok (.iconst 3, 1) := dk_6 (dk_at dksX7_feed_1 21 rfl rfl)
theorem dX7_feed_46 : decode cX7_feed 46 = .ok (.iload 4, 2) := dk_21 4 (dk_at dksX7_feed_1 22 rfl rfl)
theorem dX7_feed_48 : decode cX7_feed 48 = .ok (.iastore, 1) := dk_79 (dk_at dksX7_feed_2 0 rfl rfl)
theorem dX7_feed_49 : decode cX7_feed 49 = .ok (.aload_n 0, 1) := dk_42 (dk_at dksX7_feed_2 1 rfl rfl)
theorem dX7_feed_50 : decode cX7_feed 50 = .ok (.getfield 54, 3) := dk_180 0 54 (dk_at dksX7_feed_2 2 rfl rfl)
theorem dX7_feed_53 : decode cX7_feed 53 = .ok (.iconst 4, 1) := dk_7 (dk_at dksX7_feed_2 5 rfl rfl)
theorem dX7_feed_54 : decode cX7_feed 54 = .ok (.iload 5, 2) := dk_21 5 (dk_at dksX7_feed_2 6 rfl rfl)
theorem dX7_feed_56 : decode cX7_feed 56 = .ok (.iastore, 1) := dk_79 (dk_at dksX7_feed_2 8 rfl rfl)
theorem dX7_feed_57 : decode cX7_feed 57 = .ok (.iconst 0, 1) := dk_3 (dk_at dksX7_feed_2 9 rfl rfl)
theorem dX7_feed_58 : decode cX7_feed 58 = .ok (.istore 6, 2) := dk_54 6 (dk_at dksX7_feed_2 10 rfl rfl)
theorem dX7_feed_60 : decode cX7_feed 60 = .ok (.iload 6, 2) := dk_21 6 (dk_at dksX7_feed_2 12 rfl rfl)
theorem dX7_feed_62 : decode cX7_feed 62 = .ok (.bipush 20, 2) := dk_16 20 (dk_at dksX7_feed_2 14 rfl rfl)
theorem dX7_feed_64 : decode cX7_feed 64 = .ok (.if_icmp .ge 42, 3) := dk_162 0 42 (dk_at dksX7_feed_2 16 rfl rfl)
theorem dX7_feed_67 : decode cX7_feed 67 = .ok (.aload_n 0, 1) := dk_42 (dk_at dksX7_feed_2 19 rfl rfl)
theorem dX7_feed_68 : decode cX7_feed 68 = .ok (.getfield 47, 3) := dk_180 0 47 (dk_at dksX7_feed_2 20 rfl rfl)
theorem dX7_feed_71 : decode cX7_feed 71 = .ok (.aload_n 0, 1) := dk_42 (dk_at dksX7_feed_2 23 rfl rfl)
theorem dX7_feed_72 : decode cX7_feed 72 = .ok (.getfield 198, 3) := dk_180 0 198 (dk_at dksX7_feed_3 0 rfl rfl)
theorem dX7_feed_75 : decode cX7_feed 75 = .ok (.iload 6, 2) := dk_21 6 (dk_at dksX7_feed_3 3 rfl rfl)
theorem dX7_feed_77 : decode cX7_feed 77 = .ok (.iadd, 1) := dk_96 (dk_at dksX7_feed_3 5 rfl rfl)
theorem dX7_feed_78 : decode cX7_feed 78 = .ok (.aload_n 0, 1) := dk_42 (dk_at dksX7_feed_3 6 rfl rfl)
theorem dX7_feed_79 : decode cX7_feed 79 = .ok (.getfield 54, 3) := dk_180 0 54 (dk_at dksX7_feed_3 7 rfl rfl)
theorem dX7_feed_82 : decode cX7_feed 82 = .ok (.iload 6, 2) := dk_21 6 (dk_at dksX7_feed_3 10 rfl rfl)
theorem dX7_feed_84 : decode cX7_feed 84 = .ok (.iconst 4, 1) := dk_7 (dk_at dksX7_feed_3 12 rfl rfl)
theorem dX7_feed_85 : decode cX7_feed 85 = .ok (.idiv, 1) := dk_108 (dk_at dksX7_feed_3 13 rfl rfl)
theorem dX7_feed_86 : decode cX7_feed 86 = .ok (.iaload, 1) := dk_46 (dk_at dksX7_feed_3 14 rfl rfl)
theorem dX7_feed_87 : decode cX7_feed 87 = .ok (.bipush 24, 2) := dk_16 24 (dk_at dksX7_feed_3 15 rfl rfl)
theorem dX7_feed_89 : decode cX7_feed 89 = .ok (.bipush 8, 2) := dk_16 8 (dk_at dksX7_feed_3 17 rfl rfl)
theorem dX7_feed_91 : decode cX7_feed 91 = .ok (.iload 6, 2) := dk_21 6 (dk_at dksX7_feed_3 19 rfl rfl)
theorem dX7_feed_93 : decode cX7_feed 93 = .ok (.iconst 4, 1) := dk_7 (dk_at dksX7_feed_3 21 rfl rfl)
theorem dX7_feed_94 : decode cX7_feed 94 = .ok (.irem, 1) := dk_112 (dk_at dksX7_feed_3 22 rfl rfl)
theorem dX7_feed_95 : decode cX7_feed 95 = .ok (.imul, 1) := dk_104 (dk_at dksX7_feed_3 23 rfl rfl)
theorem dX7_feed_96 : decode cX7_feed 96 = .ok (.isub, 1) := dk_100 (dk_at dksX7_feed_4 0 rfl rfl)
theorem dX7_feed_97 : decode cX7_feed 97 = .ok (.ishr, 1) := dk_122 (dk_at dksX7_feed_4 1 rfl rfl)
theorem dX7_feed_98 : decode cX7_feed 98 = .ok (.i2b, 1) := dk_145 (dk_at dksX7_feed_4 2 rfl rfl)
theorem dX7_feed_99 : decode cX7_feed 99 = .ok (.bastore, 1) := dk_84 (dk_at dksX7_feed_4 3 rfl rfl)
theorem dX7_feed_100 : decode cX7_feed 100 = .ok (.iinc 6 1, 3) := dk_132 6 1 (dk_at dksX7_feed_4 4 rfl rfl)
theorem dX7_feed_103 : decode cX7_feed 103 = .ok (.goto (-43), 3) := dk_167 255 213 (dk_at dksX7_feed_4 7 rfl rfl)
theorem dX7_feed_106 : decode cX7_feed 106 = .ok (.aload_n 0, 1) := dk_42 (dk_at dksX7_feed_4 10 rfl rfl)
theorem dX7_feed_107 : decode cX7_feed 107 = .ok (.dup, 1) := dk_89 (dk_at dksX7_feed_4 11 rfl rfl)
theorem dX7_feed_108 : decode cX7_feed 108 = .ok (.getfield 198, 3) := dk_180 0 198 (dk_at dksX7_feed_4 12 rfl rfl)
theorem dX7_feed_111 : decode cX7_feed 111 = .ok (.bipush 20, 2) := dk_16 20 (dk_at dksX7_feed_4 15 rfl rfl)
theorem dX7_feed_113 : decode cX7_feed 113 = .ok (.iadd, 1) := dk_96 (dk_at dksX7_feed_4 17 rfl rfl)
theorem dX7_feed_114 : decode cX7_feed 114 = .ok (.putfield 198, 3) := dk_181 0 198 (dk_at dksX7_feed_4 18 rfl rfl)
theorem dX7_feed_117 : decode cX7_feed 117 = .ok (.aload_n 0, 1) := dk_42 (dk_at dksX7_feed_4 21 rfl rfl)
theorem dX7_feed_118 : decode cX7_feed 118 = .ok (.getfield 198, 3) := dk_180 0 198 (dk_at dksX7_feed_5 0 rfl rfl)
theorem dX7_feed_121 : decode cX7_feed 121 = .ok (.ireturn, 1) := dk_172 (dk_at dksX7_feed_5 3 rfl rfl)
abbrev cX7_end : ByteArray := prog_11_method_45_code
def yX7_end : MethodName := ⟨RX7, "end", "(I)Z"⟩
def dkwX7_end_1 : List UInt8 := [4, 172]
abbrev dktX7_end_1 : List UInt8 := dkwX7_end_1 ++ []
def dkwX7_end_0 : List UInt8 := [42, 3, 181, 0, 1, 27, 155, 0, 11, 27, 42, 180, 0, 198, 164, 0, 5, 3, 172, 42, 27, 181, 0, 198]
abbrev dktX7_end_0 : List UInt8 := dkwX7_end_0 ++ dktX7_end_1
theorem dksX7_end_0 : cX7_end.data.toList.drop 0 = dktX7_end_0 := by decide +kernel
theorem dksX7_end_1 : cX7_end.data.toList.drop 24 = dktX7_end_1 := dk_seg dksX7_end_0 24 rfl rfl
theorem dX7_end_0 : decode cX7_end 0 = .ok (.aload_n 0, 1) := dk_42 (dk_at dksX7_end_0 0 rfl rfl)
theorem dX7_end_1 : decode cX7_end 1 = .ok (.iconst 0, 1) := dk_3 (dk_at dksX7_end_0 1 rfl rfl)
theorem dX7_end_2 : decode cX7_end 2 = .ok (.putfield 1, 3) := dk_181 0 1 (dk_at dksX7_end_0 2 rfl rfl)
theorem dX7_end_5 : decode cX7_end 5 = .ok (.iload_n 1, 1) := dk_27 (dk_at dksX7_end_0 5 rfl rfl)
theorem dX7_end_6 : decode cX7_end 6 = .ok (.ifCond .lt 11, 3) := dk_155 0 11 (dk_at dksX7_end_0 6 rfl rfl)
theorem dX7_end_9 : decode cX7_end 9 = .ok (.iload_n 1, 1) := dk_27 (dk_at dksX7_end_0 9 rfl rfl)
theorem dX7_end_10 : decode cX7_end 10 = .ok (.aload_n 0, 1) := dk_42 (dk_at dksX7_end_0 10 rfl rfl)
theorem dX7_end_11 : decode cX7_end 11 = .ok (.getfield 198, 3) := dk_180 0 198 (dk_at dksX7_end_0 11 rfl rfl)
theorem dX7_end_14 : decode cX7_end 14 = .ok (.if_icmp .le 5, 3) := dk_164 0 5 (dk_at dksX7_end_0 14 rfl rfl)
theorem dX7_end_17 : decode cX7_end 17 = .ok (.iconst 0, 1) := dk_3 (dk_at dksX7_end_0 17 rfl rfl)
theorem dX7_end_18 : decode cX7_end 18 = .ok (.ireturn, 1) := dk_172 (dk_at dksX7_end_0 18 rfl rfl)
theorem dX7_end_19 : decode cX7_end 19 = .ok (.aload_n 0, 1) := dk_42 (dk_at dksX7_end_0 19 rfl rfl)
theorem dX7_end_20 : decode cX7_end 20 = .ok (.iload_n 1, 1) := dk_27 (dk_at dksX7_end_0 20 rfl rfl)
theorem dX7_end_21 : decode cX7_end 21 = .ok (.putfield 198, 3) := dk_181 0 198 (dk_at dksX7_end_0 21 rfl rfl)
theorem dX7_end_24 : decode cX7_end 24 = .ok (.iconst 1, 1) := dk_4 (dk_at dksX7_end_1 0 rfl rfl)
theorem dX7_end_25 : decode cX7_end 25 = .ok (.ireturn, 1) := dk_172 (dk_at dksX7_end_1 1 rfl rfl)
abbrev cX7_fault : ByteArray := prog_11_method_46_code
def yX7_fault : MethodName := ⟨RX7, "fault", "()I"⟩
def dkwX7_fault_0 : List UInt8 := [42, 3, 181, 0, 1, 42, 180, 0, 51, 172]
abbrev dktX7_fault_0 : List UInt8 := dkwX7_fault_0 ++ []
theorem dksX7_fault_0 : cX7_fault.data.toList.drop 0 = dktX7_fault_0 := by decide +kernel
theorem dX7_fault_0 : decode cX7_fault 0 = .ok (.aload_n 0, 1) := dk_42 (dk_at dksX7_fault_0 0 rfl rfl)
theorem dX7_fault_1 : decode cX7_fault 1 = .ok (.iconst 0, 1) := dk_3 (dk_at dksX7_fault_0 1 rfl rfl)
theorem dX7_fault_2 : decode cX7_fault 2 = .ok (.putfield 1, 3) := dk_181 0 1 (dk_at dksX7_fault_0 2 rfl rfl)
theorem dX7_fault_5 : decode cX7_fault 5 = .ok (.aload_n 0, 1) := dk_42 (dk_at dksX7_fault_0 5 rfl rfl)
theorem dX7_fault_6 : decode cX7_fault 6 = .ok (.getfield 51, 3) := dk_180 0 51 (dk_at dksX7_fault_0 6 rfl rfl)
theorem dX7_fault_9 : decode cX7_fault 9 = .ok (.ireturn, 1) := dk_172 (dk_at dksX7_fault_0 9 rfl rfl)
abbrev cX7_acts : ByteArray := prog_11_method_59_code
def yX7_acts : MethodName := ⟨RX7, "acts", "()I"⟩
def dkwX7_acts_6 : List UInt8 := [172]
abbrev dktX7_acts_6 : List UInt8 := dkwX7_acts_6 ++ []
def dkwX7_acts_5 : List UInt8 := [3, 167, 0, 7, 42, 180, 0, 154, 181, 0, 154, 42, 3, 181, 0, 144, 42, 182, 0, 164, 42, 180, 1, 11]
abbrev dktX7_acts_5 : List UInt8 := dkwX7_acts_5 ++ dktX7_acts_6
def dkwX7_acts_4 : List UInt8 := [42, 180, 0, 235, 167, 0, 7, 42, 180, 0, 154, 181, 0, 154, 3, 172, 42, 42, 180, 1, 11, 158, 0, 7]
abbrev dktX7_acts_4 : List UInt8 := dkwX7_acts_4 ++ dktX7_acts_5
def dkwX7_acts_3 : List UInt8 := [153, 0, 40, 42, 180, 0, 20, 3, 42, 180, 0, 13, 3, 184, 0, 147, 42, 42, 180, 0, 235, 158, 0, 10]
abbrev dktX7_acts_3 : List UInt8 := dkwX7_acts_3 ++ dktX7_acts_4
def dkwX7_acts_2 : List UInt8 := [167, 0, 7, 42, 180, 0, 210, 181, 0, 51, 42, 27, 154, 0, 7, 4, 167, 0, 4, 3, 4, 182, 0, 157]
abbrev dktX7_acts_2 : List UInt8 := dkwX7_acts_2 ++ dktX7_acts_3
def dkwX7_acts_1 : List UInt8 := [180, 0, 13, 3, 42, 180, 0, 20, 3, 184, 0, 147, 42, 182, 1, 17, 60, 42, 27, 153, 0, 7, 2]
abbrev dktX7_acts_1 : List UInt8 := dkwX7_acts_1 ++ dktX7_acts_2
def dkwX7_acts_0 : List UInt8 := [42, 3, 181, 0, 1, 42, 42, 180, 0, 198, 181, 0, 204, 42, 3, 181, 0, 198, 42, 3, 181, 0, 201, 42]
abbrev dktX7_acts_0 : List UInt8 := dkwX7_acts_0 ++ dktX7_acts_1
theorem dksX7_acts_0 : cX7_acts.data.toList.drop 0 = dktX7_acts_0 := by decide +kernel
theorem dksX7_acts_1 : cX7_acts.data.toList.drop 24 = dktX7_acts_1 := dk_seg dksX7_acts_0 24 rfl rfl
theorem dksX7_acts_2 : cX7_acts.data.toList.drop 47 = dktX7_acts_2 := dk_seg dksX7_acts_1 23 rfl rfl
theorem dksX7_acts_3 : cX7_acts.data.toList.drop 71 = dktX7_acts_3 := dk_seg dksX7_acts_2 24 rfl rfl
theorem dksX7_acts_4 : cX7_acts.data.toList.drop 95 = dktX7_acts_4 := dk_seg dksX7_acts_3 24 rfl rfl
theorem dksX7_acts_5 : cX7_acts.data.toList.drop 119 = dktX7_acts_5 := dk_seg dksX7_acts_4 24 rfl rfl
theorem dksX7_acts_6 : cX7_acts.data.toList.drop 143 = dktX7_acts_6 := dk_seg dksX7_acts_5 24 rfl rfl
theorem dX7_acts_0 : decode cX7_acts 0 = .ok (.aload_n 0, 1) := dk_42 (dk_at dksX7_acts_0 0 rfl rfl)
theorem dX7_acts_1 : decode cX7_acts 1 = .ok (.iconst 0, 1) := dk_3 (dk_at dksX7_acts_0 1 rfl rfl)
theorem dX7_acts_2 : decode cX7_acts 2 = .ok (.putfield 1, 3) := dk_181 0 1 (dk_at dksX7_acts_0 2 rfl rfl)
theorem dX7_acts_5 : decode cX7_acts 5 = .ok (.aload_n 0, 1) := dk_42 (dk_at dksX7_acts_0 5 rfl rfl)
theorem dX7_acts_6 : decode cX7_acts 6 = .ok (.aload_n 0, 1) := dk_42 (dk_at dksX7_acts_0 6 rfl rfl)
theorem dX7_acts_7 : decode cX7_acts 7 = .ok (.getfield 198, 3) := dk_180 0 198 (dk_at dksX7_acts_0 7 rfl rfl)
theorem dX7_acts_10 : decode cX7_acts 10 = .ok (.putfield 204, 3) := dk_181 0 204 (dk_at dksX7_acts_0 10 rfl rfl)
theorem dX7_acts_13 : decode cX7_acts 13 = .ok (.aload_n 0, 1) := dk_42 (dk_at dksX7_acts_0 13 rfl rfl)
theorem dX7_acts_14 : decode cX7_acts 14 = .ok (.iconst 0, 1) := dk_3 (dk_at dksX7_acts_0 14 rfl rfl)
theorem dX7_acts_15 : decode cX7_acts 15 = .ok (.putfield 198, 3) := dk_181 0 198 (dk_at dksX7_acts_0 15 rfl rfl)
theorem dX7_acts_18 : decode cX7_acts 18 = .ok (.aload_n 0, 1) := dk_42 (dk_at dksX7_acts_0 18 rfl rfl)
theorem dX7_acts_19 : decode cX7_acts 19 = .ok (.iconst 0, 1) := dk_3 (dk_at dksX7_acts_0 19 rfl rfl)
theorem dX7_acts_20 : decode cX7_acts 20 = .ok (.putfield 201, 3) := dk_181 0 201 (dk_at dksX7_acts_0 20 rfl rfl)
theorem dX7_acts_23 : decode cX7_acts 23 = .ok (.aload_n 0, 1) := dk_42 (dk_at dksX7_acts_0 23 rfl rfl)
theorem dX7_acts_24 : decode cX7_acts 24 = .ok (.getfield 13, 3) := dk_180 0 13 (dk_at dksX7_acts_1 0 rfl rfl)
theorem dX7_acts_27 : decode cX7_acts 27 = .ok (.iconst 0, 1) := dk_3 (dk_at dksX7_acts_1 3 rfl rfl)
theorem dX7_acts_28 : decode cX7_acts 28 = .ok (.aload_n 0, 1) := dk_42 (dk_at dksX7_acts_1 4 rfl rfl)
theorem dX7_acts_29 : decode cX7_acts 29 = .ok (.getfield 20, 3) := dk_180 0 20 (dk_at dksX7_acts_1 5 rfl rfl)
theorem dX7_acts_32 : decode cX7_acts 32 = .ok (.iconst 0, 1) := dk_3 (dk_at dksX7_acts_1 8 rfl rfl)
theorem dX7_acts_33 : decode cX7_acts 33 = .ok (.invokestatic 147, 3) := dk_184 0 147 (dk_at dksX7_acts_1 9 rfl rfl)
theorem dX7_acts_36 : decode cX7_acts 36 = .ok (.aload_n 0, 1) := dk_42 (dk_at dksX7_acts_1 12 rfl rfl)
theorem dX7_acts_37 : decode cX7_acts 37 = .ok (.invokevirtual 273, 3) := dk_182 1 17 (dk_at dksX7_acts_1 13 rfl rfl)
theorem dX7_acts_40 : decode cX7_acts 40 = .ok (.istore_n 1, 1) := dk_60 (dk_at dksX7_acts_1 16 rfl rfl)
theorem dX7_acts_41 : decode cX7_acts 41 = .ok (.aload_n 0, 1) := dk_42 (dk_at dksX7_acts_1 17 rfl rfl)
theorem dX7_acts_42 : decode cX7_acts 42 = .ok (.iload_n 1, 1) := dk_27 (dk_at dksX7_acts_1 18 rfl rfl)
theorem dX7_acts_43 : decode cX7_acts 43 = .ok (.ifCond .eq 7, 3) := dk_153 0 7 (dk_at dksX7_acts_1 19 rfl rfl)
theorem dX7_acts_46 : decode cX7_acts 46 = .ok (.iconst (-1), 1) := dk_2 (dk_at dksX7_acts_1 22 rfl rfl)
theorem dX7_acts_47 : decode cX7_acts 47 = .ok (.goto 7, 3) := dk_167 0 7 (dk_at dksX7_acts_2 0 rfl rfl)
theorem dX7_acts_50 : decode cX7_acts 50 = .ok (.aload_n 0, 1) := dk_42 (dk_at dksX7_acts_2 3 rfl rfl)
theorem dX7_acts_51 : decode cX7_acts 51 = .ok (.getfield 210, 3) := dk_180 0 210 (dk_at dksX7_acts_2 4 rfl rfl)
theorem dX7_acts_54 : decode cX7_acts 54 = .ok (.putfield 51, 3) := dk_181 0 51 (dk_at dksX7_acts_2 7 rfl rfl)
theorem dX7_acts_57 : decode cX7_acts 57 = .ok (.aload_n 0, 1) := dk_42 (dk_at dksX7_acts_2 10 rfl rfl)
theorem dX7_acts_58 : decode cX7_acts 58 = .ok (.iload_n 1, 1) := dk_27 (dk_at dksX7_acts_2 11 rfl rfl)
theorem dX7_acts_59 : decode cX7_acts 59 = .ok (.ifCond .ne 7, 3) := dk_154 0 7 (dk_at dksX7_acts_2 12 rfl rfl)
theorem dX7_acts_62 : decode cX7_acts 62 = .ok (.iconst 1, 1) := dk_4 (dk_at dksX7_acts_2 15 rfl rfl)
theorem dX7_acts_63 : decode cX7_acts 63 = .ok (.goto 4, 3) := dk_167 0 4 (dk_at dksX7_acts_2 16 rfl rfl)
theorem dX7_acts_66 : decode cX7_acts 66 = .ok (.iconst 0, 1) := dk_3 (dk_at dksX7_acts_2 19 rfl rfl)
theorem dX7_acts_67 : decode cX7_acts 67 = .ok (.iconst 1, 1) := dk_4 (dk_at dksX7_acts_2 20 rfl rfl)
theorem dX7_acts_68 : decode cX7_acts 68 = .ok (.invokevirtual 157, 3) := dk_182 0 157 (dk_at dksX7_acts_2 21 rfl rfl)
theorem dX7_acts_71 : decode cX7_acts 71 = .ok (.ifCond .eq 40, 3) := dk_153 0 40 (dk_at dksX7_acts_3 0 rfl rfl)
theorem dX7_acts_74 : decode cX7_acts 74 = .ok (.aload_n 0, 1) := dk_42 (dk_at dksX7_acts_3 3 rfl rfl)
theorem dX7_acts_75 : decode cX7_acts 75 = .ok (.getfield 20, 3) := dk_180 0 20 (dk_at dksX7_acts_3 4 rfl rfl)
theorem dX7_acts_78 : decode cX7_acts 78 = .ok (.iconst 0, 1) := dk_3 (dk_at dksX7_acts_3 7 rfl rfl)
theorem dX7_acts_79 : decode cX7_acts 79 = .ok (.aload_n 0, 1) := dk_42 (dk_at dksX7_acts_3 8 rfl rfl)
theorem dX7_acts_80 : decode cX7_acts 80 = .ok (.getfield 13, 3) := dk_180 0 13 (dk_at dksX7_acts_3 9 rfl rfl)
theorem dX7_acts_83 : decode cX7_acts 83 = .ok (.iconst 0, 1) := dk_3 (dk_at dksX7_acts_3 12 rfl rfl)
theorem dX7_acts_84 : decode cX7_acts 84 = .ok (.invokestatic 147, 3) := dk_184 0 147 (dk_at dksX7_acts_3 13 rfl rfl)
theorem dX7_acts_87 : decode cX7_acts 87 = .ok (.aload_n 0, 1) := dk_42 (dk_at dksX7_acts_3 16 rfl rfl)
theorem dX7_acts_88 : decode cX7_acts 88 = .ok (.aload_n 0, 1) := dk_42 (dk_at dksX7_acts_3 17 rfl rfl)
theorem dX7_acts_89 : decode cX7_acts 89 = .ok (.getfield 235, 3) := dk_180 0 235 (dk_at dksX7_acts_3 18 rfl rfl)
theorem dX7_acts_92 : decode cX7_acts 92 = .ok (.ifCond .le 10, 3) := dk_158 0 10 (dk_at dksX7_acts_3 21 rfl rfl)
theorem dX7_acts_95 : decode cX7_acts 95 = .ok (.aload_n 0, 1) := dk_42 (dk_at dksX7_acts_4 0 rfl rfl)
theorem dX7_acts_96 : decode cX7_acts 96 = .ok (.getfield 235, 3) := dk_180 0 235 (dk_at dksX7_acts_4 1 rfl rfl)
theorem dX7_acts_99 : decode cX7_acts 99 = .ok (.goto 7, 3) := dk_167 0 7 (dk_at dksX7_acts_4 4 rfl rfl)
theorem dX7_acts_102 : decode cX7_acts 102 = .ok (.aload_n 0, 1) := dk_42 (dk_at dksX7_acts_4 7 rfl rfl)
theorem dX7_acts_103 : decode cX7_acts 103 = .ok (.getfield 154, 3) := dk_180 0 154 (dk_at dksX7_acts_4 8 rfl rfl)
theorem dX7_acts_106 : decode cX7_acts 106 = .ok (.putfield 154, 3) := dk_181 0 154 (dk_at dksX7_acts_4 11 rfl rfl)
theorem dX7_acts_109 : decode cX7_acts 109 = .ok (.iconst 0, 1) := dk_3 (dk_at dksX7_acts_4 14 rfl rfl)
theorem dX7_acts_110 : decode cX7_acts 110 = .ok (.ireturn, 1) := dk_172 (dk_at dksX7_acts_4 15 rfl rfl)
theorem dX7_acts_111 : decode cX7_acts 111 = .ok (.aload_n 0, 1) := dk_42 (dk_at dksX7_acts_4 16 rfl rfl)
theorem dX7_acts_112 : decode cX7_acts 112 = .ok (.aload_n 0, 1) := dk_42 (dk_at dksX7_acts_4 17 rfl rfl)
theorem dX7_acts_113 : decode cX7_acts 113 = .ok (.getfield 267, 3) := dk_180 1 11 (dk_at dksX7_acts_4 18 rfl rfl)
theorem dX7_acts_116 : decode cX7_acts 116 = .ok (.ifCond .le 7, 3) := dk_158 0 7 (dk_at dksX7_acts_4 21 rfl rfl)
theorem dX7_acts_119 : decode cX7_acts 119 = .ok (.iconst 0, 1) := dk_3 (dk_at dksX7_acts_5 0 rfl rfl)
theorem dX7_acts_120 : decode cX7_acts 120 = .ok (.goto 7, 3) := dk_167 0 7 (dk_at dksX7_acts_5 1 rfl rfl)
theorem dX7_acts_123 : decode cX7_acts 123 = .ok (.aload_n 0, 1) := dk_42 (dk_at dksX7_acts_5 4 rfl rfl)
theorem dX7_acts_124 : decode cX7_acts 124 = .ok (.getfield 154, 3) := dk_180 0 154 (dk_at dksX7_acts_5 5 rfl rfl)
theorem dX7_acts_127 : decode cX7_acts 127 = .ok (.putfield 154, 3) := dk_181 0 154 (dk_at dksX7_acts_5 8 rfl rfl)
theorem dX7_acts_130 : decode cX7_acts 130 = .ok (.aload_n 0, 1) := dk_42 (dk_at dksX7_acts_5 11 rfl rfl)
theorem dX7_acts_131 : decode cX7_acts 131 = .ok (.iconst 0, 1) := dk_3 (dk_at dksX7_acts_5 12 rfl rfl)
theorem dX7_acts_132 : decode cX7_acts 132 = .ok (.putfield 144, 3) := dk_181 0 144 (dk_at dksX7_acts_5 13 rfl rfl)
theorem dX7_acts_135 : decode cX7_acts 135 = .ok (.aload_n 0, 1) := dk_42 (dk_at dksX7_acts_5 16 rfl rfl)
theorem dX7_acts_136 : decode cX7_acts 136 = .ok (.invokevirtual 164, 3) := dk_182 0 164 (dk_at dksX7_acts_5 17 rfl rfl)
theorem dX7_acts_139 : decode cX7_acts 139 = .ok (.aload_n 0, 1) := dk_42 (dk_at dksX7_acts_5 20 rfl rfl)
theorem dX7_acts_140 : decode cX7_acts 140 = .ok (.getfield 267, 3) := dk_180 1 11 (dk_at dksX7_acts_5 21 rfl rfl)
theorem dX7_acts_143 : decode cX7_acts 143 = .ok (.ireturn, 1) := dk_172 (dk_at dksX7_acts_6 0 rfl rfl)
abbrev cX7_readActs : ByteArray := prog_11_method_58_code
def yX7_readActs : MethodName := ⟨RX7, "readActs", "()Z"⟩
def dkwX7_readActs_5 : List UInt8 := [167, 255, 165]
abbrev dktX7_readActs_5 : List UInt8 := dkwX7_readActs_5 ++ []
def dkwX7_readActs_4 : List UInt8 := [172, 42, 16, 59, 16, 59, 182, 0, 207, 154, 0, 5, 3, 172, 42, 89, 180, 0, 201, 4, 96, 181, 0, 201]
abbrev dktX7_readActs_4 : List UInt8 := dkwX7_readActs_4 ++ dktX7_readActs_5
def dkwX7_readActs_3 : List UInt8 := [180, 1, 11, 4, 96, 181, 1, 11, 42, 182, 0, 213, 42, 180, 0, 201, 42, 180, 0, 204, 160, 0, 5, 4]
abbrev dktX7_readActs_3 : List UInt8 := dkwX7_readActs_3 ++ dktX7_readActs_4
def dkwX7_readActs_2 : List UInt8 := [182, 1, 14, 154, 0, 5, 3, 172, 42, 180, 0, 235, 158, 0, 10, 42, 27, 181, 0, 210, 3, 172, 42, 89]
abbrev dktX7_readActs_2 : List UInt8 := dkwX7_readActs_2 ++ dktX7_readActs_3
def dkwX7_readActs_1 : List UInt8 := [160, 0, 5, 4, 172, 42, 182, 0, 213, 42, 180, 0, 201, 60, 42, 180, 1, 11, 16, 14, 159, 0, 10, 42]
abbrev dktX7_readActs_1 : List UInt8 := dkwX7_readActs_1 ++ dktX7_readActs_2
def dkwX7_readActs_0 : List UInt8 := [42, 3, 181, 1, 11, 42, 3, 181, 0, 235, 42, 182, 0, 213, 42, 180, 0, 201, 42, 180, 0, 204]
abbrev dktX7_readActs_0 : List UInt8 := dkwX7_readActs_0 ++ dktX7_readActs_1
theorem dksX7_readActs_0 : cX7_readActs.data.toList.drop 0 = dktX7_readActs_0 := by decide +kernel
theorem dksX7_readActs_1 : cX7_readActs.data.toList.drop 22 = dktX7_readActs_1 := dk_seg dksX7_readActs_0 22 rfl rfl
theorem dksX7_readActs_2 : cX7_readActs.data.toList.drop 46 = dktX7_readActs_2 := dk_seg dksX7_readActs_1 24 rfl rfl
theorem dksX7_readActs_3 : cX7_readActs.data.toList.drop 70 = dktX7_readActs_3 := dk_seg dksX7_readActs_2 24 rfl rfl
theorem dksX7_readActs_4 : cX7_readActs.data.toList.drop 94 = dktX7_readActs_4 := dk_seg dksX7_readActs_3 24 rfl rfl
theorem dksX7_readActs_5 : cX7_readActs.data.toList.drop 118 = dktX7_readActs_5 := dk_seg dksX7_readActs_4 24 rfl rfl
theorem dX7_readActs_0 : decode cX7_readActs 0 = .ok (.aload_n 0, 1) := dk_42 (dk_at dksX7_readActs_0 0 rfl rfl)
theorem dX7_readActs_1 : decode cX7_readActs 1 = .ok (.iconst 0, 1) := dk_3 (dk_at dksX7_readActs_0 1 rfl rfl)
theorem dX7_readActs_2 : decode cX7_readActs 2 = .ok (.putfield 267, 3) := dk_181 1 11 (dk_at dksX7_readActs_0 2 rfl rfl)
theorem dX7_readActs_5 : decode cX7_readActs 5 = .ok (.aload_n 0, 1) := dk_42 (dk_at dksX7_readActs_0 5 rfl rfl)
theorem dX7_readActs_6 : decode cX7_readActs 6 = .ok (.iconst 0, 1) := dk_3 (dk_at dksX7_readActs_0 6 rfl rfl)
theorem dX7_readActs_7 : decode cX7_readActs 7 = .ok (.putfield 235, 3) := dk_181 0 235 (dk_at dksX7_readActs_0 7 rfl rfl)
theorem dX7_readActs_10 : decode cX7_readActs 10 = .ok (.aload_n 0, 1) := dk_42 (dk_at dksX7_readActs_0 10 rfl rfl)
theorem dX7_readActs_11 : decode cX7_readActs 11 = .ok (.invokevirtual 213, 3) := dk_182 0 213 (dk_at dksX7_readActs_0 11 rfl rfl)
theorem dX7_readActs_14 : decode cX7_readActs 14 = .ok (.aload_n 0, 1) := dk_42 (dk_at dksX7_readActs_0 14 rfl rfl)
theorem dX7_readActs_15 : decode cX7_readActs 15 = .ok (.getfield 201, 3) := dk_180 0 201 (dk_at dksX7_readActs_0 15 rfl rfl)
theorem dX7_readActs_18 : decode cX7_readActs 18 = .ok (.aload_n 0, 1) := dk_42 (dk_at dksX7_readActs_0 18 rfl rfl)
theorem dX7_readActs_19 : decode cX7_readActs 19 = .ok (.getfield 204, 3) := dk_180 0 204 (dk_at dksX7_readActs_0 19 rfl rfl)
theorem dX7_readActs_22 : decode cX7_readActs 22 = .ok (.if_icmp .ne 5, 3) := dk_160 0 5 (dk_at dksX7_readActs_1 0 rfl rfl)
theorem dX7_readActs_25 : decode cX7_readActs 25 = .ok (.iconst 1, 1) := dk_4 (dk_at dksX7_readActs_1 3 rfl rfl)
theorem dX7_readActs_26 : decode cX7_readActs 26 = .ok (.ireturn, 1) := dk_172 (dk_at dksX7_readActs_1 4 rfl rfl)
theorem dX7_readActs_27 : decode cX7_readActs 27 = .ok (.aload_n 0, 1) := dk_42 (dk_at dksX7_readActs_1 5 rfl rfl)
theorem dX7_readActs_28 : decode cX7_readActs 28 = .ok (.invokevirtual 213, 3) := dk_182 0 213 (dk_at dksX7_readActs_1 6 rfl rfl)
theorem dX7_readActs_31 : decode cX7_readActs 31 = .ok (.aload_n 0, 1) := dk_42 (dk_at dksX7_readActs_1 9 rfl rfl)
theorem dX7_readActs_32 : decode cX7_readActs 32 = .ok (.getfield 201, 3) := dk_180 0 201 (dk_at dksX7_readActs_1 10 rfl rfl)
theorem dX7_readActs_35 : decode cX7_readActs 35 = .ok (.istore_n 1, 1) := dk_60 (dk_at dksX7_readActs_1 13 rfl rfl)
theorem dX7_readActs_36 : decode cX7_readActs 36 = .ok (.aload_n 0, 1) := dk_42 (dk_at dksX7_readActs_1 14 rfl rfl)
theorem dX7_readActs_37 : decode cX7_readActs 37 = .ok (.getfield 267, 3) := dk_180 1 11 (dk_at dksX7_readActs_1 15 rfl rfl)
theorem dX7_readActs_40 : decode cX7_readActs 40 = .ok (.bipush 14, 2) := dk_16 14 (dk_at dksX7_readActs_1 18 rfl rfl)
theorem dX7_readActs_42 : decode cX7_readActs 42 = .ok (.if_icmp .eq 10, 3) := dk_159 0 10 (dk_at dksX7_readActs_1 20 rfl rfl)
theorem dX7_readActs_45 : decode cX7_readActs 45 = .ok (.aload_n 0, 1) := dk_42 (dk_at dksX7_readActs_1 23 rfl rfl)
theorem dX7_readActs_46 : decode cX7_readActs 46 = .ok (.invokevirtual 270, 3) := dk_182 1 14 (dk_at dksX7_readActs_2 0 rfl rfl)
theorem dX7_readActs_49 : decode cX7_readActs 49 = .ok (.ifCond .ne 5, 3) := dk_154 0 5 (dk_at dksX7_readActs_2 3 rfl rfl)
theorem dX7_readActs_52 : decode cX7_readActs 52 = .ok (.iconst 0, 1) := dk_3 (dk_at dksX7_readActs_2 6 rfl rfl)
theorem dX7_readActs_53 : decode cX7_readActs 53 = .ok (.ireturn, 1) := dk_172 (dk_at dksX7_readActs_2 7 rfl rfl)
theorem dX7_readActs_54 : decode cX7_readActs 54 = .ok (.aload_n 0, 1) := dk_42 (dk_at dksX7_readActs_2 8 rfl rfl)
theorem dX7_readActs_55 : decode cX7_readActs 55 = .ok (.getfield 235, 3) := dk_180 0 235 (dk_at dksX7_readActs_2 9 rfl rfl)
theorem dX7_readActs_58 : decode cX7_readActs 58 = .ok (.ifCond .le 10, 3) := dk_158 0 10 (dk_at dksX7_readActs_2 12 rfl rfl)
theorem dX7_readActs_61 : decode cX7_readActs 61 = .ok (.aload_n 0, 1) := dk_42 (dk_at dksX7_readActs_2 15 rfl rfl)
theorem dX7_readActs_62 : decode cX7_readActs 62 = .ok (.iload_n 1, 1) := dk_27 (dk_at dksX7_readActs_2 16 rfl rfl)
theorem dX7_readActs_63 : decode cX7_readActs 63 = .ok (.putfield 210, 3) := dk_181 0 210 (dk_at dksX7_readActs_2 17 rfl rfl)
theorem dX7_readActs_66 : decode cX7_readActs 66 = .ok (.iconst 0, 1) := dk_3 (dk_at dksX7_readActs_2 20 rfl rfl)
theorem dX7_readActs_67 : decode cX7_readActs 67 = .ok (.ireturn, 1) := dk_172 (dk_at dksX7_readActs_2 21 rfl rfl)
theorem dX7_readActs_68 : decode cX7_readActs 68 = .ok (.aload_n 0, 1) := dk_42 (dk_at dksX7_readActs_2 22 rfl rfl)
theorem dX7_readActs_69 : decode cX7_readActs 69 = .ok (.dup, 1) := dk_89 (dk_at dksX7_readActs_2 23 rfl rfl)
theorem dX7_readActs_70 : decode cX7_readActs 70 = .ok (.getfield 267, 3) := dk_180 1 11 (dk_at dksX7_readActs_3 0 rfl rfl)
theorem dX7_readActs_73 : decode cX7_readActs 73 = .ok (.iconst 1, 1) := dk_4 (dk_at dksX7_readActs_3 3 rfl rfl)
theorem dX7_readActs_74 : decode cX7_readActs 74 = .ok (.iadd, 1) := dk_96 (dk_at dksX7_readActs_3 4 rfl rfl)
theorem dX7_readActs_75 : decode cX7_readActs 75 = .ok (.putfield 267, 3) := dk_181 1 11 (dk_at dksX7_readActs_3 5 rfl rfl)
theorem dX7_readActs_78 : decode cX7_readActs 78 = .ok (.aload_n 0, 1) := dk_42 (dk_at dksX7_readActs_3 8 rfl rfl)
theorem dX7_readActs_79 : decode cX7_readActs 79 = .ok (.invokevirtual 213, 3) := dk_182 0 213 (dk_at dksX7_readActs_3 9 rfl rfl)
theorem dX7_readActs_82 : decode cX7_readActs 82 = .ok (.aload_n 0, 1) := dk_42 (dk_at dksX7_readActs_3 12 rfl rfl)
theorem dX7_readActs_83 : decode cX7_readActs 83 = .ok (.getfield 201, 3) := dk_180 0 201 (dk_at dksX7_readActs_3 13 rfl rfl)
theorem dX7_readActs_86 : decode cX7_readActs 86 = .ok (.aload_n 0, 1) := dk_42 (dk_at dksX7_readActs_3 16 rfl rfl)
theorem dX7_readActs_87 : decode cX7_readActs 87 = .ok (.getfield 204, 3) := dk_180 0 204 (dk_at dksX7_readActs_3 17 rfl rfl)
theorem dX7_readActs_90 : decode cX7_readActs 90 = .ok (.if_icmp .ne 5, 3) := dk_160 0 5 (dk_at dksX7_readActs_3 20 rfl rfl)
theorem dX7_readActs_93 : decode cX7_readActs 93 = .ok (.iconst 1, 1) := dk_4 (dk_at dksX7_readActs_3 23 rfl rfl)
theorem dX7_readActs_94 : decode cX7_readActs 94 = .ok (.ireturn, 1) := dk_172 (dk_at dksX7_readActs_4 0 rfl rfl)
theorem dX7_readActs_95 : decode cX7_readActs 95 = .ok (.aload_n 0, 1) := dk_42 (dk_at dksX7_readActs_4 1 rfl rfl)
theorem dX7_readActs_96 : decode cX7_readActs 96 = .ok (.bipush 59, 2) := dk_16 59 (dk_at dksX7_readActs_4 2 rfl rfl)
theorem dX7_readActs_98 : decode cX7_readActs 98 = .ok (.bipush 59, 2) := dk_16 59 (dk_at dksX7_readActs_4 4 rfl rfl)
theorem dX7_readActs_100 : decode cX7_readActs 100 = .ok (.invokevirtual 207, 3) := dk_182 0 207 (dk_at dksX7_readActs_4 6 rfl rfl)
theorem dX7_readActs_103 : decode cX7_readActs 103 = .ok (.ifCond .ne 5, 3) := dk_154 0 5 (dk_at dksX7_readActs_4 9 rfl rfl)
theorem dX7_readActs_106 : decode cX7_readActs 106 = .ok (.iconst 0, 1) := dk_3 (dk_at dksX7_readActs_4 12 rfl rfl)
theorem dX7_readActs_107 : decode cX7_readActs 107 = .ok (.ireturn, 1) := dk_172 (dk_at dksX7_readActs_4 13 rfl rfl)
theorem dX7_readActs_108 : decode cX7_readActs 108 = .ok (.aload_n 0, 1) := dk_42 (dk_at dksX7_readActs_4 14 rfl rfl)
theorem dX7_readActs_109 : decode cX7_readActs 109 = .ok (.dup, 1) := dk_89 (dk_at dksX7_readActs_4 15 rfl rfl)
theorem dX7_readActs_110 : decode cX7_readActs 110 = .ok (.getfield 201, 3) := dk_180 0 201 (dk_at dksX7_readActs_4 16 rfl rfl)
theorem dX7_readActs_113 : decode cX7_readActs 113 = .ok (.iconst 1, 1) := dk_4 (dk_at dksX7_readActs_4 19 rfl rfl)
theorem dX7_readActs_114 : decode cX7_readActs 114 = .ok (.iadd, 1) := dk_96 (dk_at dksX7_readActs_4 20 rfl rfl)
theorem dX7_readActs_115 : decode cX7_readActs 115 = .ok (.putfield 201, 3) := dk_181 0 201 (dk_at dksX7_readActs_4 21 rfl rfl)
theorem dX7_readActs_118 : decode cX7_readActs 118 = .ok (.goto (-91), 3) := dk_167 255 165 (dk_at dksX7_readActs_5 0 rfl rfl)
abbrev cX7_blanks : ByteArray := prog_11_method_48_code
def yX7_blanks : MethodName := ⟨RX7, "blanks", "()V"⟩
def dkwX7_blanks_1 : List UInt8 := [42, 42, 180, 0, 201, 181, 0, 210, 177]
abbrev dktX7_blanks_1 : List UInt8 := dkwX7_blanks_1 ++ []
def dkwX7_blanks_0 : List UInt8 := [42, 16, 32, 16, 32, 182, 0, 207, 153, 0, 16, 42, 89, 180, 0, 201, 4, 96, 181, 0, 201, 167, 255, 235]
abbrev dktX7_blanks_0 : List UInt8 := dkwX7_blanks_0 ++ dktX7_blanks_1
theorem dksX7_blanks_0 : cX7_blanks.data.toList.drop 0 = dktX7_blanks_0 := by decide +kernel
theorem dksX7_blanks_1 : cX7_blanks.data.toList.drop 24 = dktX7_blanks_1 := dk_seg dksX7_blanks_0 24 rfl rfl
theorem dX7_blanks_0 : decode cX7_blanks 0 = .ok (.aload_n 0, 1) := dk_42 (dk_at dksX7_blanks_0 0 rfl rfl)
theorem dX7_blanks_1 : decode cX7_blanks 1 = .ok (.bipush 32, 2) := dk_16 32 (dk_at dksX7_blanks_0 1 rfl rfl)
theorem dX7_blanks_3 : decode cX7_blanks 3 = .ok (.bipush 32, 2) := dk_16 32 (dk_at dksX7_blanks_0 3 rfl rfl)
theorem dX7_blanks_5 : decode cX7_blanks 5 = .ok (.invokevirtual 207, 3) := dk_182 0 207 (dk_at dksX7_blanks_0 5 rfl rfl)
theorem dX7_blanks_8 : decode cX7_blanks 8 = .ok (.ifCond .eq 16, 3) := dk_153 0 16 (dk_at dksX7_blanks_0 8 rfl rfl)
theorem dX7_blanks_11 : decode cX7_blanks 11 = .ok (.aload_n 0, 1) := dk_42 (dk_at dksX7_blanks_0 11 rfl rfl)
theorem dX7_blanks_12 : decode cX7_blanks 12 = .ok (.dup, 1) := dk_89 (dk_at dksX7_blanks_0 12 rfl rfl)
theorem dX7_blanks_13 : decode cX7_blanks 13 = .ok (.getfield 201, 3) := dk_180 0 201 (dk_at dksX7_blanks_0 13 rfl rfl)
theorem dX7_blanks_16 : decode cX7_blanks 16 = .ok (.iconst 1, 1) := dk_4 (dk_at dksX7_blanks_0 16 rfl rfl)
theorem dX7_blanks_17 : decode cX7_blanks 17 = .ok (.iadd, 1) := dk_96 (dk_at dksX7_blanks_0 17 rfl rfl)
theorem dX7_blanks_18 : decode cX7_blanks 18 = .ok (.putfield 201, 3) := dk_181 0 201 (dk_at dksX7_blanks_0 18 rfl rfl)
theorem dX7_blanks_21 : decode cX7_blanks 21 = .ok (.goto (-21), 3) := dk_167 255 235 (dk_at dksX7_blanks_0 21 rfl rfl)
theorem dX7_blanks_24 : decode cX7_blanks 24 = .ok (.aload_n 0, 1) := dk_42 (dk_at dksX7_blanks_1 0 rfl rfl)
theorem dX7_blanks_25 : decode cX7_blanks 25 = .ok (.aload_n 0, 1) := dk_42 (dk_at dksX7_blanks_1 1 rfl rfl)
theorem dX7_blanks_26 : decode cX7_blanks 26 = .ok (.getfield 201, 3) := dk_180 0 201 (dk_at dksX7_blanks_1 2 rfl rfl)
theorem dX7_blanks_29 : decode cX7_blanks 29 = .ok (.putfield 210, 3) := dk_181 0 210 (dk_at dksX7_blanks_1 5 rfl rfl)
theorem dX7_blanks_32 : decode cX7_blanks 32 = .ok (.return_, 1) := dk_177 (dk_at dksX7_blanks_1 8 rfl rfl)
abbrev cX7_isAt : ByteArray := prog_11_method_47_code
def yX7_isAt : MethodName := ⟨RX7, "isAt", "(II)Z"⟩
def dkwX7_isAt_1 : List UInt8 := [42, 180, 0, 47, 42, 180, 0, 201, 51, 28, 163, 0, 7, 4, 167, 0, 4, 3, 172]
abbrev dktX7_isAt_1 : List UInt8 := dkwX7_isAt_1 ++ []
def dkwX7_isAt_0 : List UInt8 := [42, 180, 0, 201, 42, 180, 0, 204, 162, 0, 33, 42, 180, 0, 47, 42, 180, 0, 201, 51, 27, 161, 0, 20]
abbrev dktX7_isAt_0 : List UInt8 := dkwX7_isAt_0 ++ dktX7_isAt_1
theorem dksX7_isAt_0 : cX7_isAt.data.toList.drop 0 = dktX7_isAt_0 := by decide +kernel
theorem dksX7_isAt_1 : cX7_isAt.data.toList.drop 24 = dktX7_isAt_1 := dk_seg dksX7_isAt_0 24 rfl rfl
theorem dX7_isAt_0 : decode cX7_isAt 0 = .ok (.aload_n 0, 1) := dk_42 (dk_at dksX7_isAt_0 0 rfl rfl)
theorem dX7_isAt_1 : decode cX7_isAt 1 = .ok (.getfield 201, 3) := dk_180 0 201 (dk_at dksX7_isAt_0 1 rfl rfl)
theorem dX7_isAt_4 : decode cX7_isAt 4 = .ok (.aload_n 0, 1) := dk_42 (dk_at dksX7_isAt_0 4 rfl rfl)
theorem dX7_isAt_5 : decode cX7_isAt 5 = .ok (.getfield 204, 3) := dk_180 0 204 (dk_at dksX7_isAt_0 5 rfl rfl)
theorem dX7_isAt_8 : decode cX7_isAt 8 = .ok (.if_icmp .ge 33, 3) := dk_162 0 33 (dk_at dksX7_isAt_0 8 rfl rfl)
theorem dX7_isAt_11 : decode cX7_isAt 11 = .ok (.aload_n 0, 1) := dk_42 (dk_at dksX7_isAt_0 11 rfl rfl)
theorem dX7_isAt_12 : decode cX7_isAt 12 = .ok (.getfield 47, 3) := dk_180 0 47 (dk_at dksX7_isAt_0 12 rfl rfl)
theorem dX7_isAt_15 : decode cX7_isAt 15 = .ok (.aload_n 0, 1) := dk_42 (dk_at dksX7_isAt_0 15 rfl rfl)
theorem dX7_isAt_16 : decode cX7_isAt 16 = .ok (.getfield 201, 3) := dk_180 0 201 (dk_at dksX7_isAt_0 16 rfl rfl)
theorem dX7_isAt_19 : decode cX7_isAt 19 = .ok (.baload, 1) := dk_51 (dk_at dksX7_isAt_0 19 rfl rfl)
theorem dX7_isAt_20 : decode cX7_isAt 20 = .ok (.iload_n 1, 1) := dk_27 (dk_at dksX7_isAt_0 20 rfl rfl)
theorem dX7_isAt_21 : decode cX7_isAt 21 = .ok (.if_icmp .lt 20, 3) := dk_161 0 20 (dk_at dksX7_isAt_0 21 rfl rfl)
theorem dX7_isAt_24 : decode cX7_isAt 24 = .ok (.aload_n 0, 1) := dk_42 (dk_at dksX7_isAt_1 0 rfl rfl)
theorem dX7_isAt_25 : decode cX7_isAt 25 = .ok (.getfield 47, 3) := dk_180 0 47 (dk_at dksX7_isAt_1 1 rfl rfl)
theorem dX7_isAt_28 : decode cX7_isAt 28 = .ok (.aload_n 0, 1) := dk_42 (dk_at dksX7_isAt_1 4 rfl rfl)
theorem dX7_isAt_29 : decode cX7_isAt 29 = .ok (.getfield 201, 3) := dk_180 0 201 (dk_at dksX7_isAt_1 5 rfl rfl)
theorem dX7_isAt_32 : decode cX7_isAt 32 = .ok (.baload, 1) := dk_51 (dk_at dksX7_isAt_1 8 rfl rfl)
theorem dX7_isAt_33 : decode cX7_isAt 33 = .ok (.iload_n 2, 1) := dk_28 (dk_at dksX7_isAt_1 9 rfl rfl)
theorem dX7_isAt_34 : decode cX7_isAt 34 = .ok (.if_icmp .gt 7, 3) := dk_163 0 7 (dk_at dksX7_isAt_1 10 rfl rfl)
theorem dX7_isAt_37 : decode cX7_isAt 37 = .ok (.iconst 1, 1) := dk_4 (dk_at dksX7_isAt_1 13 rfl rfl)
theorem dX7_isAt_38 : decode cX7_isAt 38 = .ok (.goto 4, 3) := dk_167 0 4 (dk_at dksX7_isAt_1 14 rfl rfl)
theorem dX7_isAt_41 : decode cX7_isAt 41 = .ok (.iconst 0, 1) := dk_3 (dk_at dksX7_isAt_1 17 rfl rfl)
theorem dX7_isAt_42 : decode cX7_isAt 42 = .ok (.ireturn, 1) := dk_172 (dk_at dksX7_isAt_1 18 rfl rfl)
abbrev cX7_readAct : ByteArray := prog_11_method_57_code
def yX7_readAct : MethodName := ⟨RX7, "readAct", "()Z"⟩
def dkwX7_readAct_8 : List UInt8 := [96, 42, 180, 0, 57, 4, 46, 79, 4, 172]
abbrev dktX7_readAct_8 : List UInt8 := dkwX7_readAct_8 ++ []
def dkwX7_readAct_7 : List UInt8 := [182, 0, 195, 181, 0, 235, 42, 180, 0, 235, 154, 0, 22, 42, 180, 0, 13, 7, 42, 180, 0, 57, 3, 46]
abbrev dktX7_readAct_7 : List UInt8 := dkwX7_readAct_7 ++ dktX7_readAct_8
def dkwX7_readAct_6 : List UInt8 := [182, 0, 225, 154, 0, 5, 3, 172, 42, 42, 42, 180, 0, 57, 3, 46, 42, 180, 0, 57, 4, 46]
abbrev dktX7_readAct_6 : List UInt8 := dkwX7_readAct_6 ++ dktX7_readAct_7
def dkwX7_readAct_5 : List UInt8 := [182, 0, 243, 153, 0, 25, 42, 3, 3, 16, 15, 182, 0, 225, 153, 0, 14, 42, 4, 3, 16, 99]
abbrev dktX7_readAct_5 : List UInt8 := dkwX7_readAct_5 ++ dktX7_readAct_6
def dkwX7_readAct_4 : List UInt8 := [182, 1, 4, 172, 42, 19, 1, 7, 182, 0, 243, 153, 0, 9, 42, 4, 182, 1, 4, 172, 42, 19, 1, 9]
abbrev dktX7_readAct_4 : List UInt8 := dkwX7_readAct_4 ++ dktX7_readAct_5
def dkwX7_readAct_3 : List UInt8 := [182, 0, 243, 153, 0, 8, 42, 182, 0, 255, 172, 42, 19, 1, 2, 182, 0, 243, 153, 0, 9, 42, 3]
abbrev dktX7_readAct_3 : List UInt8 := dkwX7_readAct_3 ++ dktX7_readAct_4
def dkwX7_readAct_2 : List UInt8 := [4, 182, 0, 248, 172, 42, 18, 251, 182, 0, 243, 153, 0, 9, 42, 5, 182, 0, 248, 172, 42, 18, 253]
abbrev dktX7_readAct_2 : List UInt8 := dkwX7_readAct_2 ++ dktX7_readAct_3
def dkwX7_readAct_1 : List UInt8 := [3, 172, 42, 42, 180, 0, 57, 3, 46, 182, 0, 76, 4, 172, 42, 18, 247, 182, 0, 243, 153, 0, 9, 42]
abbrev dktX7_readAct_1 : List UInt8 := dkwX7_readAct_1 ++ dktX7_readAct_2
def dkwX7_readAct_0 : List UInt8 := [42, 182, 0, 238, 42, 18, 241, 182, 0, 243, 153, 0, 28, 42, 3, 5, 16, 16, 182, 0, 225, 154, 0, 5]
abbrev dktX7_readAct_0 : List UInt8 := dkwX7_readAct_0 ++ dktX7_readAct_1
theorem dksX7_readAct_0 : cX7_readAct.data.toList.drop 0 = dktX7_readAct_0 := by decide +kernel
theorem dksX7_readAct_1 : cX7_readAct.data.toList.drop 24 = dktX7_readAct_1 := dk_seg dksX7_readAct_0 24 rfl rfl
theorem dksX7_readAct_2 : cX7_readAct.data.toList.drop 48 = dktX7_readAct_2 := dk_seg dksX7_readAct_1 24 rfl rfl
theorem dksX7_readAct_3 : cX7_readAct.data.toList.drop 71 = dktX7_readAct_3 := dk_seg dksX7_readAct_2 23 rfl rfl
theorem dksX7_readAct_4 : cX7_readAct.data.toList.drop 94 = dktX7_readAct_4 := dk_seg dksX7_readAct_3 23 rfl rfl
theorem dksX7_readAct_5 : cX7_readAct.data.toList.drop 118 = dktX7_readAct_5 := dk_seg dksX7_readAct_4 24 rfl rfl
theorem dksX7_readAct_6 : cX7_readAct.data.toList.drop 140 = dktX7_readAct_6 := dk_seg dksX7_readAct_5 22 rfl rfl
theorem dksX7_readAct_7 : cX7_readAct.data.toList.drop 162 = dktX7_readAct_7 := dk_seg dksX7_readAct_6 22 rfl rfl
theorem dksX7_readAct_8 : cX7_readAct.data.toList.drop 186 = dktX7_readAct_8 := dk_seg dksX7_readAct_7 24 rfl rfl
theorem dX7_readAct_0 : decode cX7_readAct 0 = .ok (.aload_n 0, 1) := dk_42 (dk_at dksX7_readAct_0 0 rfl rfl)
theorem dX7_readAct_1 : decode cX7_readAct 1 = .ok (.invokevirtual 238, 3) := dk_182 0 238 (dk_at dksX7_readAct_0 1 rfl rfl)
theorem dX7_readAct_4 : decode cX7_readAct 4 = .ok (.aload_n 0, 1) := dk_42 (dk_at dksX7_readAct_0 4 rfl rfl)
theorem dX7_readAct_5 : decode cX7_readAct 5 = .ok (.ldc 241, 2) := dk_18 241 (dk_at dksX7_readAct_0 5 rfl rfl)
theorem dX7_readAct_7 : decode cX7_readAct 7 = .ok (.invokevirtual 243, 3) := dk_182 0 243 (dk_at dksX7_readAct_0 7 rfl rfl)
theorem dX7_readAct_10 : decode cX7_readAct 10 = .ok (.ifCond .eq 28, 3) := dk_153 0 28 (dk_at dksX7_readAct_0 10 rfl rfl)
theorem dX7_readAct_13 : decode cX7_readAct 13 = .ok (.aload_n 0, 1) := dk_42 (dk_at dksX7_readAct_0 13 rfl rfl)
theorem dX7_readAct_14 : decode cX7_readAct 14 = .ok (.iconst 0, 1) := dk_3 (dk_at dksX7_readAct_0 14 rfl rfl)
theorem dX7_readAct_15 : decode cX7_readAct 15 = .ok (.iconst 2, 1) := dk_5 (dk_at dksX7_readAct_0 15 rfl rfl)
theorem dX7_readAct_16 : decode cX7_readAct 16 = .ok (.bipush 16, 2) := dk_16 16 (dk_at dksX7_readAct_0 16 rfl rfl)
theorem dX7_readAct_18 : decode cX7_readAct 18 = .ok (.invokevirtual 225, 3) := dk_182 0 225 (dk_at dksX7_readAct_0 18 rfl rfl)
theorem dX7_readAct_21 : decode cX7_readAct 21 = .ok (.ifCond .ne 5, 3) := dk_154 0 5 (dk_at dksX7_readAct_0 21 rfl rfl)
theorem dX7_readAct_24 : decode cX7_readAct 24 = .ok (.iconst 0, 1) := dk_3 (dk_at dksX7_readAct_1 0 rfl rfl)
theorem dX7_readAct_25 : decode cX7_readAct 25 = .ok (.ireturn, 1) := dk_172 (dk_at dksX7_readAct_1 1 rfl rfl)
theorem dX7_readAct_26 : decode cX7_readAct 26 = .ok (.aload_n 0, 1) := dk_42 (dk_at dksX7_readAct_1 2 rfl rfl)
theorem dX7_readAct_27 : decode cX7_readAct 27 = .ok (.aload_n 0, 1) := dk_42 (dk_at dksX7_readAct_1 3 rfl rfl)
theorem dX7_readAct_28 : decode cX7_readAct 28 = .ok (.getfield 57, 3) := dk_180 0 57 (dk_at dksX7_readAct_1 4 rfl rfl)
theorem dX7_readAct_31 : decode cX7_readAct 31 = .ok (.iconst 0, 1) := dk_3 (dk_at dksX7_readAct_1 7 rfl rfl)
theorem dX7_readAct_32 : decode cX7_readAct 32 = .ok (.iaload, 1) := dk_46 (dk_at dksX7_readAct_1 8 rfl rfl)
theorem dX7_readAct_33 : decode cX7_readAct 33 = .ok (.invokevirtual 76, 3) := dk_182 0 76 (dk_at dksX7_readAct_1 9 rfl rfl)
theorem dX7_readAct_36 : decode cX7_readAct 36 = .ok (.iconst 1, 1) := dk_4 (dk_at dksX7_readAct_1 12 rfl rfl)
theorem dX7_readAct_37 : decode cX7_readAct 37 = .ok (.ireturn, 1) := dk_172 (dk_at dksX7_readAct_1 13 rfl rfl)
theorem dX7_readAct_38 : decode cX7_readAct 38 = .ok (.aload_n 0, 1) := dk_42 (dk_at dksX7_readAct_1 14 rfl rfl)
theorem dX7_readAct_39 : decode cX7_readAct 39 = .ok (.ldc 247, 2) := dk_18 247 (dk_at dksX7_readAct_1 15 rfl rfl)
theorem dX7_readAct_41 : decode cX7_readAct 41 = .ok (.invokevirtual 243, 3) := dk_182 0 243 (dk_at dksX7_readAct_1 17 rfl rfl)
theorem dX7_readAct_44 : decode cX7_readAct 44 = .ok (.ifCond .eq 9, 3) := dk_153 0 9 (dk_at dksX7_readAct_1 20 rfl rfl)
theorem dX7_readAct_47 : decode cX7_readAct 47 = .ok (.aload_n 0, 1) := dk_42 (dk_at dksX7_readAct_1 23 rfl rfl)
theorem dX7_readAct_48 : decode cX7_readAct 48 = .ok (.iconst 1, 1) := dk_4 (dk_at dksX7_readAct_2 0 rfl rfl)
theorem dX7_readAct_49 : decode cX7_readAct 49 = .ok (.invokevirtual 248, 3) := dk_182 0 248 (dk_at dksX7_readAct_2 1 rfl rfl)
theorem dX7_readAct_52 : decode cX7_readAct 52 = .ok (.ireturn, 1) := dk_172 (dk_at dksX7_readAct_2 4 rfl rfl)
theorem dX7_readAct_53 : decode cX7_readAct 53 = .ok (.aload_n 0, 1) := dk_42 (dk_at dksX7_readAct_2 5 rfl rfl)
theorem dX7_readAct_54 : decode cX7_readAct 54 = .ok (.ldc 251, 2) := dk_18 251 (dk_at dksX7_readAct_2 6 rfl rfl)
theorem dX7_readAct_56 : decode cX7_readAct 56 = .ok (.invokevirtual 243, 3) := dk_182 0 243 (dk_at dksX7_readAct_2 8 rfl rfl)
theorem dX7_readAct_59 : decode cX7_readAct 59 = .ok (.ifCond .eq 9, 3) := dk_153 0 9 (dk_at dksX7_readAct_2 11 rfl rfl)
theorem dX7_readAct_62 : decode cX7_readAct 62 = .ok (.aload_n 0, 1) := dk_42 (dk_at dksX7_readAct_2 14 rfl rfl)
theorem dX7_readAct_63 : decode cX7_readAct 63 = .ok (.iconst 2, 1) := dk_5 (dk_at dksX7_readAct_2 15 rfl rfl)
theorem dX7_readAct_64 : decode cX7_readAct 64 = .ok (.invokevirtual 248, 3) := dk_182 0 248 (dk_at dksX7_readAct_2 16 rfl rfl)
theorem dX7_readAct_67 : decode cX7_readAct 67 = .ok (.ireturn, 1) := dk_172 (dk_at dksX7_readAct_2 19 rfl rfl)
theorem dX7_readAct_68 : decode cX7_readAct 68 = .ok (.aload_n 0, 1) := dk_42 (dk_at dksX7_readAct_2 20 rfl rfl)
theorem dX7_readAct_69 : decode cX7_readAct 69 = .ok (.ldc 253, 2) := dk_18 253 (dk_at dksX7_readAct_2 21 rfl rfl)
theorem dX7_readAct_71 : decode cX7_readAct 71 = .ok (.invokevirtual 243, 3) := dk_182 0 243 (dk_at dksX7_readAct_3 0 rfl rfl)
theorem dX7_readAct_74 : decode cX7_readAct 74 = .ok (.ifCond .eq 8, 3) := dk_153 0 8 (dk_at dksX7_readAct_3 3 rfl rfl)
theorem dX7_readAct_77 : decode cX7_readAct 77 = .ok (.aload_n 0, 1) := dk_42 (dk_at dksX7_readAct_3 6 rfl rfl)
theorem dX7_readAct_78 : decode cX7_readAct 78 = .ok (.invokevirtual 255, 3) := dk_182 0 255 (dk_at dksX7_readAct_3 7 rfl rfl)
theorem dX7_readAct_81 : decode cX7_readAct 81 = .ok (.ireturn, 1) := dk_172 (dk_at dksX7_readAct_3 10 rfl rfl)
theorem dX7_readAct_82 : decode cX7_readAct 82 = .ok (.aload_n 0, 1) := dk_42 (dk_at dksX7_readAct_3 11 rfl rfl)
theorem dX7_readAct_83 : decode cX7_readAct 83 = .ok (.ldc_w 258, 3) := dk_19 1 2 (dk_at dksX7_readAct_3 12 rfl rfl)
theorem dX7_readAct_86 : decode cX7_readAct 86 = .ok (.invokevirtual 243, 3) := dk_182 0 243 (dk_at dksX7_readAct_3 15 rfl rfl)
theorem dX7_readAct_89 : decode cX7_readAct 89 = .ok (.ifCond .eq 9, 3) := dk_153 0 9 (dk_at dksX7_readAct_3 18 rfl rfl)
theorem dX7_readAct_92 : decode cX7_readAct 92 = .ok (.aload_n 0, 1) := dk_42 (dk_at dksX7_readAct_3 21 rfl rfl)
theorem dX7_readAct_93 : decode cX7_readAct 93 = .ok (.iconst 0, 1) := dk_3 (dk_at dksX7_readAct_3 22 rfl rfl)
theorem dX7_readAct_94 : decode cX7_readAct 94 = .ok (.invokevirtual 260, 3) := dk_182 1 4 (dk_at dksX7_readAct_4 0 rfl rfl)
theorem dX7_readAct_97 : decode cX7_readAct 97 = .ok (.ireturn, 1) := dk_172 (dk_at dksX7_readAct_4 3 rfl rfl)
theorem dX7_readAct_98 : decode cX7_readAct 98 = .ok (.aload_n 0, 1) := dk_42 (dk_at dksX7_readAct_4 4 rfl rfl)
theorem dX7_readAct_99 : decode cX7_readAct 99 = .ok (.ldc_w 263, 3) := dk_19 1 7 (dk_at dksX7_readAct_4 5 rfl rfl)
theorem dX7_readAct_102 : decode cX7_readAct 102 = .ok (.invokevirtual 243, 3) := dk_182 0 243 (dk_at dksX7_readAct_4 8 rfl rfl)
theorem dX7_readAct_105 : decode cX7_readAct 105 = .ok (.ifCond .eq 9, 3) := dk_153 0 9 (dk_at dksX7_readAct_4 11 rfl rfl)
theorem dX7_readAct_108 : decode cX7_readAct 108 = .ok (.aload_n 0, 1) := dk_42 (dk_at dksX7_readAct_4 14 rfl rfl)
theorem dX7_readAct_109 : decode cX7_readAct 109 = .ok (.iconst 1, 1) := dk_4 (dk_at dksX7_readAct_4 15 rfl rfl)
theorem dX7_readAct_110 : decode cX7_readAct 110 = .ok (.invokevirtual 260, 3) := dk_182 1 4 (dk_at dksX7_readAct_4 16 rfl rfl)
theorem dX7_readAct_113 : decode cX7_readAct 113 = .ok (.ireturn, 1) := dk_172 (dk_at dksX7_readAct_4 19 rfl rfl)
theorem dX7_readAct_114 : decode cX7_readAct 114 = .ok (.aload_n 0, 1) := dk_42 (dk_at dksX7_readAct_4 20 rfl rfl)
theorem dX7_readAct_115 : decode cX7_readAct 115 = .ok (.ldc_w 265, 3) := dk_19 1 9 (dk_at dksX7_readAct_4 21 rfl rfl)
theorem dX7_readAct_118 : decode cX7_readAct 118 = .ok (.invokevirtual 243, 3) := dk_182 0 243 (dk_at dksX7_readAct_5 0 rfl rfl)
theorem dX7_readAct_121 : decode cX7_readAct 121 = .ok (.ifCond .eq 25, 3) := dk_153 0 25 (dk_at dksX7_readAct_5 3 rfl rfl)
theorem dX7_readAct_124 : decode cX7_readAct 124 = .ok (.aload_n 0, 1) := dk_42 (dk_at dksX7_readAct_5 6 rfl rfl)
theorem dX7_readAct_125 : decode cX7_readAct 125 = .ok (.iconst 0, 1) := dk_3 (dk_at dksX7_readAct_5 7 rfl rfl)
theorem dX7_readAct_126 : decode cX7_readAct 126 = .ok (.iconst 0, 1) := dk_3 (dk_at dksX7_readAct_5 8 rfl rfl)
theorem dX7_readAct_127 : decode cX7_readAct 127 = .ok (.bipush 15, 2) := dk_16 15 (dk_at dksX7_readAct_5 9 rfl rfl)
theorem dX7_readAct_129 : decode cX7_readAct 129 = .ok (.invokevirtual 225, 3) := dk_182 0 225 (dk_at dksX7_readAct_5 11 rfl rfl)
theorem dX7_readAct_132 : decode cX7_readAct 132 = .ok (.ifCond .eq 14, 3) := dk_153 0 14 (dk_at dksX7_readAct_5 14 rfl rfl)
theorem dX7_readAct_135 : decode cX7_readAct 135 = .ok (.aload_n 0, 1) := dk_42 (dk_at dksX7_readAct_5 17 rfl rfl)
theorem dX7_readAct_136 : decode cX7_readAct 136 = .ok (.iconst 1, 1) := dk_4 (dk_at dksX7_readAct_5 18 rfl rfl)
theorem dX7_readAct_137 : decode cX7_readAct 137 = .ok (.iconst 0, 1) := dk_3 (dk_at dksX7_readAct_5 19 rfl rfl)
theorem dX7_readAct_138 : decode cX7_readAct 138 = .ok (.bipush 99, 2) := dk_16 99 (dk_at dksX7_readAct_5 20 rfl rfl)
theorem dX7_readAct_140 : decode cX7_readAct 140 = .ok (.invokevirtual 225, 3) := dk_182 0 225 (dk_at dksX7_readAct_6 0 rfl rfl)
theorem dX7_readAct_143 : decode cX7_readAct 143 = .ok (.ifCond .ne 5, 3) := dk_154 0 5 (dk_at dksX7_readAct_6 3 rfl rfl)
theorem dX7_readAct_146 : decode cX7_readAct 146 = .ok (.iconst 0, 1) := dk_3 (dk_at dksX7_readAct_6 6 rfl rfl)
theorem dX7_readAct_147 : decode cX7_readAct 147 = .ok (.ireturn, 1) := dk_172 (dk_at dksX7_readAct_6 7 rfl rfl)
theorem dX7_readAct_148 : decode cX7_readAct 148 = .ok (.aload_n 0, 1) := dk_42 (dk_at dksX7_readAct_6 8 rfl rfl)
theorem dX7_readAct_149 : decode cX7_readAct 149 = .ok (.aload_n 0, 1) := dk_42 (dk_at dksX7_readAct_6 9 rfl rfl)
theorem dX7_readAct_150 : decode cX7_readAct 150 = .ok (.aload_n 0, 1) := dk_42 (dk_at dksX7_readAct_6 10 rfl rfl)
theorem dX7_readAct_151 : decode cX7_readAct 151 = .ok (.getfield 57, 3) := dk_180 0 57 (dk_at dksX7_readAct_6 11 rfl rfl)
theorem dX7_readAct_154 : decode cX7_readAct 154 = .ok (.iconst 0, 1) := dk_3 (dk_at dksX7_readAct_6 14 rfl rfl)
theorem dX7_readAct_155 : decode cX7_readAct 155 = .ok (.iaload, 1) := dk_46 (dk_at dksX7_readAct_6 15 rfl rfl)
theorem dX7_readAct_156 : decode cX7_readAct 156 = .ok (.aload_n 0, 1) := dk_42 (dk_at dksX7_readAct_6 16 rfl rfl)
theorem dX7_readAct_157 : decode cX7_readAct 157 = .ok (.getfield 57, 3) := dk_180 0 57 (dk_at dksX7_readAct_6 17 rfl rfl)
theorem dX7_readAct_160 : decode cX7_readAct 160 = .ok (.iconst 1, 1) := dk_4 (dk_at dksX7_readAct_6 20 rfl rfl)
theorem dX7_readAct_161 : decode cX7_readAct 161 = .ok (.iaload, 1) := dk_46 (dk_at dksX7_readAct_6 21 rfl rfl)
theorem dX7_readAct_162 : decode cX7_readAct 162 = .ok (.invokevirtual 195, 3) := dk_182 0 195 (dk_at dksX7_readAct_7 0 rfl rfl)
theorem dX7_readAct_165 : decode cX7_readAct 165 = .ok (.putfield 235, 3) := dk_181 0 235 (dk_at dksX7_readAct_7 3 rfl rfl)
theorem dX7_readAct_168 : decode cX7_readAct 168 = .ok (.aload_n 0, 1) := dk_42 (dk_at dksX7_readAct_7 6 rfl rfl)
theorem dX7_readAct_169 : decode cX7_readAct 169 = .ok (.getfield 235, 3) := dk_180 0 235 (dk_at dksX7_readAct_7 7 rfl rfl)
theorem dX7_readAct_172 : decode cX7_readAct 172 = .ok (.ifCond .ne 22, 3) := dk_154 0 22 (dk_at dksX7_readAct_7 10 rfl rfl)
theorem dX7_readAct_175 : decode cX7_readAct 175 = .ok (.aload_n 0, 1) := dk_42 (dk_at dksX7_readAct_7 13 rfl rfl)
theorem dX7_readAct_176 : decode cX7_readAct 176 = .ok (.getfield 13, 3) := dk_180 0 13 (dk_at dksX7_readAct_7 14 rfl rfl)
theorem dX7_readAct_179 : decode cX7_readAct 179 = .ok (.iconst 4, 1) := dk_7 (dk_at dksX7_readAct_7 17 rfl rfl)
theorem dX7_readAct_180 : decode cX7_readAct 180 = .ok (.aload_n 0, 1) := dk_42 (dk_at dksX7_readAct_7 18 rfl rfl)
theorem dX7_readAct_181 : decode cX7_readAct 181 = .ok (.getfield 57, 3) := dk_180 0 57 (dk_at dksX7_readAct_7 19 rfl rfl)
theorem dX7_readAct_184 : decode cX7_readAct 184 = .ok (.iconst 0, 1) := dk_3 (dk_at dksX7_readAct_7 22 rfl rfl)
theorem dX7_readAct_185 : decode cX7_readAct 185 = .ok (.iaload, 1) := dk_46 (dk_at dksX7_readAct_7 23 rfl rfl)
theorem dX7_readAct_186 : decode cX7_readAct 186 = .ok (.iadd, 1) := dk_96 (dk_at dksX7_readAct_8 0 rfl rfl)
theorem dX7_readAct_187 : decode cX7_readAct 187 = .ok (.aload_n 0, 1) := dk_42 (dk_at dksX7_readAct_8 1 rfl rfl)
theorem dX7_readAct_188 : decode cX7_readAct 188 = .ok (.getfield 57, 3) := dk_180 0 57 (dk_at dksX7_readAct_8 2 rfl rfl)
theorem dX7_readAct_191 : decode cX7_readAct 191 = .ok (.iconst 1, 1) := dk_4 (dk_at dksX7_readAct_8 5 rfl rfl)
theorem dX7_readAct_192 : decode cX7_readAct 192 = .ok (.iaload, 1) := dk_46 (dk_at dksX7_readAct_8 6 rfl rfl)
theorem dX7_readAct_193 : decode cX7_readAct 193 = .ok (.iastore, 1) := dk_79 (dk_at dksX7_readAct_8 7 rfl rfl)
theorem dX7_readAct_194 : decode cX7_readAct 194 = .ok (.iconst 1, 1) := dk_4 (dk_at dksX7_readAct_8 8 rfl rfl)
theorem dX7_readAct_195 : decode cX7_readAct 195 = .ok (.ireturn, 1) := dk_172 (dk_at dksX7_readAct_8 9 rfl rfl)
abbrev cX7_letters : ByteArray := prog_11_method_49_code
def yX7_letters : MethodName := ⟨RX7, "letters", "()V"⟩
def dkwX7_letters_1 : List UInt8 := [181, 0, 201, 167, 255, 235, 177]
abbrev dktX7_letters_1 : List UInt8 := dkwX7_letters_1 ++ []
def dkwX7_letters_0 : List UInt8 := [42, 182, 0, 213, 42, 16, 97, 16, 122, 182, 0, 207, 153, 0, 16, 42, 89, 180, 0, 201, 4, 96]
abbrev dktX7_letters_0 : List UInt8 := dkwX7_letters_0 ++ dktX7_letters_1
theorem dksX7_letters_0 : cX7_letters.data.toList.drop 0 = dktX7_letters_0 := by decide +kernel
theorem dksX7_letters_1 : cX7_letters.data.toList.drop 22 = dktX7_letters_1 := dk_seg dksX7_letters_0 22 rfl rfl
theorem dX7_letters_0 : decode cX7_letters 0 = .ok (.aload_n 0, 1) := dk_42 (dk_at dksX7_letters_0 0 rfl rfl)
theorem dX7_letters_1 : decode cX7_letters 1 = .ok (.invokevirtual 213, 3) := dk_182 0 213 (dk_at dksX7_letters_0 1 rfl rfl)
theorem dX7_letters_4 : decode cX7_letters 4 = .ok (.aload_n 0, 1) := dk_42 (dk_at dksX7_letters_0 4 rfl rfl)
theorem dX7_letters_5 : decode cX7_letters 5 = .ok (.bipush 97, 2) := dk_16 97 (dk_at dksX7_letters_0 5 rfl rfl)
theorem dX7_letters_7 : decode cX7_letters 7 = .ok (.bipush 122, 2) := dk_16 122 (dk_at dksX7_letters_0 7 rfl rfl)
theorem dX7_letters_9 : decode cX7_letters 9 = .ok (.invokevirtual 207, 3) := dk_182 0 207 (dk_at dksX7_letters_0 9 rfl rfl)
theorem dX7_letters_12 : decode cX7_letters 12 = .ok (.ifCond .eq 16, 3) := dk_153 0 16 (dk_at dksX7_letters_0 12 rfl rfl)
theorem dX7_letters_15 : decode cX7_letters 15 = .ok (.aload_n 0, 1) := dk_42 (dk_at dksX7_letters_0 15 rfl rfl)
theorem dX7_letters_16 : decode cX7_letters 16 = .ok (.dup, 1) := dk_89 (dk_at dksX7_letters_0 16 rfl rfl)
theorem dX7_letters_17 : decode cX7_letters 17 = .ok (.getfield 201, 3) := dk_180 0 201 (dk_at dksX7_letters_0 17 rfl rfl)
theorem dX7_letters_20 : decode cX7_letters 20 = .ok (.iconst 1, 1) := dk_4 (dk_at dksX7_letters_0 20 rfl rfl)
theorem dX7_letters_21 : decode cX7_letters 21 = .ok (.iadd, 1) := dk_96 (dk_at dksX7_letters_0 21 rfl rfl)
theorem dX7_letters_22 : decode cX7_letters 22 = .ok (.putfield 201, 3) := dk_181 0 201 (dk_at dksX7_letters_1 0 rfl rfl)
theorem dX7_letters_25 : decode cX7_letters 25 = .ok (.goto (-21), 3) := dk_167 255 235 (dk_at dksX7_letters_1 3 rfl rfl)
theorem dX7_letters_28 : decode cX7_letters 28 = .ok (.return_, 1) := dk_177 (dk_at dksX7_letters_1 6 rfl rfl)
abbrev cX7_isWord : ByteArray := prog_11_method_50_code
def yX7_isWord : MethodName := ⟨RX7, "isWord", "(Ljava/lang/String;)Z"⟩
def dkwX7_isWord_2 : List UInt8 := [29, 182, 0, 221, 160, 0, 7, 4, 167, 0, 4, 3, 61, 132, 3, 1, 167, 255, 216, 28, 172]
abbrev dktX7_isWord_2 : List UInt8 := dkwX7_isWord_2 ++ []
def dkwX7_isWord_1 : List UInt8 := [28, 153, 0, 42, 29, 43, 182, 0, 216, 162, 0, 34, 42, 180, 0, 47, 42, 180, 0, 210, 29, 96, 51, 43]
abbrev dktX7_isWord_1 : List UInt8 := dkwX7_isWord_1 ++ dktX7_isWord_2
def dkwX7_isWord_0 : List UInt8 := [42, 180, 0, 201, 42, 180, 0, 210, 100, 43, 182, 0, 216, 160, 0, 7, 4, 167, 0, 4, 3, 61, 3, 62]
abbrev dktX7_isWord_0 : List UInt8 := dkwX7_isWord_0 ++ dktX7_isWord_1
theorem dksX7_isWord_0 : cX7_isWord.data.toList.drop 0 = dktX7_isWord_0 := by decide +kernel
theorem dksX7_isWord_1 : cX7_isWord.data.toList.drop 24 = dktX7_isWord_1 := dk_seg dksX7_isWord_0 24 rfl rfl
theorem dksX7_isWord_2 : cX7_isWord.data.toList.drop 48 = dktX7_isWord_2 := dk_seg dksX7_isWord_1 24 rfl rfl
theorem dX7_isWord_0 : decode cX7_isWord 0 = .ok (.aload_n 0, 1) := dk_42 (dk_at dksX7_isWord_0 0 rfl rfl)
theorem dX7_isWord_1 : decode cX7_isWord 1 = .ok (.getfield 201, 3) := dk_180 0 201 (dk_at dksX7_isWord_0 1 rfl rfl)
theorem dX7_isWord_4 : decode cX7_isWord 4 = .ok (.aload_n 0, 1) := dk_42 (dk_at dksX7_isWord_0 4 rfl rfl)
theorem dX7_isWord_5 : decode cX7_isWord 5 = .ok (.getfield 210, 3) := dk_180 0 210 (dk_at dksX7_isWord_0 5 rfl rfl)
theorem dX7_isWord_8 : decode cX7_isWord 8 = .ok (.isub, 1) := dk_100 (dk_at dksX7_isWord_0 8 rfl rfl)
theorem dX7_isWord_9 : decode cX7_isWord 9 = .ok (.aload_n 1, 1) := dk_43 (dk_at dksX7_isWord_0 9 rfl rfl)
theorem dX7_isWord_10 : decode cX7_isWord 10 = .ok (.invokevirtual 216, 3) := dk_182 0 216 (dk_at dksX7_isWord_0 10 rfl rfl)
theorem dX7_isWord_13 : decode cX7_isWord 13 = .ok (.if_icmp .ne 7, 3) := dk_160 0 7 (dk_at dksX7_isWord_0 13 rfl rfl)
theorem dX7_isWord_16 : decode cX7_isWord 16 = .ok (.iconst 1, 1) := dk_4 (dk_at dksX7_isWord_0 16 rfl rfl)
theorem dX7_isWord_17 : decode cX7_isWord 17 = .ok (.goto 4, 3) := dk_167 0 4 (dk_at dksX7_isWord_0 17 rfl rfl)
theorem dX7_isWord_20 : decode cX7_isWord 20 = .ok (.iconst 0, 1) := dk_3 (dk_at dksX7_isWord_0 20 rfl rfl)
theorem dX7_isWord_21 : decode cX7_isWord 21 = .ok (.istore_n 2, 1) := dk_61 (dk_at dksX7_isWord_0 21 rfl rfl)
theorem dX7_isWord_22 : decode cX7_isWord 22 = .ok (.iconst 0, 1) := dk_3 (dk_at dksX7_isWord_0 22 rfl rfl)
theorem dX7_isWord_23 : decode cX7_isWord 23 = .ok (.istore_n 3, 1) := dk_62 (dk_at dksX7_isWord_0 23 rfl rfl)
theorem dX7_isWord_24 : decode cX7_isWord 24 = .ok (.iload_n 2, 1) := dk_28 (dk_at dksX7_isWord_1 0 rfl rfl)
theorem dX7_isWord_25 : decode cX7_isWord 25 = .ok (.ifCond .eq 42, 3) := dk_153 0 42 (dk_at dksX7_isWord_1 1 rfl rfl)
theorem dX7_isWord_28 : decode cX7_isWord 28 = .ok (.iload_n 3, 1) := dk_29 (dk_at dksX7_isWord_1 4 rfl rfl)
theorem dX7_isWord_29 : decode cX7_isWord 29 = .ok (.aload_n 1, 1) := dk_43 (dk_at dksX7_isWord_1 5 rfl rfl)
theorem dX7_isWord_30 : decode cX7_isWord 30 = .ok (.invokevirtual 216, 3) := dk_182 0 216 (dk_at dksX7_isWord_1 6 rfl rfl)
theorem dX7_isWord_33 : decode cX7_isWord 33 = .ok (.if_icmp .ge 34, 3) := dk_162 0 34 (dk_at dksX7_isWord_1 9 rfl rfl)
theorem dX7_isWord_36 : decode cX7_isWord 36 = .ok (.aload_n 0, 1) := dk_42 (dk_at dksX7_isWord_1 12 rfl rfl)
theorem dX7_isWord_37 : decode cX7_isWord 37 = .ok (.getfield 47, 3) := dk_180 0 47 (dk_at dksX7_isWord_1 13 rfl rfl)
theorem dX7_isWord_40 : decode cX7_isWord 40 = .ok (.aload_n 0, 1) := dk_42 (dk_at dksX7_isWord_1 16 rfl rfl)
theorem dX7_isWord_41 : decode cX7_isWord 41 = .ok (.getfield 210, 3) := dk_180 0 210 (dk_at dksX7_isWord_1 17 rfl rfl)
theorem dX7_isWord_44 : decode cX7_isWord 44 = .ok (.iload_n 3, 1) := dk_29 (dk_at dksX7_isWord_1 20 rfl rfl)
theorem dX7_isWord_45 : decode cX7_isWord 45 = .ok (.iadd, 1) := dk_96 (dk_at dksX7_isWord_1 21 rfl rfl)
theorem dX7_isWord_46 : decode cX7_isWord 46 = .ok (.baload, 1) := dk_51 (dk_at dksX7_isWord_1 22 rfl rfl)
theorem dX7_isWord_47 : decode cX7_isWord 47 = .ok (.aload_n 1, 1) := dk_43 (dk_at dksX7_isWord_1 23 rfl rfl)
theorem dX7_isWord_48 : decode cX7_isWord 48 = .ok (.iload_n 3, 1) := dk_29 (dk_at dksX7_isWord_2 0 rfl rfl)
theorem dX7_isWord_49 : decode cX7_isWord 49 = .ok (.invokevirtual 221, 3) := dk_182 0 221 (dk_at dksX7_isWord_2 1 rfl rfl)
theorem dX7_isWord_52 : decode cX7_isWord 52 = .ok (.if_icmp .ne 7, 3) := dk_160 0 7 (dk_at dksX7_isWord_2 4 rfl rfl)
theorem dX7_isWord_55 : decode cX7_isWord 55 = .ok (.iconst 1, 1) := dk_4 (dk_at dksX7_isWord_2 7 rfl rfl)
theorem dX7_isWord_56 : decode cX7_isWord 56 = .ok (.goto 4, 3) := dk_167 0 4 (dk_at dksX7_isWord_2 8 rfl rfl)
theorem dX7_isWord_59 : decode cX7_isWord 59 = .ok (.iconst 0, 1) := dk_3 (dk_at dksX7_isWord_2 11 rfl rfl)
theorem dX7_isWord_60 : decode cX7_isWord 60 = .ok (.istore_n 2, 1) := dk_61 (dk_at dksX7_isWord_2 12 rfl rfl)
theorem dX7_isWord_61 : decode cX7_isWord 61 = .ok (.iinc 3 1, 3) := dk_132 3 1 (dk_at dksX7_isWord_2 13 rfl rfl)
theorem dX7_isWord_64 : decode cX7_isWord 64 = .ok (.goto (-40), 3) := dk_167 255 216 (dk_at dksX7_isWord_2 16 rfl rfl)
theorem dX7_isWord_67 : decode cX7_isWord 67 = .ok (.iload_n 2, 1) := dk_28 (dk_at dksX7_isWord_2 19 rfl rfl)
theorem dX7_isWord_68 : decode cX7_isWord 68 = .ok (.ireturn, 1) := dk_172 (dk_at dksX7_isWord_2 20 rfl rfl)
abbrev cX7_reads : ByteArray := prog_11_method_51_code
def yX7_reads : MethodName := ⟨RX7, "reads", "(III)Z"⟩
def dkwX7_reads_4 : List UInt8 := [21, 4, 28, 29, 184, 0, 84, 153, 0, 7, 4, 167, 0, 4, 3, 172]
abbrev dktX7_reads_4 : List UInt8 := dkwX7_reads_4 ++ []
def dkwX7_reads_3 : List UInt8 := [180, 0, 57, 27, 21, 4, 79, 42, 180, 0, 201, 42, 180, 0, 210, 100, 4, 5, 184, 0, 84, 153, 0, 17]
abbrev dktX7_reads_3 : List UInt8 := dkwX7_reads_3 ++ dktX7_reads_4
def dkwX7_reads_2 : List UInt8 := [16, 48, 100, 167, 0, 5, 21, 4, 54, 4, 42, 89, 180, 0, 201, 4, 96, 181, 0, 201, 167, 255, 197, 42]
abbrev dktX7_reads_2 : List UInt8 := dkwX7_reads_2 ++ dktX7_reads_3
def dkwX7_reads_1 : List UInt8 := [180, 0, 210, 100, 5, 162, 0, 24, 16, 10, 21, 4, 104, 42, 180, 0, 47, 42, 180, 0, 201, 51, 96]
abbrev dktX7_reads_1 : List UInt8 := dkwX7_reads_1 ++ dktX7_reads_2
def dkwX7_reads_0 : List UInt8 := [42, 182, 0, 213, 3, 54, 4, 42, 16, 48, 16, 57, 182, 0, 207, 153, 0, 54, 42, 180, 0, 201, 42]
abbrev dktX7_reads_0 : List UInt8 := dkwX7_reads_0 ++ dktX7_reads_1
theorem dksX7_reads_0 : cX7_reads.data.toList.drop 0 = dktX7_reads_0 := by decide +kernel
theorem dksX7_reads_1 : cX7_reads.data.toList.drop 23 = dktX7_reads_1 := dk_seg dksX7_reads_0 23 rfl rfl
theorem dksX7_reads_2 : cX7_reads.data.toList.drop 46 = dktX7_reads_2 := dk_seg dksX7_reads_1 23 rfl rfl
theorem dksX7_reads_3 : cX7_reads.data.toList.drop 70 = dktX7_reads_3 := dk_seg dksX7_reads_2 24 rfl rfl
theorem dksX7_reads_4 : cX7_reads.data.toList.drop 94 = dktX7_reads_4 := dk_seg dksX7_reads_3 24 rfl rfl
theorem dX7_reads_0 : decode cX7_reads 0 = .ok (.aload_n 0, 1) := dk_42 (dk_at dksX7_reads_0 0 rfl rfl)
theorem dX7_reads_1 : decode cX7_reads 1 = .ok (.invokevirtual 213, 3) := dk_182 0 213 (dk_at dksX7_reads_0 1 rfl rfl)
theorem dX7_reads_4 : decode cX7_reads 4 = .ok (.iconst 0, 1) := dk_3 (dk_at dksX7_reads_0 4 rfl rfl)
theorem dX7_reads_5 : decode cX7_reads 5 = .ok (.istore 4, 2) := dk_54 4 (dk_at dksX7_reads_0 5 rfl rfl)
theorem dX7_reads_7 : decode cX7_reads 7 = .ok (.aload_n 0, 1) := dk_42 (dk_at dksX7_reads_0 7 rfl rfl)
theorem dX7_reads_8 : decode cX7_reads 8 = .ok (.bipush 48, 2) := dk_16 48 (dk_at dksX7_reads_0 8 rfl rfl)
theorem dX7_reads_10 : decode cX7_reads 10 = .ok (.bipush 57, 2) := dk_16 57 (dk_at dksX7_reads_0 10 rfl rfl)
theorem dX7_reads_12 : decode cX7_reads 12 = .ok (.invokevirtual 207, 3) := dk_182 0 207 (dk_at dksX7_reads_0 12 rfl rfl)
theorem dX7_reads_15 : decode cX7_reads 15 = .ok (.ifCond .eq 54, 3) := dk_153 0 54 (dk_at dksX7_reads_0 15 rfl rfl)
theorem dX7_reads_18 : decode cX7_reads 18 = .ok (.aload_n 0, 1) := dk_42 (dk_at dksX7_reads_0 18 rfl rfl)
theorem dX7_reads_19 : decode cX7_reads 19 = .ok (.getfield 201, 3) := dk_180 0 201 (dk_at dksX7_reads_0 19 rfl rfl)
theorem dX7_reads_22 : decode cX7_reads 22 = .ok (.aload_n 0, 1) := dk_42 (dk_at dksX7_reads_0 22 rfl rfl)
theorem dX7_reads_23 : decode cX7_reads 23 = .ok (.getfield 210, 3) := dk_180 0 210 (dk_at dksX7_reads_1 0 rfl rfl)
theorem dX7_reads_26 : decode cX7_reads 26 = .ok (.isub, 1) := dk_100 (dk_at dksX7_reads_1 3 rfl rfl)
theorem dX7_reads_27 : decode cX7_reads 27 = .ok (.iconst 2, 1) := dk_5 (dk_at dksX7_reads_1 4 rfl rfl)
theorem dX7_reads_28 : decode cX7_reads 28 = .ok (.if_icmp .ge 24, 3) := dk_162 0 24 (dk_at dksX7_reads_1 5 rfl rfl)
theorem dX7_reads_31 : decode cX7_reads 31 = .ok (.bipush 10, 2) := dk_16 10 (dk_at dksX7_reads_1 8 rfl rfl)
theorem dX7_reads_33 : decode cX7_reads 33 = .ok (.iload 4, 2) := dk_21 4 (dk_at dksX7_reads_1 10 rfl rfl)
theorem dX7_reads_35 : decode cX7_reads 35 = .ok (.imul, 1) := dk_104 (dk_at dksX7_reads_1 12 rfl rfl)
theorem dX7_reads_36 : decode cX7_reads 36 = .ok (.aload_n 0, 1) := dk_42 (dk_at dksX7_reads_1 13 rfl rfl)
theorem dX7_reads_37 : decode cX7_reads 37 = .ok (.getfield 47, 3) := dk_180 0 47 (dk_at dksX7_reads_1 14 rfl rfl)
theorem dX7_reads_40 : decode cX7_reads 40 = .ok (.aload_n 0, 1) := dk_42 (dk_at dksX7_reads_1 17 rfl rfl)
theorem dX7_reads_41 : decode cX7_reads 41 = .ok (.getfield 201, 3) := dk_180 0 201 (dk_at dksX7_reads_1 18 rfl rfl)
theorem dX7_reads_44 : decode cX7_reads 44 = .ok (.baload, 1) := dk_51 (dk_at dksX7_reads_1 21 rfl rfl)
theorem dX7_reads_45 : decode cX7_reads 45 = .ok (.iadd, 1) := dk_96 (dk_at dksX7_reads_1 22 rfl rfl)
theorem dX7_reads_46 : decode cX7_reads 46 = .ok (.bipush 48, 2) := dk_16 48 (dk_at dksX7_reads_2 0 rfl rfl)
theorem dX7_reads_48 : decode cX7_reads 48 = .ok (.isub, 1) := dk_100 (dk_at dksX7_reads_2 2 rfl rfl)
theorem dX7_reads_49 : decode cX7_reads 49 = .ok (.goto 5, 3) := dk_167 0 5 (dk_at dksX7_reads_2 3 rfl rfl)
theorem dX7_reads_52 : decode cX7_reads 52 = .ok (.iload 4, 2) := dk_21 4 (dk_at dksX7_reads_2 6 rfl rfl)
theorem dX7_reads_54 : decode cX7_reads 54 = .ok (.istore 4, 2) := dk_54 4 (dk_at dksX7_reads_2 8 rfl rfl)
theorem dX7_reads_56 : decode cX7_reads 56 = .ok (.aload_n 0, 1) := dk_42 (dk_at dksX7_reads_2 10 rfl rfl)
theorem dX7_reads_57 : decode cX7_reads 57 = .ok (.dup, 1) := dk_89 (dk_at dksX7_reads_2 11 rfl rfl)
theorem dX7_reads_58 : decode cX7_reads 58 = .ok (.getfield 201, 3) := dk_180 0 201 (dk_at dksX7_reads_2 12 rfl rfl)
theorem dX7_reads_61 : decode cX7_reads 61 = .ok (.iconst 1, 1) := dk_4 (dk_at dksX7_reads_2 15 rfl rfl)
theorem dX7_reads_62 : decode cX7_reads 62 = .ok (.iadd, 1) := dk_96 (dk_at dksX7_reads_2 16 rfl rfl)
theorem dX7_reads_63 : decode cX7_reads 63 = .ok (.putfield 201, 3) := dk_181 0 201 (dk_at dksX7_reads_2 17 rfl rfl)
theorem dX7_reads_66 : decode cX7_reads 66 = .ok (.goto (-59), 3) := dk_167 255 197 (dk_at dksX7_reads_2 20 rfl rfl)
theorem dX7_reads_69 : decode cX7_reads 69 = .ok (.aload_n 0, 1) := dk_42 (dk_at dksX7_reads_2 23 rfl rfl)
theorem dX7_reads_70 : decode cX7_reads 70 = .ok (.getfield 57, 3) := dk_180 0 57 (dk_at dksX7_reads_3 0 rfl rfl)
theorem dX7_reads_73 : decode cX7_reads 73 = .ok (.iload_n 1, 1) := dk_27 (dk_at dksX7_reads_3 3 rfl rfl)
theorem dX7_reads_74 : decode cX7_reads 74 = .ok (.iload 4, 2) := dk_21 4 (dk_at dksX7_reads_3 4 rfl rfl)
theorem dX7_reads_76 : decode cX7_reads 76 = .ok (.iastore, 1) := dk_79 (dk_at dksX7_reads_3 6 rfl rfl)
theorem dX7_reads_77 : decode cX7_reads 77 = .ok (.aload_n 0, 1) := dk_42 (dk_at dksX7_reads_3 7 rfl rfl)
theorem dX7_reads_78 : decode cX7_reads 78 = .ok (.getfield 201, 3) := dk_180 0 201 (dk_at dksX7_reads_3 8 rfl rfl)
theorem dX7_reads_81 : decode cX7_reads 81 = .ok (.aload_n 0, 1) := dk_42 (dk_at dksX7_reads_3 11 rfl rfl)
theorem dX7_reads_82 : decode cX7_reads 82 = .ok (.getfield 210, 3) := dk_180 0 210 (dk_at dksX7_reads_3 12 rfl rfl)
theorem dX7_reads_85 : decode cX7_reads 85 = .ok (.isub, 1) := dk_100 (dk_at dksX7_reads_3 15 rfl rfl)
theorem dX7_reads_86 : decode cX7_reads 86 = .ok (.iconst 1, 1) := dk_4 (dk_at dksX7_reads_3 16 rfl rfl)
theorem dX7_reads_87 : decode cX7_reads 87 = .ok (.iconst 2, 1) := dk_5 (dk_at dksX7_reads_3 17 rfl rfl)
theorem dX7_reads_88 : decode cX7_reads 88 = .ok (.invokestatic 84, 3) := dk_184 0 84 (dk_at dksX7_reads_3 18 rfl rfl)
theorem dX7_reads_91 : decode cX7_reads 91 = .ok (.ifCond .eq 17, 3) := dk_153 0 17 (dk_at dksX7_reads_3 21 rfl rfl)
theorem dX7_reads_94 : decode cX7_reads 94 = .ok (.iload 4, 2) := dk_21 4 (dk_at dksX7_reads_4 0 rfl rfl)
theorem dX7_reads_96 : decode cX7_reads 96 = .ok (.iload_n 2, 1) := dk_28 (dk_at dksX7_reads_4 2 rfl rfl)
theorem dX7_reads_97 : decode cX7_reads 97 = .ok (.iload_n 3, 1) := dk_29 (dk_at dksX7_reads_4 3 rfl rfl)
theorem dX7_reads_98 : decode cX7_reads 98 = .ok (.invokestatic 84, 3) := dk_184 0 84 (dk_at dksX7_reads_4 4 rfl rfl)
theorem dX7_reads_101 : decode cX7_reads 101 = .ok (.ifCond .eq 7, 3) := dk_153 0 7 (dk_at dksX7_reads_4 7 rfl rfl)
theorem dX7_reads_104 : decode cX7_reads 104 = .ok (.iconst 1, 1) := dk_4 (dk_at dksX7_reads_4 10 rfl rfl)
theorem dX7_reads_105 : decode cX7_reads 105 = .ok (.goto 4, 3) := dk_167 0 4 (dk_at dksX7_reads_4 11 rfl rfl)
theorem dX7_reads_108 : decode cX7_reads 108 = .ok (.iconst 0, 1) := dk_3 (dk_at dksX7_reads_4 14 rfl rfl)
theorem dX7_reads_109 : decode cX7_reads 109 = .ok (.ireturn, 1) := dk_172 (dk_at dksX7_reads_4 15 rfl rfl)
abbrev cX7_readsPlace : ByteArray := prog_11_method_56_code
def yX7_readsPlace : MethodName := ⟨RX7, "readsPlace", "(I)Z"⟩
def dkwX7_readsPlace_2 : List UInt8 := [79, 4, 172]
abbrev dktX7_readsPlace_2 : List UInt8 := dkwX7_readsPlace_2 ++ []
def dkwX7_readsPlace_1 : List UInt8 := [182, 0, 177, 181, 0, 235, 42, 180, 0, 235, 154, 0, 15, 42, 180, 0, 13, 27, 42, 180, 0, 57, 3, 46]
abbrev dktX7_readsPlace_1 : List UInt8 := dkwX7_readsPlace_1 ++ dktX7_readsPlace_2
def dkwX7_readsPlace_0 : List UInt8 := [42, 3, 3, 16, 15, 182, 0, 225, 154, 0, 5, 3, 172, 42, 42, 42, 180, 0, 57, 3, 46, 27]
abbrev dktX7_readsPlace_0 : List UInt8 := dkwX7_readsPlace_0 ++ dktX7_readsPlace_1
theorem dksX7_readsPlace_0 : cX7_readsPlace.data.toList.drop 0 = dktX7_readsPlace_0 := by decide +kernel
theorem dksX7_readsPlace_1 : cX7_readsPlace.data.toList.drop 22 = dktX7_readsPlace_1 := dk_seg dksX7_readsPlace_0 22 rfl rfl
theorem dksX7_readsPlace_2 : cX7_readsPlace.data.toList.drop 46 = dktX7_readsPlace_2 := dk_seg dksX7_readsPlace_1 24 rfl rfl
theorem dX7_readsPlace_0 : decode cX7_readsPlace 0 = .ok (.aload_n 0, 1) := dk_42 (dk_at dksX7_readsPlace_0 0 rfl rfl)
theorem dX7_readsPlace_1 : decode cX7_readsPlace 1 = .ok (.iconst 0, 1) := dk_3 (dk_at dksX7_readsPlace_0 1 rfl rfl)
theorem dX7_readsPlace_2 : decode cX7_readsPlace 2 = .ok (.iconst 0, 1) := dk_3 (dk_at dksX7_readsPlace_0 2 rfl rfl)
theorem dX7_readsPlace_3 : decode cX7_readsPlace 3 = .ok (.bipush 15, 2) := dk_16 15 (dk_at dksX7_readsPlace_0 3 rfl rfl)
theorem dX7_readsPlace_5 : decode cX7_readsPlace 5 = .ok (.invokevirtual 225, 3) := dk_182 0 225 (dk_at dksX7_readsPlace_0 5 rfl rfl)
theorem dX7_readsPlace_8 : decode cX7_readsPlace 8 = .ok (.ifCond .ne 5, 3) := dk_154 0 5 (dk_at dksX7_readsPlace_0 8 rfl rfl)
theorem dX7_readsPlace_11 : decode cX7_readsPlace 11 = .ok (.iconst 0, 1) := dk_3 (dk_at dksX7_readsPlace_0 11 rfl rfl)
theorem dX7_readsPlace_12 : decode cX7_readsPlace 12 = .ok (.ireturn, 1) := dk_172 (dk_at dksX7_readsPlace_0 12 rfl rfl)
theorem dX7_readsPlace_13 : decode cX7_readsPlace 13 = .ok (.aload_n 0, 1) := dk_42 (dk_at dksX7_readsPlace_0 13 rfl rfl)
theorem dX7_readsPlace_14 : decode cX7_readsPlace 14 = .ok (.aload_n 0, 1) := dk_42 (dk_at dksX7_readsPlace_0 14 rfl rfl)
theorem dX7_readsPlace_15 : decode cX7_readsPlace 15 = .ok (.aload_n 0, 1) := dk_42 (dk_at dksX7_readsPlace_0 15 rfl rfl)
theorem dX7_readsPlace_16 : decode cX7_readsPlace 16 = .ok (.getfield 57, 3) := dk_180 0 57 (dk_at dksX7_readsPlace_0 16 rfl rfl)
theorem dX7_readsPlace_19 : decode cX7_readsPlace 19 = .ok (.iconst 0, 1) := dk_3 (dk_at dksX7_readsPlace_0 19 rfl rfl)
theorem dX7_readsPlace_20 : decode cX7_readsPlace 20 = .ok (.iaload, 1) := dk_46 (dk_at dksX7_readsPlace_0 20 rfl rfl)
theorem dX7_readsPlace_21 : decode cX7_readsPlace 21 = .ok (.iload_n 1, 1) := dk_27 (dk_at dksX7_readsPlace_0 21 rfl rfl)
theorem dX7_readsPlace_22 : decode cX7_readsPlace 22 = .ok (.invokevirtual 177, 3) := dk_182 0 177 (dk_at dksX7_readsPlace_1 0 rfl rfl)
theorem dX7_readsPlace_25 : decode cX7_readsPlace 25 = .ok (.putfield 235, 3) := dk_181 0 235 (dk_at dksX7_readsPlace_1 3 rfl rfl)
theorem dX7_readsPlace_28 : decode cX7_readsPlace 28 = .ok (.aload_n 0, 1) := dk_42 (dk_at dksX7_readsPlace_1 6 rfl rfl)
theorem dX7_readsPlace_29 : decode cX7_readsPlace 29 = .ok (.getfield 235, 3) := dk_180 0 235 (dk_at dksX7_readsPlace_1 7 rfl rfl)
theorem dX7_readsPlace_32 : decode cX7_readsPlace 32 = .ok (.ifCond .ne 15, 3) := dk_154 0 15 (dk_at dksX7_readsPlace_1 10 rfl rfl)
theorem dX7_readsPlace_35 : decode cX7_readsPlace 35 = .ok (.aload_n 0, 1) := dk_42 (dk_at dksX7_readsPlace_1 13 rfl rfl)
theorem dX7_readsPlace_36 : decode cX7_readsPlace 36 = .ok (.getfield 13, 3) := dk_180 0 13 (dk_at dksX7_readsPlace_1 14 rfl rfl)
theorem dX7_readsPlace_39 : decode cX7_readsPlace 39 = .ok (.iload_n 1, 1) := dk_27 (dk_at dksX7_readsPlace_1 17 rfl rfl)
theorem dX7_readsPlace_40 : decode cX7_readsPlace 40 = .ok (.aload_n 0, 1) := dk_42 (dk_at dksX7_readsPlace_1 18 rfl rfl)
theorem dX7_readsPlace_41 : decode cX7_readsPlace 41 = .ok (.getfield 57, 3) := dk_180 0 57 (dk_at dksX7_readsPlace_1 19 rfl rfl)
theorem dX7_readsPlace_44 : decode cX7_readsPlace 44 = .ok (.iconst 0, 1) := dk_3 (dk_at dksX7_readsPlace_1 22 rfl rfl)
theorem dX7_readsPlace_45 : decode cX7_readsPlace 45 = .ok (.iaload, 1) := dk_46 (dk_at dksX7_readsPlace_1 23 rfl rfl)
theorem dX7_readsPlace_46 : decode cX7_readsPlace 46 = .ok (.iastore, 1) := dk_79 (dk_at dksX7_readsPlace_2 0 rfl rfl)
theorem dX7_readsPlace_47 : decode cX7_readsPlace 47 = .ok (.iconst 1, 1) := dk_4 (dk_at dksX7_readsPlace_2 1 rfl rfl)
theorem dX7_readsPlace_48 : decode cX7_readsPlace 48 = .ok (.ireturn, 1) := dk_172 (dk_at dksX7_readsPlace_2 2 rfl rfl)
abbrev cX7_readsLay : ByteArray := prog_11_method_54_code
def yX7_readsLay : MethodName := ⟨RX7, "readsLay", "()Z"⟩
def dkwX7_readsLay_3 : List UInt8 := [2, 62, 132, 2, 2, 167, 255, 189, 27, 2, 159, 0, 7, 4, 167, 0, 4, 3, 172]
abbrev dktX7_readsLay_3 : List UInt8 := dkwX7_readsLay_3 ++ []
def dkwX7_readsLay_2 : List UInt8 := [154, 0, 24, 42, 42, 180, 0, 57, 28, 46, 42, 180, 0, 57, 28, 4, 96, 46, 182, 0, 189, 167, 0, 4]
abbrev dktX7_readsLay_2 : List UInt8 := dkwX7_readsLay_2 ++ dktX7_readsLay_3
def dkwX7_readsLay_1 : List UInt8 := [42, 180, 0, 57, 28, 46, 42, 180, 0, 57, 28, 4, 96, 46, 182, 0, 186, 181, 0, 235, 42, 180, 0, 235]
abbrev dktX7_readsLay_1 : List UInt8 := dkwX7_readsLay_1 ++ dktX7_readsLay_2
def dkwX7_readsLay_0 : List UInt8 := [42, 5, 16, 15, 182, 0, 232, 60, 3, 61, 28, 27, 162, 0, 68, 42, 180, 0, 235, 154, 0, 61, 42, 42]
abbrev dktX7_readsLay_0 : List UInt8 := dkwX7_readsLay_0 ++ dktX7_readsLay_1
theorem dksX7_readsLay_0 : cX7_readsLay.data.toList.drop 0 = dktX7_readsLay_0 := by decide +kernel
theorem dksX7_readsLay_1 : cX7_readsLay.data.toList.drop 24 = dktX7_readsLay_1 := dk_seg dksX7_readsLay_0 24 rfl rfl
theorem dksX7_readsLay_2 : cX7_readsLay.data.toList.drop 48 = dktX7_readsLay_2 := dk_seg dksX7_readsLay_1 24 rfl rfl
theorem dksX7_readsLay_3 : cX7_readsLay.data.toList.drop 72 = dktX7_readsLay_3 := dk_seg dksX7_readsLay_2 24 rfl rfl
theorem dX7_readsLay_0 : decode cX7_readsLay 0 = .ok (.aload_n 0, 1) := dk_42 (dk_at dksX7_readsLay_0 0 rfl rfl)
theorem dX7_readsLay_1 : decode cX7_readsLay 1 = .ok (.iconst 2, 1) := dk_5 (dk_at dksX7_readsLay_0 1 rfl rfl)
theorem dX7_readsLay_2 : decode cX7_readsLay 2 = .ok (.bipush 15, 2) := dk_16 15 (dk_at dksX7_readsLay_0 2 rfl rfl)
theorem dX7_readsLay_4 : decode cX7_readsLay 4 = .ok (.invokevirtual 232, 3) := dk_182 0 232 (dk_at dksX7_readsLay_0 4 rfl rfl)
theorem dX7_readsLay_7 : decode cX7_readsLay 7 = .ok (.istore_n 1, 1) := dk_60 (dk_at dksX7_readsLay_0 7 rfl rfl)
theorem dX7_readsLay_8 : decode cX7_readsLay 8 = .ok (.iconst 0, 1) := dk_3 (dk_at dksX7_readsLay_0 8 rfl rfl)
theorem dX7_readsLay_9 : decode cX7_readsLay 9 = .ok (.istore_n 2, 1) := dk_61 (dk_at dksX7_readsLay_0 9 rfl rfl)
theorem dX7_readsLay_10 : decode cX7_readsLay 10 = .ok (.iload_n 2, 1) := dk_28 (dk_at dksX7_readsLay_0 10 rfl rfl)
theorem dX7_readsLay_11 : decode cX7_readsLay 11 = .ok (.iload_n 1, 1) := dk_27 (dk_at dksX7_readsLay_0 11 rfl rfl)
theorem dX7_readsLay_12 : decode cX7_readsLay 12 = .ok (.if_icmp .ge 68, 3) := dk_162 0 68 (dk_at dksX7_readsLay_0 12 rfl rfl)
theorem dX7_readsLay_15 : decode cX7_readsLay 15 = .ok (.aload_n 0, 1) := dk_42 (dk_at dksX7_readsLay_0 15 rfl rfl)
theorem dX7_readsLay_16 : decode cX7_readsLay 16 = .ok (.getfield 235, 3) := dk_180 0 235 (dk_at dksX7_readsLay_0 16 rfl rfl)
theorem dX7_readsLay_19 : decode cX7_readsLay 19 = .ok (.ifCond .ne 61, 3) := dk_154 0 61 (dk_at dksX7_readsLay_0 19 rfl rfl)
theorem dX7_readsLay_22 : decode cX7_readsLay 22 = .ok (.aload_n 0, 1) := dk_42 (dk_at dksX7_readsLay_0 22 rfl rfl)
theorem dX7_readsLay_23 : decode cX7_readsLay 23 = .ok (.aload_n 0, 1) := dk_42 (dk_at dksX7_readsLay_0 23 rfl rfl)
theorem dX7_readsLay_24 : decode cX7_readsLay 24 = .ok (.aload_n 0, 1) := dk_42 (dk_at dksX7_readsLay_1 0 rfl rfl)
theorem dX7_readsLay_25 : decode cX7_readsLay 25 = .ok (.getfield 57, 3) := dk_180 0 57 (dk_at dksX7_readsLay_1 1 rfl rfl)
theorem dX7_readsLay_28 : decode cX7_readsLay 28 = .ok (.iload_n 2, 1) := dk_28 (dk_at dksX7_readsLay_1 4 rfl rfl)
theorem dX7_readsLay_29 : decode cX7_readsLay 29 = .ok (.iaload, 1) := dk_46 (dk_at dksX7_readsLay_1 5 rfl rfl)
theorem dX7_readsLay_30 : decode cX7_readsLay 30 = .ok (.aload_n 0, 1) := dk_42 (dk_at dksX7_readsLay_1 6 rfl rfl)
theorem dX7_readsLay_31 : decode cX7_readsLay 31 = .ok (.getfield 57, 3) := dk_180 0 57 (dk_at dksX7_readsLay_1 7 rfl rfl)
theorem dX7_readsLay_34 : decode cX7_readsLay 34 = .ok (.iload_n 2, 1) := dk_28 (dk_at dksX7_readsLay_1 10 rfl rfl)
theorem dX7_readsLay_35 : decode cX7_readsLay 35 = .ok (.iconst 1, 1) := dk_4 (dk_at dksX7_readsLay_1 11 rfl rfl)
theorem dX7_readsLay_36 : decode cX7_readsLay 36 = .ok (.iadd, 1) := dk_96 (dk_at dksX7_readsLay_1 12 rfl rfl)
theorem dX7_readsLay_37 : decode cX7_readsLay 37 = .ok (.iaload, 1) := dk_46 (dk_at dksX7_readsLay_1 13 rfl rfl)
theorem dX7_readsLay_38 : decode cX7_readsLay 38 = .ok (.invokevirtual 186, 3) := dk_182 0 186 (dk_at dksX7_readsLay_1 14 rfl rfl)
theorem dX7_readsLay_41 : decode cX7_readsLay 41 = .ok (.putfield 235, 3) := dk_181 0 235 (dk_at dksX7_readsLay_1 17 rfl rfl)
theorem dX7_readsLay_44 : decode cX7_readsLay 44 = .ok (.aload_n 0, 1) := dk_42 (dk_at dksX7_readsLay_1 20 rfl rfl)
theorem dX7_readsLay_45 : decode cX7_readsLay 45 = .ok (.getfield 235, 3) := dk_180 0 235 (dk_at dksX7_readsLay_1 21 rfl rfl)
theorem dX7_readsLay_48 : decode cX7_readsLay 48 = .ok (.ifCond .ne 24, 3) := dk_154 0 24 (dk_at dksX7_readsLay_2 0 rfl rfl)
theorem dX7_readsLay_51 : decode cX7_readsLay 51 = .ok (.aload_n 0, 1) := dk_42 (dk_at dksX7_readsLay_2 3 rfl rfl)
theorem dX7_readsLay_52 : decode cX7_readsLay 52 = .ok (.aload_n 0, 1) := dk_42 (dk_at dksX7_readsLay_2 4 rfl rfl)
theorem dX7_readsLay_53 : decode cX7_readsLay 53 = .ok (.getfield 57, 3) := dk_180 0 57 (dk_at dksX7_readsLay_2 5 rfl rfl)
theorem dX7_readsLay_56 : decode cX7_readsLay 56 = .ok (.iload_n 2, 1) := dk_28 (dk_at dksX7_readsLay_2 8 rfl rfl)
theorem dX7_readsLay_57 : decode cX7_readsLay 57 = .ok (.iaload, 1) := dk_46 (dk_at dksX7_readsLay_2 9 rfl rfl)
theorem dX7_readsLay_58 : decode cX7_readsLay 58 = .ok (.aload_n 0, 1) := dk_42 (dk_at dksX7_readsLay_2 10 rfl rfl)
theorem dX7_readsLay_59 : decode cX7_readsLay 59 = .ok (.getfield 57, 3) := dk_180 0 57 (dk_at dksX7_readsLay_2 11 rfl rfl)
theorem dX7_readsLay_62 : decode cX7_readsLay 62 = .ok (.iload_n 2, 1) := dk_28 (dk_at dksX7_readsLay_2 14 rfl rfl)
theorem dX7_readsLay_63 : decode cX7_readsLay 63 = .ok (.iconst 1, 1) := dk_4 (dk_at dksX7_readsLay_2 15 rfl rfl)
theorem dX7_readsLay_64 : decode cX7_readsLay 64 = .ok (.iadd, 1) := dk_96 (dk_at dksX7_readsLay_2 16 rfl rfl)
theorem dX7_readsLay_65 : decode cX7_readsLay 65 = .ok (.iaload, 1) := dk_46 (dk_at dksX7_readsLay_2 17 rfl rfl)
theorem dX7_readsLay_66 : decode cX7_readsLay 66 = .ok (.invokevirtual 189, 3) := dk_182 0 189 (dk_at dksX7_readsLay_2 18 rfl rfl)
theorem dX7_readsLay_69 : decode cX7_readsLay 69 = .ok (.goto 4, 3) := dk_167 0 4 (dk_at dksX7_readsLay_2 21 rfl rfl)
theorem dX7_readsLay_72 : decode cX7_readsLay 72 = .ok (.iconst (-1), 1) := dk_2 (dk_at dksX7_readsLay_3 0 rfl rfl)
theorem dX7_readsLay_73 : decode cX7_readsLay 73 = .ok (.istore_n 3, 1) := dk_62 (dk_at dksX7_readsLay_3 1 rfl rfl)
theorem dX7_readsLay_74 : decode cX7_readsLay 74 = .ok (.iinc 2 2, 3) := dk_132 2 2 (dk_at dksX7_readsLay_3 2 rfl rfl)
theorem dX7_readsLay_77 : decode cX7_readsLay 77 = .ok (.goto (-67), 3) := dk_167 255 189 (dk_at dksX7_readsLay_3 5 rfl rfl)
theorem dX7_readsLay_80 : decode cX7_readsLay 80 = .ok (.iload_n 1, 1) := dk_27 (dk_at dksX7_readsLay_3 8 rfl rfl)
theorem dX7_readsLay_81 : decode cX7_readsLay 81 = .ok (.iconst (-1), 1) := dk_2 (dk_at dksX7_readsLay_3 9 rfl rfl)
theorem dX7_readsLay_82 : decode cX7_readsLay 82 = .ok (.if_icmp .eq 7, 3) := dk_159 0 7 (dk_at dksX7_readsLay_3 10 rfl rfl)
theorem dX7_readsLay_85 : decode cX7_readsLay 85 = .ok (.iconst 1, 1) := dk_4 (dk_at dksX7_readsLay_3 13 rfl rfl)
theorem dX7_readsLay_86 : decode cX7_readsLay 86 = .ok (.goto 4, 3) := dk_167 0 4 (dk_at dksX7_readsLay_3 14 rfl rfl)
theorem dX7_readsLay_89 : decode cX7_readsLay 89 = .ok (.iconst 0, 1) := dk_3 (dk_at dksX7_readsLay_3 17 rfl rfl)
theorem dX7_readsLay_90 : decode cX7_readsLay 90 = .ok (.ireturn, 1) := dk_172 (dk_at dksX7_readsLay_3 18 rfl rfl)
abbrev cX7_readsMany : ByteArray := prog_11_method_53_code
def yX7_readsMany : MethodName := ⟨RX7, "readsMany", "(II)I"⟩
def dkwX7_readsMany_1 : List UInt8 := [132, 3, 1, 132, 4, 1, 167, 255, 232, 42, 182, 0, 228, 154, 255, 222, 29, 172]
abbrev dktX7_readsMany_1 : List UInt8 := dkwX7_readsMany_1 ++ []
def dkwX7_readsMany_0 : List UInt8 := [3, 62, 3, 54, 4, 21, 4, 27, 162, 0, 24, 42, 29, 3, 28, 182, 0, 225, 154, 0, 5, 2, 172]
abbrev dktX7_readsMany_0 : List UInt8 := dkwX7_readsMany_0 ++ dktX7_readsMany_1
theorem dksX7_readsMany_0 : cX7_readsMany.data.toList.drop 0 = dktX7_readsMany_0 := by decide +kernel
theorem dksX7_readsMany_1 : cX7_readsMany.data.toList.drop 23 = dktX7_readsMany_1 := dk_seg dksX7_readsMany_0 23 rfl rfl
theorem dX7_readsMany_0 : decode cX7_readsMany 0 = .ok (.iconst 0, 1) := dk_3 (dk_at dksX7_readsMany_0 0 rfl rfl)
theorem dX7_readsMany_1 : decode cX7_readsMany 1 = .ok (.istore_n 3, 1) := dk_62 (dk_at dksX7_readsMany_0 1 rfl rfl)
theorem dX7_readsMany_2 : decode cX7_readsMany 2 = .ok (.iconst 0, 1) := dk_3 (dk_at dksX7_readsMany_0 2 rfl rfl)
theorem dX7_readsMany_3 : decode cX7_readsMany 3 = .ok (.istore 4, 2) := dk_54 4 (dk_at dksX7_readsMany_0 3 rfl rfl)
theorem dX7_readsMany_5 : decode cX7_readsMany 5 = .ok (.iload 4, 2) := dk_21 4 (dk_at dksX7_readsMany_0 5 rfl rfl)
theorem dX7_readsMany_7 : decode cX7_readsMany 7 = .ok (.iload_n 1, 1) := dk_27 (dk_at dksX7_readsMany_0 7 rfl rfl)
theorem dX7_readsMany_8 : decode cX7_readsMany 8 = .ok (.if_icmp .ge 24, 3) := dk_162 0 24 (dk_at dksX7_readsMany_0 8 rfl rfl)
theorem dX7_readsMany_11 : decode cX7_readsMany 11 = .ok (.aload_n 0, 1) := dk_42 (dk_at dksX7_readsMany_0 11 rfl rfl)
theorem dX7_readsMany_12 : decode cX7_readsMany 12 = .ok (.iload_n 3, 1) := dk_29 (dk_at dksX7_readsMany_0 12 rfl rfl)
theorem dX7_readsMany_13 : decode cX7_readsMany 13 = .ok (.iconst 0, 1) := dk_3 (dk_at dksX7_readsMany_0 13 rfl rfl)
theorem dX7_readsMany_14 : decode cX7_readsMany 14 = .ok (.iload_n 2, 1) := dk_28 (dk_at dksX7_readsMany_0 14 rfl rfl)
theorem dX7_readsMany_15 : decode cX7_readsMany 15 = .ok (.invokevirtual 225, 3) := dk_182 0 225 (dk_at dksX7_readsMany_0 15 rfl rfl)
theorem dX7_readsMany_18 : decode cX7_readsMany 18 = .ok (.ifCond .ne 5, 3) := dk_154 0 5 (dk_at dksX7_readsMany_0 18 rfl rfl)
theorem dX7_readsMany_21 : decode cX7_readsMany 21 = .ok (.iconst (-1), 1) := dk_2 (dk_at dksX7_readsMany_0 21 rfl rfl)
theorem dX7_readsMany_22 : decode cX7_readsMany 22 = .ok (.ireturn, 1) := dk_172 (dk_at dksX7_readsMany_0 22 rfl rfl)
theorem dX7_readsMany_23 : decode cX7_readsMany 23 = .ok (.iinc 3 1, 3) := dk_132 3 1 (dk_at dksX7_readsMany_1 0 rfl rfl)
theorem dX7_readsMany_26 : decode cX7_readsMany 26 = .ok (.iinc 4 1, 3) := dk_132 4 1 (dk_at dksX7_readsMany_1 3 rfl rfl)
theorem dX7_readsMany_29 : decode cX7_readsMany 29 = .ok (.goto (-24), 3) := dk_167 255 232 (dk_at dksX7_readsMany_1 6 rfl rfl)
theorem dX7_readsMany_32 : decode cX7_readsMany 32 = .ok (.aload_n 0, 1) := dk_42 (dk_at dksX7_readsMany_1 9 rfl rfl)
theorem dX7_readsMany_33 : decode cX7_readsMany 33 = .ok (.invokevirtual 228, 3) := dk_182 0 228 (dk_at dksX7_readsMany_1 10 rfl rfl)
theorem dX7_readsMany_36 : decode cX7_readsMany 36 = .ok (.ifCond .ne (-34), 3) := dk_154 255 222 (dk_at dksX7_readsMany_1 13 rfl rfl)
theorem dX7_readsMany_39 : decode cX7_readsMany 39 = .ok (.iload_n 3, 1) := dk_29 (dk_at dksX7_readsMany_1 16 rfl rfl)
theorem dX7_readsMany_40 : decode cX7_readsMany 40 = .ok (.ireturn, 1) := dk_172 (dk_at dksX7_readsMany_1 17 rfl rfl)
abbrev cX7_comma : ByteArray := prog_11_method_52_code
def yX7_comma : MethodName := ⟨RX7, "comma", "()Z"⟩
def dkwX7_comma_1 : List UInt8 := [181, 0, 201, 4, 172]
abbrev dktX7_comma_1 : List UInt8 := dkwX7_comma_1 ++ []
def dkwX7_comma_0 : List UInt8 := [42, 182, 0, 213, 42, 16, 44, 16, 44, 182, 0, 207, 154, 0, 5, 3, 172, 42, 89, 180, 0, 201, 4, 96]
abbrev dktX7_comma_0 : List UInt8 := dkwX7_comma_0 ++ dktX7_comma_1
theorem dksX7_comma_0 : cX7_comma.data.toList.drop 0 = dktX7_comma_0 := by decide +kernel
theorem dksX7_comma_1 : cX7_comma.data.toList.drop 24 = dktX7_comma_1 := dk_seg dksX7_comma_0 24 rfl rfl
theorem dX7_comma_0 : decode cX7_comma 0 = .ok (.aload_n 0, 1) := dk_42 (dk_at dksX7_comma_0 0 rfl rfl)
theorem dX7_comma_1 : decode cX7_comma 1 = .ok (.invokevirtual 213, 3) := dk_182 0 213 (dk_at dksX7_comma_0 1 rfl rfl)
theorem dX7_comma_4 : decode cX7_comma 4 = .ok (.aload_n 0, 1) := dk_42 (dk_at dksX7_comma_0 4 rfl rfl)
theorem dX7_comma_5 : decode cX7_comma 5 = .ok (.bipush 44, 2) := dk_16 44 (dk_at dksX7_comma_0 5 rfl rfl)
theorem dX7_comma_7 : decode cX7_comma 7 = .ok (.bipush 44, 2) := dk_16 44 (dk_at dksX7_comma_0 7 rfl rfl)
theorem dX7_comma_9 : decode cX7_comma 9 = .ok (.invokevirtual 207, 3) := dk_182 0 207 (dk_at dksX7_comma_0 9 rfl rfl)
theorem dX7_comma_12 : decode cX7_comma 12 = .ok (.ifCond .ne 5, 3) := dk_154 0 5 (dk_at dksX7_comma_0 12 rfl rfl)
theorem dX7_comma_15 : decode cX7_comma 15 = .ok (.iconst 0, 1) := dk_3 (dk_at dksX7_comma_0 15 rfl rfl)
theorem dX7_comma_16 : decode cX7_comma 16 = .ok (.ireturn, 1) := dk_172 (dk_at dksX7_comma_0 16 rfl rfl)
theorem dX7_comma_17 : decode cX7_comma 17 = .ok (.aload_n 0, 1) := dk_42 (dk_at dksX7_comma_0 17 rfl rfl)
theorem dX7_comma_18 : decode cX7_comma 18 = .ok (.dup, 1) := dk_89 (dk_at dksX7_comma_0 18 rfl rfl)
theorem dX7_comma_19 : decode cX7_comma 19 = .ok (.getfield 201, 3) := dk_180 0 201 (dk_at dksX7_comma_0 19 rfl rfl)
theorem dX7_comma_22 : decode cX7_comma 22 = .ok (.iconst 1, 1) := dk_4 (dk_at dksX7_comma_0 22 rfl rfl)
theorem dX7_comma_23 : decode cX7_comma 23 = .ok (.iadd, 1) := dk_96 (dk_at dksX7_comma_0 23 rfl rfl)
theorem dX7_comma_24 : decode cX7_comma 24 = .ok (.putfield 201, 3) := dk_181 0 201 (dk_at dksX7_comma_1 0 rfl rfl)
theorem dX7_comma_27 : decode cX7_comma 27 = .ok (.iconst 1, 1) := dk_4 (dk_at dksX7_comma_1 3 rfl rfl)
theorem dX7_comma_28 : decode cX7_comma 28 = .ok (.ireturn, 1) := dk_172 (dk_at dksX7_comma_1 4 rfl rfl)
abbrev cX7_readsTurn : ByteArray := prog_11_method_55_code
def yX7_readsTurn : MethodName := ⟨RX7, "readsTurn", "(I)Z"⟩
def dkwX7_readsTurn_3 : List UInt8 := [167, 0, 4, 3, 172]
abbrev dktX7_readsTurn_3 : List UInt8 := dkwX7_readsTurn_3 ++ []
def dkwX7_readsTurn_2 : List UInt8 := [17, 0, 140, 42, 180, 0, 57, 29, 46, 96, 27, 79, 132, 3, 1, 167, 255, 203, 28, 2, 159, 0, 7, 4]
abbrev dktX7_readsTurn_2 : List UInt8 := dkwX7_readsTurn_2 ++ dktX7_readsTurn_3
def dkwX7_readsTurn_1 : List UInt8 := [42, 180, 0, 57, 29, 46, 27, 182, 0, 192, 181, 0, 235, 42, 180, 0, 235, 154, 0, 19, 42, 180, 0, 13]
abbrev dktX7_readsTurn_1 : List UInt8 := dkwX7_readsTurn_1 ++ dktX7_readsTurn_2
def dkwX7_readsTurn_0 : List UInt8 := [42, 4, 16, 59, 182, 0, 232, 61, 3, 62, 29, 28, 162, 0, 54, 42, 180, 0, 235, 154, 0, 47, 42, 42]
abbrev dktX7_readsTurn_0 : List UInt8 := dkwX7_readsTurn_0 ++ dktX7_readsTurn_1
theorem dksX7_readsTurn_0 : cX7_readsTurn.data.toList.drop 0 = dktX7_readsTurn_0 := by decide +kernel
theorem dksX7_readsTurn_1 : cX7_readsTurn.data.toList.drop 24 = dktX7_readsTurn_1 := dk_seg dksX7_readsTurn_0 24 rfl rfl
theorem dksX7_readsTurn_2 : cX7_readsTurn.data.toList.drop 48 = dktX7_readsTurn_2 := dk_seg dksX7_readsTurn_1 24 rfl rfl
theorem dksX7_readsTurn_3 : cX7_readsTurn.data.toList.drop 72 = dktX7_readsTurn_3 := dk_seg dksX7_readsTurn_2 24 rfl rfl
theorem dX7_readsTurn_0 : decode cX7_readsTurn 0 = .ok (.aload_n 0, 1) := dk_42 (dk_at dksX7_readsTurn_0 0 rfl rfl)
theorem dX7_readsTurn_1 : decode cX7_readsTurn 1 = .ok (.iconst 1, 1) := dk_4 (dk_at dksX7_readsTurn_0 1 rfl rfl)
theorem dX7_readsTurn_2 : decode cX7_readsTurn 2 = .ok (.bipush 59, 2) := dk_16 59 (dk_at dksX7_readsTurn_0 2 rfl rfl)
theorem dX7_readsTurn_4 : decode cX7_readsTurn 4 = .ok (.invokevirtual 232, 3) := dk_182 0 232 (dk_at dksX7_readsTurn_0 4 rfl rfl)
theorem dX7_readsTurn_7 : decode cX7_readsTurn 7 = .ok (.istore_n 2, 1) := dk_61 (dk_at dksX7_readsTurn_0 7 rfl rfl)
theorem dX7_readsTurn_8 : decode cX7_readsTurn 8 = .ok (.iconst 0, 1) := dk_3 (dk_at dksX7_readsTurn_0 8 rfl rfl)
theorem dX7_readsTurn_9 : decode cX7_readsTurn 9 = .ok (.istore_n 3, 1) := dk_62 (dk_at dksX7_readsTurn_0 9 rfl rfl)
theorem dX7_readsTurn_10 : decode cX7_readsTurn 10 = .ok (.iload_n 3, 1) := dk_29 (dk_at dksX7_readsTurn_0 10 rfl rfl)
theorem dX7_readsTurn_11 : decode cX7_readsTurn 11 = .ok (.iload_n 2, 1) := dk_28 (dk_at dksX7_readsTurn_0 11 rfl rfl)
theorem dX7_readsTurn_12 : decode cX7_readsTurn 12 = .ok (.if_icmp .ge 54, 3) := dk_162 0 54 (dk_at dksX7_readsTurn_0 12 rfl rfl)
theorem dX7_readsTurn_15 : decode cX7_readsTurn 15 = .ok (.aload_n 0, 1) := dk_42 (dk_at dksX7_readsTurn_0 15 rfl rfl)
theorem dX7_readsTurn_16 : decode cX7_readsTurn 16 = .ok (.getfield 235, 3) := dk_180 0 235 (dk_at dksX7_readsTurn_0 16 rfl rfl)
theorem dX7_readsTurn_19 : decode cX7_readsTurn 19 = .ok (.ifCond .ne 47, 3) := dk_154 0 47 (dk_at dksX7_readsTurn_0 19 rfl rfl)
theorem dX7_readsTurn_22 : decode cX7_readsTurn 22 = .ok (.aload_n 0, 1) := dk_42 (dk_at dksX7_readsTurn_0 22 rfl rfl)
theorem dX7_readsTurn_23 : decode cX7_readsTurn 23 = .ok (.aload_n 0, 1) := dk_42 (dk_at dksX7_readsTurn_0 23 rfl rfl)
theorem dX7_readsTurn_24 : decode cX7_readsTurn 24 = .ok (.aload_n 0, 1) := dk_42 (dk_at dksX7_readsTurn_1 0 rfl rfl)
theorem dX7_readsTurn_25 : decode cX7_readsTurn 25 = .ok (.getfield 57, 3) := dk_180 0 57 (dk_at dksX7_readsTurn_1 1 rfl rfl)
theorem dX7_readsTurn_28 : decode cX7_readsTurn 28 = .ok (.iload_n 3, 1) := dk_29 (dk_at dksX7_readsTurn_1 4 rfl rfl)
theorem dX7_readsTurn_29 : decode cX7_readsTurn 29 = .ok (.iaload, 1) := dk_46 (dk_at dksX7_readsTurn_1 5 rfl rfl)
theorem dX7_readsTurn_30 : decode cX7_readsTurn 30 = .ok (.iload_n 1, 1) := dk_27 (dk_at dksX7_readsTurn_1 6 rfl rfl)
theorem dX7_readsTurn_31 : decode cX7_readsTurn 31 = .ok (.invokevirtual 192, 3) := dk_182 0 192 (dk_at dksX7_readsTurn_1 7 rfl rfl)
theorem dX7_readsTurn_34 : decode cX7_readsTurn 34 = .ok (.putfield 235, 3) := dk_181 0 235 (dk_at dksX7_readsTurn_1 10 rfl rfl)
theorem dX7_readsTurn_37 : decode cX7_readsTurn 37 = .ok (.aload_n 0, 1) := dk_42 (dk_at dksX7_readsTurn_1 13 rfl rfl)
theorem dX7_readsTurn_38 : decode cX7_readsTurn 38 = .ok (.getfield 235, 3) := dk_180 0 235 (dk_at dksX7_readsTurn_1 14 rfl rfl)
theorem dX7_readsTurn_41 : decode cX7_readsTurn 41 = .ok (.ifCond .ne 19, 3) := dk_154 0 19 (dk_at dksX7_readsTurn_1 17 rfl rfl)
theorem dX7_readsTurn_44 : decode cX7_readsTurn 44 = .ok (.aload_n 0, 1) := dk_42 (dk_at dksX7_readsTurn_1 20 rfl rfl)
theorem dX7_readsTurn_45 : decode cX7_readsTurn 45 = .ok (.getfield 13, 3) := dk_180 0 13 (dk_at dksX7_readsTurn_1 21 rfl rfl)
theorem dX7_readsTurn_48 : decode cX7_readsTurn 48 = .ok (.sipush 140, 3) := dk_17 0 140 (dk_at dksX7_readsTurn_2 0 rfl rfl)
theorem dX7_readsTurn_51 : decode cX7_readsTurn 51 = .ok (.aload_n 0, 1) := dk_42 (dk_at dksX7_readsTurn_2 3 rfl rfl)
theorem dX7_readsTurn_52 : decode cX7_readsTurn 52 = .ok (.getfield 57, 3) := dk_180 0 57 (dk_at dksX7_readsTurn_2 4 rfl rfl)
theorem dX7_readsTurn_55 : decode cX7_readsTurn 55 = .ok (.iload_n 3, 1) := dk_29 (dk_at dksX7_readsTurn_2 7 rfl rfl)
theorem dX7_readsTurn_56 : decode cX7_readsTurn 56 = .ok (.iaload, 1) := dk_46 (dk_at dksX7_readsTurn_2 8 rfl rfl)
theorem dX7_readsTurn_57 : decode cX7_readsTurn 57 = .ok (.iadd, 1) := dk_96 (dk_at dksX7_readsTurn_2 9 rfl rfl)
theorem dX7_readsTurn_58 : decode cX7_readsTurn 58 = .ok (.iload_n 1, 1) := dk_27 (dk_at dksX7_readsTurn_2 10 rfl rfl)
theorem dX7_readsTurn_59 : decode cX7_readsTurn 59 = .ok (.iastore, 1) := dk_79 (dk_at dksX7_readsTurn_2 11 rfl rfl)
theorem dX7_readsTurn_60 : decode cX7_readsTurn 60 = .ok (.iinc 3 1, 3) := dk_132 3 1 (dk_at dksX7_readsTurn_2 12 rfl rfl)
theorem dX7_readsTurn_63 : decode cX7_readsTurn 63 = .ok (.goto (-53), 3) := dk_167 255 203 (dk_at dksX7_readsTurn_2 15 rfl rfl)
theorem dX7_readsTurn_66 : decode cX7_readsTurn 66 = .ok (.iload_n 2, 1) := dk_28 (dk_at dksX7_readsTurn_2 18 rfl rfl)
theorem dX7_readsTurn_67 : decode cX7_readsTurn 67 = .ok (.iconst (-1), 1) := dk_2 (dk_at dksX7_readsTurn_2 19 rfl rfl)
theorem dX7_readsTurn_68 : decode cX7_readsTurn 68 = .ok (.if_icmp .eq 7, 3) := dk_159 0 7 (dk_at dksX7_readsTurn_2 20 rfl rfl)
theorem dX7_readsTurn_71 : decode cX7_readsTurn 71 = .ok (.iconst 1, 1) := dk_4 (dk_at dksX7_readsTurn_2 23 rfl rfl)
theorem dX7_readsTurn_72 : decode cX7_readsTurn 72 = .ok (.goto 4, 3) := dk_167 0 4 (dk_at dksX7_readsTurn_3 0 rfl rfl)
theorem dX7_readsTurn_75 : decode cX7_readsTurn 75 = .ok (.iconst 0, 1) := dk_3 (dk_at dksX7_readsTurn_3 3 rfl rfl)
theorem dX7_readsTurn_76 : decode cX7_readsTurn 76 = .ok (.ireturn, 1) := dk_172 (dk_at dksX7_readsTurn_3 4 rfl rfl)
abbrev cX7_pass : ByteArray := prog_11_method_80_code
def yX7_pass : MethodName := ⟨RX7, "pass", "(II)I"⟩
def dkwX7_pass_3 : List UInt8 := [182, 1, 50, 28, 160, 0, 6, 21, 4, 62, 132, 4, 1, 167, 255, 210, 29, 172]
abbrev dktX7_pass_3 : List UInt8 := dkwX7_pass_3 ++ []
def dkwX7_pass_2 : List UInt8 := [42, 27, 182, 1, 50, 54, 5, 42, 180, 0, 69, 21, 4, 51, 153, 0, 20, 42, 42, 21, 4, 182, 0, 95]
abbrev dktX7_pass_2 : List UInt8 := dkwX7_pass_2 ++ dktX7_pass_3
def dkwX7_pass_1 : List UInt8 := [2, 160, 0, 9, 42, 27, 182, 1, 50, 172, 2, 62, 3, 54, 4, 21, 4, 42, 182, 0, 88, 162, 0, 43]
abbrev dktX7_pass_1 : List UInt8 := dkwX7_pass_1 ++ dktX7_pass_2
def dkwX7_pass_0 : List UInt8 := [42, 27, 182, 1, 47, 153, 0, 5, 3, 172, 42, 180, 0, 120, 27, 184, 0, 99, 154, 0, 5, 2, 172, 28]
abbrev dktX7_pass_0 : List UInt8 := dkwX7_pass_0 ++ dktX7_pass_1
theorem dksX7_pass_0 : cX7_pass.data.toList.drop 0 = dktX7_pass_0 := by decide +kernel
theorem dksX7_pass_1 : cX7_pass.data.toList.drop 24 = dktX7_pass_1 := dk_seg dksX7_pass_0 24 rfl rfl
theorem dksX7_pass_2 : cX7_pass.data.toList.drop 48 = dktX7_pass_2 := dk_seg dksX7_pass_1 24 rfl rfl
theorem dksX7_pass_3 : cX7_pass.data.toList.drop 72 = dktX7_pass_3 := dk_seg dksX7_pass_2 24 rfl rfl
theorem dX7_pass_0 : decode cX7_pass 0 = .ok (.aload_n 0, 1) := dk_42 (dk_at dksX7_pass_0 0 rfl rfl)
theorem dX7_pass_1 : decode cX7_pass 1 = .ok (.iload_n 1, 1) := dk_27 (dk_at dksX7_pass_0 1 rfl rfl)
theorem dX7_pass_2 : decode cX7_pass 2 = .ok (.invokevirtual 303, 3) := dk_182 1 47 (dk_at dksX7_pass_0 2 rfl rfl)
theorem dX7_pass_5 : decode cX7_pass 5 = .ok (.ifCond .eq 5, 3) := dk_153 0 5 (dk_at dksX7_pass_0 5 rfl rfl)
theorem dX7_pass_8 : decode cX7_pass 8 = .ok (.iconst 0, 1) := dk_3 (dk_at dksX7_pass_0 8 rfl rfl)
theorem dX7_pass_9 : decode cX7_pass 9 = .ok (.ireturn, 1) := dk_172 (dk_at dksX7_pass_0 9 rfl rfl)
theorem dX7_pass_10 : decode cX7_pass 10 = .ok (.aload_n 0, 1) := dk_42 (dk_at dksX7_pass_0 10 rfl rfl)
theorem dX7_pass_11 : decode cX7_pass 11 = .ok (.getfield 120, 3) := dk_180 0 120 (dk_at dksX7_pass_0 11 rfl rfl)
theorem dX7_pass_14 : decode cX7_pass 14 = .ok (.iload_n 1, 1) := dk_27 (dk_at dksX7_pass_0 14 rfl rfl)
theorem dX7_pass_15 : decode cX7_pass 15 = .ok (.invokestatic 99, 3) := dk_184 0 99 (dk_at dksX7_pass_0 15 rfl rfl)
theorem dX7_pass_18 : decode cX7_pass 18 = .ok (.ifCond .ne 5, 3) := dk_154 0 5 (dk_at dksX7_pass_0 18 rfl rfl)
theorem dX7_pass_21 : decode cX7_pass 21 = .ok (.iconst (-1), 1) := dk_2 (dk_at dksX7_pass_0 21 rfl rfl)
theorem dX7_pass_22 : decode cX7_pass 22 = .ok (.ireturn, 1) := dk_172 (dk_at dksX7_pass_0 22 rfl rfl)
theorem dX7_pass_23 : decode cX7_pass 23 = .ok (.iload_n 2, 1) := dk_28 (dk_at dksX7_pass_0 23 rfl rfl)
theorem dX7_pass_24 : decode cX7_pass 24 = .ok (.iconst (-1), 1) := dk_2 (dk_at dksX7_pass_1 0 rfl rfl)
theorem dX7_pass_25 : decode cX7_pass 25 = .ok (.if_icmp .ne 9, 3) := dk_160 0 9 (dk_at dksX7_pass_1 1 rfl rfl)
theorem dX7_pass_28 : decode cX7_pass 28 = .ok (.aload_n 0, 1) := dk_42 (dk_at dksX7_pass_1 4 rfl rfl)
theorem dX7_pass_29 : decode cX7_pass 29 = .ok (.iload_n 1, 1) := dk_27 (dk_at dksX7_pass_1 5 rfl rfl)
theorem dX7_pass_30 : decode cX7_pass 30 = .ok (.invokevirtual 306, 3) := dk_182 1 50 (dk_at dksX7_pass_1 6 rfl rfl)
theorem dX7_pass_33 : decode cX7_pass 33 = .ok (.ireturn, 1) := dk_172 (dk_at dksX7_pass_1 9 rfl rfl)
theorem dX7_pass_34 : decode cX7_pass 34 = .ok (.iconst (-1), 1) := dk_2 (dk_at dksX7_pass_1 10 rfl rfl)
theorem dX7_pass_35 : decode cX7_pass 35 = .ok (.istore_n 3, 1) := dk_62 (dk_at dksX7_pass_1 11 rfl rfl)
theorem dX7_pass_36 : decode cX7_pass 36 = .ok (.iconst 0, 1) := dk_3 (dk_at dksX7_pass_1 12 rfl rfl)
theorem dX7_pass_37 : decode cX7_pass 37 = .ok (.istore 4, 2) := dk_54 4 (dk_at dksX7_pass_1 13 rfl rfl)
theorem dX7_pass_39 : decode cX7_pass 39 = .ok (.iload 4, 2) := dk_21 4 (dk_at dksX7_pass_1 15 rfl rfl)
theorem dX7_pass_41 : decode cX7_pass 41 = .ok (.aload_n 0, 1) := dk_42 (dk_at dksX7_pass_1 17 rfl rfl)
theorem dX7_pass_42 : decode cX7_pass 42 = .ok (.invokevirtual 88, 3) := dk_182 0 88 (dk_at dksX7_pass_1 18 rfl rfl)
theorem dX7_pass_45 : decode cX7_pass 45 = .ok (.if_icmp .ge 43, 3) := dk_162 0 43 (dk_at dksX7_pass_1 21 rfl rfl)
theorem dX7_pass_48 : decode cX7_pass 48 = .ok (.aload_n 0, 1) := dk_42 (dk_at dksX7_pass_2 0 rfl rfl)
theorem dX7_pass_49 : decode cX7_pass 49 = .ok (.iload_n 1, 1) := dk_27 (dk_at dksX7_pass_2 1 rfl rfl)
theorem dX7_pass_50 : decode cX7_pass 50 = .ok (.invokevirtual 306, 3) := dk_182 1 50 (dk_at dksX7_pass_2 2 rfl rfl)
theorem dX7_pass_53 : decode cX7_pass 53 = .ok (.istore 5, 2) := dk_54 5 (dk_at dksX7_pass_2 5 rfl rfl)
theorem dX7_pass_55 : decode cX7_pass 55 = .ok (.aload_n 0, 1) := dk_42 (dk_at dksX7_pass_2 7 rfl rfl)
theorem dX7_pass_56 : decode cX7_pass 56 = .ok (.getfield 69, 3) := dk_180 0 69 (dk_at dksX7_pass_2 8 rfl rfl)
theorem dX7_pass_59 : decode cX7_pass 59 = .ok (.iload 4, 2) := dk_21 4 (dk_at dksX7_pass_2 11 rfl rfl)
theorem dX7_pass_61 : decode cX7_pass 61 = .ok (.baload, 1) := dk_51 (dk_at dksX7_pass_2 13 rfl rfl)
theorem dX7_pass_62 : decode cX7_pass 62 = .ok (.ifCond .eq 20, 3) := dk_153 0 20 (dk_at dksX7_pass_2 14 rfl rfl)
theorem dX7_pass_65 : decode cX7_pass 65 = .ok (.aload_n 0, 1) := dk_42 (dk_at dksX7_pass_2 17 rfl rfl)
theorem dX7_pass_66 : decode cX7_pass 66 = .ok (.aload_n 0, 1) := dk_42 (dk_at dksX7_pass_2 18 rfl rfl)
theorem dX7_pass_67 : decode cX7_pass 67 = .ok (.iload 4, 2) := dk_21 4 (dk_at dksX7_pass_2 19 rfl rfl)
theorem dX7_pass_69 : decode cX7_pass 69 = .ok (.invokevirtual 95, 3) := dk_182 0 95 (dk_at dksX7_pass_2 21 rfl rfl)
theorem dX7_pass_72 : decode cX7_pass 72 = .ok (.invokevirtual 306, 3) := dk_182 1 50 (dk_at dksX7_pass_3 0 rfl rfl)
theorem dX7_pass_75 : decode cX7_pass 75 = .ok (.iload_n 2, 1) := dk_28 (dk_at dksX7_pass_3 3 rfl rfl)
theorem dX7_pass_76 : decode cX7_pass 76 = .ok (.if_icmp .ne 6, 3) := dk_160 0 6 (dk_at dksX7_pass_3 4 rfl rfl)
theorem dX7_pass_79 : decode cX7_pass 79 = .ok (.iload 4, 2) := dk_21 4 (dk_at dksX7_pass_3 7 rfl rfl)
theorem dX7_pass_81 : decode cX7_pass 81 = .ok (.istore_n 3, 1) := dk_62 (dk_at dksX7_pass_3 9 rfl rfl)
theorem dX7_pass_82 : decode cX7_pass 82 = .ok (.iinc 4 1, 3) := dk_132 4 1 (dk_at dksX7_pass_3 10 rfl rfl)
theorem dX7_pass_85 : decode cX7_pass 85 = .ok (.goto (-46), 3) := dk_167 255 210 (dk_at dksX7_pass_3 13 rfl rfl)
theorem dX7_pass_88 : decode cX7_pass 88 = .ok (.iload_n 3, 1) := dk_29 (dk_at dksX7_pass_3 16 rfl rfl)
theorem dX7_pass_89 : decode cX7_pass 89 = .ok (.ireturn, 1) := dk_172 (dk_at dksX7_pass_3 17 rfl rfl)
abbrev cX7_noNode : ByteArray := prog_11_method_60_code
def yX7_noNode : MethodName := ⟨RX7, "noNode", "(I)Z"⟩
def dkwX7_noNode_1 : List UInt8 := [182, 0, 157, 172]
abbrev dktX7_noNode_1 : List UInt8 := dkwX7_noNode_1 ++ []
def dkwX7_noNode_0 : List UInt8 := [42, 3, 181, 0, 1, 42, 182, 0, 126, 42, 42, 27, 182, 0, 171, 154, 0, 7, 4, 167, 0, 4, 3, 4]
abbrev dktX7_noNode_0 : List UInt8 := dkwX7_noNode_0 ++ dktX7_noNode_1
theorem dksX7_noNode_0 : cX7_noNode.data.toList.drop 0 = dktX7_noNode_0 := by decide +kernel
theorem dksX7_noNode_1 : cX7_noNode.data.toList.drop 24 = dktX7_noNode_1 := dk_seg dksX7_noNode_0 24 rfl rfl
theorem dX7_noNode_0 : decode cX7_noNode 0 = .ok (.aload_n 0, 1) := dk_42 (dk_at dksX7_noNode_0 0 rfl rfl)
theorem dX7_noNode_1 : decode cX7_noNode 1 = .ok (.iconst 0, 1) := dk_3 (dk_at dksX7_noNode_0 1 rfl rfl)
theorem dX7_noNode_2 : decode cX7_noNode 2 = .ok (.putfield 1, 3) := dk_181 0 1 (dk_at dksX7_noNode_0 2 rfl rfl)
theorem dX7_noNode_5 : decode cX7_noNode 5 = .ok (.aload_n 0, 1) := dk_42 (dk_at dksX7_noNode_0 5 rfl rfl)
theorem dX7_noNode_6 : decode cX7_noNode 6 = .ok (.invokevirtual 126, 3) := dk_182 0 126 (dk_at dksX7_noNode_0 6 rfl rfl)
theorem dX7_noNode_9 : decode cX7_noNode 9 = .ok (.aload_n 0, 1) := dk_42 (dk_at dksX7_noNode_0 9 rfl rfl)
theorem dX7_noNode_10 : decode cX7_noNode 10 = .ok (.aload_n 0, 1) := dk_42 (dk_at dksX7_noNode_0 10 rfl rfl)
theorem dX7_noNode_11 : decode cX7_noNode 11 = .ok (.iload_n 1, 1) := dk_27 (dk_at dksX7_noNode_0 11 rfl rfl)
theorem dX7_noNode_12 : decode cX7_noNode 12 = .ok (.invokevirtual 171, 3) := dk_182 0 171 (dk_at dksX7_noNode_0 12 rfl rfl)
theorem dX7_noNode_15 : decode cX7_noNode 15 = .ok (.ifCond .ne 7, 3) := dk_154 0 7 (dk_at dksX7_noNode_0 15 rfl rfl)
theorem dX7_noNode_18 : decode cX7_noNode 18 = .ok (.iconst 1, 1) := dk_4 (dk_at dksX7_noNode_0 18 rfl rfl)
theorem dX7_noNode_19 : decode cX7_noNode 19 = .ok (.goto 4, 3) := dk_167 0 4 (dk_at dksX7_noNode_0 19 rfl rfl)
theorem dX7_noNode_22 : decode cX7_noNode 22 = .ok (.iconst 0, 1) := dk_3 (dk_at dksX7_noNode_0 22 rfl rfl)
theorem dX7_noNode_23 : decode cX7_noNode 23 = .ok (.iconst 1, 1) := dk_4 (dk_at dksX7_noNode_0 23 rfl rfl)
theorem dX7_noNode_24 : decode cX7_noNode 24 = .ok (.invokevirtual 157, 3) := dk_182 0 157 (dk_at dksX7_noNode_1 0 rfl rfl)
theorem dX7_noNode_27 : decode cX7_noNode 27 = .ok (.ireturn, 1) := dk_172 (dk_at dksX7_noNode_1 3 rfl rfl)
abbrev cX7_laysPass : ByteArray := prog_11_method_79_code
def yX7_laysPass : MethodName := ⟨RX7, "laysPass", "(I)I"⟩
def dkwX7_laysPass_3 : List UInt8 := [96, 61, 132, 3, 1, 167, 255, 185, 28, 172]
abbrev dktX7_laysPass_3 : List UInt8 := dkwX7_laysPass_3 ++ []
def dkwX7_laysPass_2 : List UInt8 := [154, 0, 7, 4, 167, 0, 4, 3, 84, 28, 42, 180, 0, 69, 29, 51, 153, 0, 7, 4, 167, 0, 4, 3]
abbrev dktX7_laysPass_2 : List UInt8 := dkwX7_laysPass_2 ++ dktX7_laysPass_3
def dkwX7_laysPass_1 : List UInt8 := [153, 0, 31, 42, 180, 0, 120, 27, 184, 0, 99, 153, 0, 20, 42, 3, 29, 182, 0, 116, 27, 184, 0, 99]
abbrev dktX7_laysPass_1 : List UInt8 := dkwX7_laysPass_1 ++ dktX7_laysPass_2
def dkwX7_laysPass_0 : List UInt8 := [3, 61, 3, 62, 29, 42, 182, 0, 88, 162, 0, 69, 42, 180, 0, 69, 29, 42, 29, 182, 0, 91]
abbrev dktX7_laysPass_0 : List UInt8 := dkwX7_laysPass_0 ++ dktX7_laysPass_1
theorem dksX7_laysPass_0 : cX7_laysPass.data.toList.drop 0 = dktX7_laysPass_0 := by decide +kernel
theorem dksX7_laysPass_1 : cX7_laysPass.data.toList.drop 22 = dktX7_laysPass_1 := dk_seg dksX7_laysPass_0 22 rfl rfl
theorem dksX7_laysPass_2 : cX7_laysPass.data.toList.drop 46 = dktX7_laysPass_2 := dk_seg dksX7_laysPass_1 24 rfl rfl
theorem dksX7_laysPass_3 : cX7_laysPass.data.toList.drop 70 = dktX7_laysPass_3 := dk_seg dksX7_laysPass_2 24 rfl rfl
theorem dX7_laysPass_0 : decode cX7_laysPass 0 = .ok (.iconst 0, 1) := dk_3 (dk_at dksX7_laysPass_0 0 rfl rfl)
theorem dX7_laysPass_1 : decode cX7_laysPass 1 = .ok (.istore_n 2, 1) := dk_61 (dk_at dksX7_laysPass_0 1 rfl rfl)
theorem dX7_laysPass_2 : decode cX7_laysPass 2 = .ok (.iconst 0, 1) := dk_3 (dk_at dksX7_laysPass_0 2 rfl rfl)
theorem dX7_laysPass_3 : decode cX7_laysPass 3 = .ok (.istore_n 3, 1) := dk_62 (dk_at dksX7_laysPass_0 3 rfl rfl)
theorem dX7_laysPass_4 : decode cX7_laysPass 4 = .ok (.iload_n 3, 1) := dk_29 (dk_at dksX7_laysPass_0 4 rfl rfl)
theorem dX7_laysPass_5 : decode cX7_laysPass 5 = .ok (.aload_n 0, 1) := dk_42 (dk_at dksX7_laysPass_0 5 rfl rfl)
theorem dX7_laysPass_6 : decode cX7_laysPass 6 = .ok (.invokevirtual 88, 3) := dk_182 0 88 (dk_at dksX7_laysPass_0 6 rfl rfl)
theorem dX7_laysPass_9 : decode cX7_laysPass 9 = .ok (.if_icmp .ge 69, 3) := dk_162 0 69 (dk_at dksX7_laysPass_0 9 rfl rfl)
theorem dX7_laysPass_12 : decode cX7_laysPass 12 = .ok (.aload_n 0, 1) := dk_42 (dk_at dksX7_laysPass_0 12 rfl rfl)
theorem dX7_laysPass_13 : decode cX7_laysPass 13 = .ok (.getfield 69, 3) := dk_180 0 69 (dk_at dksX7_laysPass_0 13 rfl rfl)
theorem dX7_laysPass_16 : decode cX7_laysPass 16 = .ok (.iload_n 3, 1) := dk_29 (dk_at dksX7_laysPass_0 16 rfl rfl)
theorem dX7_laysPass_17 : decode cX7_laysPass 17 = .ok (.aload_n 0, 1) := dk_42 (dk_at dksX7_laysPass_0 17 rfl rfl)
theorem dX7_laysPass_18 : decode cX7_laysPass 18 = .ok (.iload_n 3, 1) := dk_29 (dk_at dksX7_laysPass_0 18 rfl rfl)
theorem dX7_laysPass_19 : decode cX7_laysPass 19 = .ok (.invokevirtual 91, 3) := dk_182 0 91 (dk_at dksX7_laysPass_0 19 rfl rfl)
theorem dX7_laysPass_22 : decode cX7_laysPass 22 = .ok (.ifCond .eq 31, 3) := dk_153 0 31 (dk_at dksX7_laysPass_1 0 rfl rfl)
theorem dX7_laysPass_25 : decode cX7_laysPass 25 = .ok (.aload_n 0, 1) := dk_42 (dk_at dksX7_laysPass_1 3 rfl rfl)
theorem dX7_laysPass_26 : decode cX7_laysPass 26 = .ok (.getfield 120, 3) := dk_180 0 120 (dk_at dksX7_laysPass_1 4 rfl rfl)
theorem dX7_laysPass_29 : decode cX7_laysPass 29 = .ok (.iload_n 1, 1) := dk_27 (dk_at dksX7_laysPass_1 7 rfl rfl)
theorem dX7_laysPass_30 : decode cX7_laysPass 30 = .ok (.invokestatic 99, 3) := dk_184 0 99 (dk_at dksX7_laysPass_1 8 rfl rfl)
theorem dX7_laysPass_33 : decode cX7_laysPass 33 = .ok (.ifCond .eq 20, 3) := dk_153 0 20 (dk_at dksX7_laysPass_1 11 rfl rfl)
theorem dX7_laysPass_36 : decode cX7_laysPass 36 = .ok (.aload_n 0, 1) := dk_42 (dk_at dksX7_laysPass_1 14 rfl rfl)
theorem dX7_laysPass_37 : decode cX7_laysPass 37 = .ok (.iconst 0, 1) := dk_3 (dk_at dksX7_laysPass_1 15 rfl rfl)
theorem dX7_laysPass_38 : decode cX7_laysPass 38 = .ok (.iload_n 3, 1) := dk_29 (dk_at dksX7_laysPass_1 16 rfl rfl)
theorem dX7_laysPass_39 : decode cX7_laysPass 39 = .ok (.invokevirtual 116, 3) := dk_182 0 116 (dk_at dksX7_laysPass_1 17 rfl rfl)
theorem dX7_laysPass_42 : decode cX7_laysPass 42 = .ok (.iload_n 1, 1) := dk_27 (dk_at dksX7_laysPass_1 20 rfl rfl)
theorem dX7_laysPass_43 : decode cX7_laysPass 43 = .ok (.invokestatic 99, 3) := dk_184 0 99 (dk_at dksX7_laysPass_1 21 rfl rfl)
theorem dX7_laysPass_46 : decode cX7_laysPass 46 = .ok (.ifCond .ne 7, 3) := dk_154 0 7 (dk_at dksX7_laysPass_2 0 rfl rfl)
theorem dX7_laysPass_49 : decode cX7_laysPass 49 = .ok (.iconst 1, 1) := dk_4 (dk_at dksX7_laysPass_2 3 rfl rfl)
theorem dX7_laysPass_50 : decode cX7_laysPass 50 = .ok (.goto 4, 3) := dk_167 0 4 (dk_at dksX7_laysPass_2 4 rfl rfl)
theorem dX7_laysPass_53 : decode cX7_laysPass 53 = .ok (.iconst 0, 1) := dk_3 (dk_at dksX7_laysPass_2 7 rfl rfl)
theorem dX7_laysPass_54 : decode cX7_laysPass 54 = .ok (.bastore, 1) := dk_84 (dk_at dksX7_laysPass_2 8 rfl rfl)
theorem dX7_laysPass_55 : decode cX7_laysPass 55 = .ok (.iload_n 2, 1) := dk_28 (dk_at dksX7_laysPass_2 9 rfl rfl)
theorem dX7_laysPass_56 : decode cX7_laysPass 56 = .ok (.aload_n 0, 1) := dk_42 (dk_at dksX7_laysPass_2 10 rfl rfl)
theorem dX7_laysPass_57 : decode cX7_laysPass 57 = .ok (.getfield 69, 3) := dk_180 0 69 (dk_at dksX7_laysPass_2 11 rfl rfl)
theorem dX7_laysPass_60 : decode cX7_laysPass 60 = .ok (.iload_n 3, 1) := dk_29 (dk_at dksX7_laysPass_2 14 rfl rfl)
theorem dX7_laysPass_61 : decode cX7_laysPass 61 = .ok (.baload, 1) := dk_51 (dk_at dksX7_laysPass_2 15 rfl rfl)
theorem dX7_laysPass_62 : decode cX7_laysPass 62 = .ok (.ifCond .eq 7, 3) := dk_153 0 7 (dk_at dksX7_laysPass_2 16 rfl rfl)
theorem dX7_laysPass_65 : decode cX7_laysPass 65 = .ok (.iconst 1, 1) := dk_4 (dk_at dksX7_laysPass_2 19 rfl rfl)
theorem dX7_laysPass_66 : decode cX7_laysPass 66 = .ok (.goto 4, 3) := dk_167 0 4 (dk_at dksX7_laysPass_2 20 rfl rfl)
theorem dX7_laysPass_69 : decode cX7_laysPass 69 = .ok (.iconst 0, 1) := dk_3 (dk_at dksX7_laysPass_2 23 rfl rfl)
theorem dX7_laysPass_70 : decode cX7_laysPass 70 = .ok (.iadd, 1) := dk_96 (dk_at dksX7_laysPass_3 0 rfl rfl)
theorem dX7_laysPass_71 : decode cX7_laysPass 71 = .ok (.istore_n 2, 1) := dk_61 (dk_at dksX7_laysPass_3 1 rfl rfl)
theorem dX7_laysPass_72 : decode cX7_laysPass 72 = .ok (.iinc 3 1, 3) := dk_132 3 1 (dk_at dksX7_laysPass_3 2 rfl rfl)
theorem dX7_laysPass_75 : decode cX7_laysPass 75 = .ok (.goto (-71), 3) := dk_167 255 185 (dk_at dksX7_laysPass_3 5 rfl rfl)
theorem dX7_laysPass_78 : decode cX7_laysPass 78 = .ok (.iload_n 2, 1) := dk_28 (dk_at dksX7_laysPass_3 8 rfl rfl)
theorem dX7_laysPass_79 : decode cX7_laysPass 79 = .ok (.ireturn, 1) := dk_172 (dk_at dksX7_laysPass_3 9 rfl rfl)
abbrev cX7_via : ByteArray := prog_11_method_81_code
def yX7_via : MethodName := ⟨RX7, "via", "(II)I"⟩
def dkwX7_via_4 : List UInt8 := [172]
abbrev dktX7_via_4 : List UInt8 := dkwX7_via_4 ++ []
def dkwX7_via_3 : List UInt8 := [182, 0, 112, 28, 184, 0, 99, 154, 0, 10, 29, 4, 21, 4, 120, 128, 62, 132, 4, 1, 167, 255, 206, 29]
abbrev dktX7_via_3 : List UInt8 := dkwX7_via_3 ++ dktX7_via_4
def dkwX7_via_2 : List UInt8 := [162, 0, 47, 21, 4, 27, 159, 0, 35, 21, 4, 28, 159, 0, 29, 42, 4, 27, 120, 4, 21, 4, 120, 2]
abbrev dktX7_via_2 : List UInt8 := dkwX7_via_2 ++ dktX7_via_3
def dkwX7_via_1 : List UInt8 := [182, 0, 112, 28, 184, 0, 99, 154, 0, 5, 2, 172, 3, 62, 3, 54, 4, 21, 4, 42, 182, 0, 80]
abbrev dktX7_via_1 : List UInt8 := dkwX7_via_1 ++ dktX7_via_2
def dkwX7_via_0 : List UInt8 := [42, 27, 182, 1, 47, 154, 0, 11, 42, 28, 182, 1, 47, 153, 0, 5, 3, 172, 42, 4, 27, 120, 3, 2]
abbrev dktX7_via_0 : List UInt8 := dkwX7_via_0 ++ dktX7_via_1
theorem dksX7_via_0 : cX7_via.data.toList.drop 0 = dktX7_via_0 := by decide +kernel
theorem dksX7_via_1 : cX7_via.data.toList.drop 24 = dktX7_via_1 := dk_seg dksX7_via_0 24 rfl rfl
theorem dksX7_via_2 : cX7_via.data.toList.drop 47 = dktX7_via_2 := dk_seg dksX7_via_1 23 rfl rfl
theorem dksX7_via_3 : cX7_via.data.toList.drop 71 = dktX7_via_3 := dk_seg dksX7_via_2 24 rfl rfl
theorem dksX7_via_4 : cX7_via.data.toList.drop 95 = dktX7_via_4 := dk_seg dksX7_via_3 24 rfl rfl
theorem dX7_via_0 : decode cX7_via 0 = .ok (.aload_n 0, 1) := dk_42 (dk_at dksX7_via_0 0 rfl rfl)
theorem dX7_via_1 : decode cX7_via 1 = .ok (.iload_n 1, 1) := dk_27 (dk_at dksX7_via_0 1 rfl rfl)
theorem dX7_via_2 : decode cX7_via 2 = .ok (.invokevirtual 303, 3) := dk_182 1 47 (dk_at dksX7_via_0 2 rfl rfl)
theorem dX7_via_5 : decode cX7_via 5 = .ok (.ifCond .ne 11, 3) := dk_154 0 11 (dk_at dksX7_via_0 5 rfl rfl)
theorem dX7_via_8 : decode cX7_via 8 = .ok (.aload_n 0, 1) := dk_42 (dk_at dksX7_via_0 8 rfl rfl)
theorem dX7_via_9 : decode cX7_via 9 = .ok (.iload_n 2, 1) := dk_28 (dk_at dksX7_via_0 9 rfl rfl)
theorem dX7_via_10 : decode cX7_via 10 = .ok (.invokevirtual 303, 3) := dk_182 1 47 (dk_at dksX7_via_0 10 rfl rfl)
theorem dX7_via_13 : decode cX7_via 13 = .ok (.ifCond .eq 5, 3) := dk_153 0 5 (dk_at dksX7_via_0 13 rfl rfl)
theorem dX7_via_16 : decode cX7_via 16 = .ok (.iconst 0, 1) := dk_3 (dk_at dksX7_via_0 16 rfl rfl)
theorem dX7_via_17 : decode cX7_via 17 = .ok (.ireturn, 1) := dk_172 (dk_at dksX7_via_0 17 rfl rfl)
theorem dX7_via_18 : decode cX7_via 18 = .ok (.aload_n 0, 1) := dk_42 (dk_at dksX7_via_0 18 rfl rfl)
theorem dX7_via_19 : decode cX7_via 19 = .ok (.iconst 1, 1) := dk_4 (dk_at dksX7_via_0 19 rfl rfl)
theorem dX7_via_20 : decode cX7_via 20 = .ok (.iload_n 1, 1) := dk_27 (dk_at dksX7_via_0 20 rfl rfl)
theorem dX7_via_21 : decode cX7_via 21 = .ok (.ishl, 1) := dk_120 (dk_at dksX7_via_0 21 rfl rfl)
theorem dX7_via_22 : decode cX7_via 22 = .ok (.iconst 0, 1) := dk_3 (dk_at dksX7_via_0 22 rfl rfl)
theorem dX7_via_23 : decode cX7_via 23 = .ok (.iconst (-1), 1) := dk_2 (dk_at dksX7_via_0 23 rfl rfl)
theorem dX7_via_24 : decode cX7_via 24 = .ok (.invokevirtual 112, 3) := dk_182 0 112 (dk_at dksX7_via_1 0 rfl rfl)
theorem dX7_via_27 : decode cX7_via 27 = .ok (.iload_n 2, 1) := dk_28 (dk_at dksX7_via_1 3 rfl rfl)
theorem dX7_via_28 : decode cX7_via 28 = .ok (.invokestatic 99, 3) := dk_184 0 99 (dk_at dksX7_via_1 4 rfl rfl)
theorem dX7_via_31 : decode cX7_via 31 = .ok (.ifCond .ne 5, 3) := dk_154 0 5 (dk_at dksX7_via_1 7 rfl rfl)
theorem dX7_via_34 : decode cX7_via 34 = .ok (.iconst (-1), 1) := dk_2 (dk_at dksX7_via_1 10 rfl rfl)
theorem dX7_via_35 : decode cX7_via 35 = .ok (.ireturn, 1) := dk_172 (dk_at dksX7_via_1 11 rfl rfl)
theorem dX7_via_36 : decode cX7_via 36 = .ok (.iconst 0, 1) := dk_3 (dk_at dksX7_via_1 12 rfl rfl)
theorem dX7_via_37 : decode cX7_via 37 = .ok (.istore_n 3, 1) := dk_62 (dk_at dksX7_via_1 13 rfl rfl)
theorem dX7_via_38 : decode cX7_via 38 = .ok (.iconst 0, 1) := dk_3 (dk_at dksX7_via_1 14 rfl rfl)
theorem dX7_via_39 : decode cX7_via 39 = .ok (.istore 4, 2) := dk_54 4 (dk_at dksX7_via_1 15 rfl rfl)
theorem dX7_via_41 : decode cX7_via 41 = .ok (.iload 4, 2) := dk_21 4 (dk_at dksX7_via_1 17 rfl rfl)
theorem dX7_via_43 : decode cX7_via 43 = .ok (.aload_n 0, 1) := dk_42 (dk_at dksX7_via_1 19 rfl rfl)
theorem dX7_via_44 : decode cX7_via 44 = .ok (.invokevirtual 80, 3) := dk_182 0 80 (dk_at dksX7_via_1 20 rfl rfl)
theorem dX7_via_47 : decode cX7_via 47 = .ok (.if_icmp .ge 47, 3) := dk_162 0 47 (dk_at dksX7_via_2 0 rfl rfl)
theorem dX7_via_50 : decode cX7_via 50 = .ok (.iload 4, 2) := dk_21 4 (dk_at dksX7_via_2 3 rfl rfl)
theorem dX7_via_52 : decode cX7_via 52 = .ok (.iload_n 1, 1) := dk_27 (dk_at dksX7_via_2 5 rfl rfl)
theorem dX7_via_53 : decode cX7_via 53 = .ok (.if_icmp .eq 35, 3) := dk_159 0 35 (dk_at dksX7_via_2 6 rfl rfl)
theorem dX7_via_56 : decode cX7_via 56 = .ok (.iload 4, 2) := dk_21 4 (dk_at dksX7_via_2 9 rfl rfl)
theorem dX7_via_58 : decode cX7_via 58 = .ok (.iload_n 2, 1) := dk_28 (dk_at dksX7_via_2 11 rfl rfl)
theorem dX7_via_59 : decode cX7_via 59 = .ok (.if_icmp .eq 29, 3) := dk_159 0 29 (dk_at dksX7_via_2 12 rfl rfl)
theorem dX7_via_62 : decode cX7_via 62 = .ok (.aload_n 0, 1) := dk_42 (dk_at dksX7_via_2 15 rfl rfl)
theorem dX7_via_63 : decode cX7_via 63 = .ok (.iconst 1, 1) := dk_4 (dk_at dksX7_via_2 16 rfl rfl)
theorem dX7_via_64 : decode cX7_via 64 = .ok (.iload_n 1, 1) := dk_27 (dk_at dksX7_via_2 17 rfl rfl)
theorem dX7_via_65 : decode cX7_via 65 = .ok (.ishl, 1) := dk_120 (dk_at dksX7_via_2 18 rfl rfl)
theorem dX7_via_66 : decode cX7_via 66 = .ok (.iconst 1, 1) := dk_4 (dk_at dksX7_via_2 19 rfl rfl)
theorem dX7_via_67 : decode cX7_via 67 = .ok (.iload 4, 2) := dk_21 4 (dk_at dksX7_via_2 20 rfl rfl)
theorem dX7_via_69 : decode cX7_via 69 = .ok (.ishl, 1) := dk_120 (dk_at dksX7_via_2 22 rfl rfl)
theorem dX7_via_70 : decode cX7_via 70 = .ok (.iconst (-1), 1) := dk_2 (dk_at dksX7_via_2 23 rfl rfl)
theorem dX7_via_71 : decode cX7_via 71 = .ok (.invokevirtual 112, 3) := dk_182 0 112 (dk_at dksX7_via_3 0 rfl rfl)
theorem dX7_via_74 : decode cX7_via 74 = .ok (.iload_n 2, 1) := dk_28 (dk_at dksX7_via_3 3 rfl rfl)
theorem dX7_via_75 : decode cX7_via 75 = .ok (.invokestatic 99, 3) := dk_184 0 99 (dk_at dksX7_via_3 4 rfl rfl)
theorem dX7_via_78 : decode cX7_via 78 = .ok (.ifCond .ne 10, 3) := dk_154 0 10 (dk_at dksX7_via_3 7 rfl rfl)
theorem dX7_via_81 : decode cX7_via 81 = .ok (.iload_n 3, 1) := dk_29 (dk_at dksX7_via_3 10 rfl rfl)
theorem dX7_via_82 : decode cX7_via 82 = .ok (.iconst 1, 1) := dk_4 (dk_at dksX7_via_3 11 rfl rfl)
theorem dX7_via_83 : decode cX7_via 83 = .ok (.iload 4, 2) := dk_21 4 (dk_at dksX7_via_3 12 rfl rfl)
theorem dX7_via_85 : decode cX7_via 85 = .ok (.ishl, 1) := dk_120 (dk_at dksX7_via_3 14 rfl rfl)
theorem dX7_via_86 : decode cX7_via 86 = .ok (.ior, 1) := dk_128 (dk_at dksX7_via_3 15 rfl rfl)
theorem dX7_via_87 : decode cX7_via 87 = .ok (.istore_n 3, 1) := dk_62 (dk_at dksX7_via_3 16 rfl rfl)
theorem dX7_via_88 : decode cX7_via 88 = .ok (.iinc 4 1, 3) := dk_132 4 1 (dk_at dksX7_via_3 17 rfl rfl)
theorem dX7_via_91 : decode cX7_via 91 = .ok (.goto (-50), 3) := dk_167 255 206 (dk_at dksX7_via_3 20 rfl rfl)
theorem dX7_via_94 : decode cX7_via 94 = .ok (.iload_n 3, 1) := dk_29 (dk_at dksX7_via_3 23 rfl rfl)
theorem dX7_via_95 : decode cX7_via 95 = .ok (.ireturn, 1) := dk_172 (dk_at dksX7_via_4 0 rfl rfl)
abbrev cX7_row : ByteArray := prog_11_method_82_code
def yX7_row : MethodName := ⟨RX7, "row", "(I)I"⟩
def dkwX7_row_3 : List UInt8 := [167, 255, 209, 132, 3, 1, 167, 255, 194, 2, 172]
abbrev dktX7_row_3 : List UInt8 := dkwX7_row_3 ++ []
def dkwX7_row_2 : List UInt8 := [182, 1, 53, 29, 159, 0, 6, 167, 0, 13, 28, 154, 0, 6, 21, 4, 172, 132, 2, 255, 132, 4, 1]
abbrev dktX7_row_2 : List UInt8 := dkwX7_row_2 ++ dktX7_row_3
def dkwX7_row_1 : List UInt8 := [42, 182, 0, 80, 162, 0, 44, 42, 180, 0, 120, 21, 4, 184, 0, 99, 153, 0, 26, 42, 21, 4]
abbrev dktX7_row_1 : List UInt8 := dkwX7_row_1 ++ dktX7_row_2
def dkwX7_row_0 : List UInt8 := [42, 3, 181, 0, 1, 42, 182, 0, 126, 27, 61, 3, 62, 29, 16, 16, 162, 0, 62, 3, 54, 4, 21, 4]
abbrev dktX7_row_0 : List UInt8 := dkwX7_row_0 ++ dktX7_row_1
theorem dksX7_row_0 : cX7_row.data.toList.drop 0 = dktX7_row_0 := by decide +kernel
theorem dksX7_row_1 : cX7_row.data.toList.drop 24 = dktX7_row_1 := dk_seg dksX7_row_0 24 rfl rfl
theorem dksX7_row_2 : cX7_row.data.toList.drop 46 = dktX7_row_2 := dk_seg dksX7_row_1 22 rfl rfl
theorem dksX7_row_3 : cX7_row.data.toList.drop 69 = dktX7_row_3 := dk_seg dksX7_row_2 23 rfl rfl
theorem dX7_row_0 : decode cX7_row 0 = .ok (.aload_n 0, 1) := dk_42 (dk_at dksX7_row_0 0 rfl rfl)
theorem dX7_row_1 : decode cX7_row 1 = .ok (.iconst 0, 1) := dk_3 (dk_at dksX7_row_0 1 rfl rfl)
theorem dX7_row_2 : decode cX7_row 2 = .ok (.putfield 1, 3) := dk_181 0 1 (dk_at dksX7_row_0 2 rfl rfl)
theorem dX7_row_5 : decode cX7_row 5 = .ok (.aload_n 0, 1) := dk_42 (dk_at dksX7_row_0 5 rfl rfl)
theorem dX7_row_6 : decode cX7_row 6 = .ok (.invokevirtual 126, 3) := dk_182 0 126 (dk_at dksX7_row_0 6 rfl rfl)
theorem dX7_row_9 : decode cX7_row 9 = .ok (.iload_n 1, 1) := dk_27 (dk_at dksX7_row_0 9 rfl rfl)
theorem dX7_row_10 : decode cX7_row 10 = .ok (.istore_n 2, 1) := dk_61 (dk_at dksX7_row_0 10 rfl rfl)
theorem dX7_row_11 : decode cX7_row 11 = .ok (.iconst 0, 1) := dk_3 (dk_at dksX7_row_0 11 rfl rfl)
theorem dX7_row_12 : decode cX7_row 12 = .ok (.istore_n 3, 1) := dk_62 (dk_at dksX7_row_0 12 rfl rfl)
theorem dX7_row_13 : decode cX7_row 13 = .ok (.iload_n 3, 1) := dk_29 (dk_at dksX7_row_0 13 rfl rfl)
theorem dX7_row_14 : decode cX7_row 14 = .ok (.bipush 16, 2) := dk_16 16 (dk_at dksX7_row_0 14 rfl rfl)
theorem dX7_row_16 : decode cX7_row 16 = .ok (.if_icmp .ge 62, 3) := dk_162 0 62 (dk_at dksX7_row_0 16 rfl rfl)
theorem dX7_row_19 : decode cX7_row 19 = .ok (.iconst 0, 1) := dk_3 (dk_at dksX7_row_0 19 rfl rfl)
theorem dX7_row_20 : decode cX7_row 20 = .ok (.istore 4, 2) := dk_54 4 (dk_at dksX7_row_0 20 rfl rfl)
theorem dX7_row_22 : decode cX7_row 22 = .ok (.iload 4, 2) := dk_21 4 (dk_at dksX7_row_0 22 rfl rfl)
theorem dX7_row_24 : decode cX7_row 24 = .ok (.aload_n 0, 1) := dk_42 (dk_at dksX7_row_1 0 rfl rfl)
theorem dX7_row_25 : decode cX7_row 25 = .ok (.invokevirtual 80, 3) := dk_182 0 80 (dk_at dksX7_row_1 1 rfl rfl)
theorem dX7_row_28 : decode cX7_row 28 = .ok (.if_icmp .ge 44, 3) := dk_162 0 44 (dk_at dksX7_row_1 4 rfl rfl)
theorem dX7_row_31 : decode cX7_row 31 = .ok (.aload_n 0, 1) := dk_42 (dk_at dksX7_row_1 7 rfl rfl)
theorem dX7_row_32 : decode cX7_row 32 = .ok (.getfield 120, 3) := dk_180 0 120 (dk_at dksX7_row_1 8 rfl rfl)
theorem dX7_row_35 : decode cX7_row 35 = .ok (.iload 4, 2) := dk_21 4 (dk_at dksX7_row_1 11 rfl rfl)
theorem dX7_row_37 : decode cX7_row 37 = .ok (.invokestatic 99, 3) := dk_184 0 99 (dk_at dksX7_row_1 13 rfl rfl)
theorem dX7_row_40 : decode cX7_row 40 = .ok (.ifCond .eq 26, 3) := dk_153 0 26 (dk_at dksX7_row_1 16 rfl rfl)
theorem dX7_row_43 : decode cX7_row 43 = .ok (.aload_n 0, 1) := dk_42 (dk_at dksX7_row_1 19 rfl rfl)
theorem dX7_row_44 : decode cX7_row 44 = .ok (.iload 4, 2) := dk_21 4 (dk_at dksX7_row_1 20 rfl rfl)
theorem dX7_row_46 : decode cX7_row 46 = .ok (.invokevirtual 309, 3) := dk_182 1 53 (dk_at dksX7_row_2 0 rfl rfl)
theorem dX7_row_49 : decode cX7_row 49 = .ok (.iload_n 3, 1) := dk_29 (dk_at dksX7_row_2 3 rfl rfl)
theorem dX7_row_50 : decode cX7_row 50 = .ok (.if_icmp .eq 6, 3) := dk_159 0 6 (dk_at dksX7_row_2 4 rfl rfl)
theorem dX7_row_53 : decode cX7_row 53 = .ok (.goto 13, 3) := dk_167 0 13 (dk_at dksX7_row_2 7 rfl rfl)
theorem dX7_row_56 : decode cX7_row 56 = .ok (.iload_n 2, 1) := dk_28 (dk_at dksX7_row_2 10 rfl rfl)
theorem dX7_row_57 : decode cX7_row 57 = .ok (.ifCond .ne 6, 3) := dk_154 0 6 (dk_at dksX7_row_2 11 rfl rfl)
theorem dX7_row_60 : decode cX7_row 60 = .ok (.iload 4, 2) := dk_21 4 (dk_at dksX7_row_2 14 rfl rfl)
theorem dX7_row_62 : decode cX7_row 62 = .ok (.ireturn, 1) := dk_172 (dk_at dksX7_row_2 16 rfl rfl)
theorem dX7_row_63 : decode cX7_row 63 = .ok (.iinc 2 (-1), 3) := dk_132 2 255 (dk_at dksX7_row_2 17 rfl rfl)
theorem dX7_row_66 : decode cX7_row 66 = .ok (.iinc 4 1, 3) := dk_132 4 1 (dk_at dksX7_row_2 20 rfl rfl)
theorem dX7_row_69 : decode cX7_row 69 = .ok (.goto (-47), 3) := dk_167 255 209 (dk_at dksX7_row_3 0 rfl rfl)
theorem dX7_row_72 : decode cX7_row 72 = .ok (.iinc 3 1, 3) := dk_132 3 1 (dk_at dksX7_row_3 3 rfl rfl)
theorem dX7_row_75 : decode cX7_row 75 = .ok (.goto (-62), 3) := dk_167 255 194 (dk_at dksX7_row_3 6 rfl rfl)
theorem dX7_row_78 : decode cX7_row 78 = .ok (.iconst (-1), 1) := dk_2 (dk_at dksX7_row_3 9 rfl rfl)
theorem dX7_row_79 : decode cX7_row 79 = .ok (.ireturn, 1) := dk_172 (dk_at dksX7_row_3 10 rfl rfl)
abbrev cX7_nearOf : ByteArray := prog_11_method_65_code
def yX7_nearOf : MethodName := ⟨RX7, "nearOf", "(I)I"⟩
def dkwX7_nearOf_3 : List UInt8 := [132, 5, 1, 167, 255, 209, 21, 4, 28, 160, 0, 5, 2, 172, 21, 4, 61, 132, 3, 1, 167, 255, 176]
abbrev dktX7_nearOf_3 : List UInt8 := dkwX7_nearOf_3 ++ []
def dkwX7_nearOf_2 : List UInt8 := [182, 0, 95, 184, 0, 99, 153, 0, 16, 21, 4, 4, 42, 21, 5, 182, 0, 103, 120, 128, 54, 4]
abbrev dktX7_nearOf_2 : List UInt8 := dkwX7_nearOf_2 ++ dktX7_nearOf_3
def dkwX7_nearOf_1 : List UInt8 := [54, 5, 21, 5, 42, 182, 0, 88, 162, 0, 44, 42, 21, 5, 182, 0, 91, 153, 0, 29, 28, 42, 21, 5]
abbrev dktX7_nearOf_1 : List UInt8 := dkwX7_nearOf_1 ++ dktX7_nearOf_2
def dkwX7_nearOf_0 : List UInt8 := [4, 42, 182, 0, 109, 120, 61, 3, 62, 28, 27, 184, 0, 99, 153, 0, 5, 29, 172, 28, 54, 4, 3]
abbrev dktX7_nearOf_0 : List UInt8 := dkwX7_nearOf_0 ++ dktX7_nearOf_1
theorem dksX7_nearOf_0 : cX7_nearOf.data.toList.drop 0 = dktX7_nearOf_0 := by decide +kernel
theorem dksX7_nearOf_1 : cX7_nearOf.data.toList.drop 23 = dktX7_nearOf_1 := dk_seg dksX7_nearOf_0 23 rfl rfl
theorem dksX7_nearOf_2 : cX7_nearOf.data.toList.drop 47 = dktX7_nearOf_2 := dk_seg dksX7_nearOf_1 24 rfl rfl
theorem dksX7_nearOf_3 : cX7_nearOf.data.toList.drop 69 = dktX7_nearOf_3 := dk_seg dksX7_nearOf_2 22 rfl rfl
theorem dX7_nearOf_0 : decode cX7_nearOf 0 = .ok (.iconst 1, 1) := dk_4 (dk_at dksX7_nearOf_0 0 rfl rfl)
theorem dX7_nearOf_1 : decode cX7_nearOf 1 = .ok (.aload_n 0, 1) := dk_42 (dk_at dksX7_nearOf_0 1 rfl rfl)
theorem dX7_nearOf_2 : decode cX7_nearOf 2 = .ok (.invokevirtual 109, 3) := dk_182 0 109 (dk_at dksX7_nearOf_0 2 rfl rfl)
theorem dX7_nearOf_5 : decode cX7_nearOf 5 = .ok (.ishl, 1) := dk_120 (dk_at dksX7_nearOf_0 5 rfl rfl)
theorem dX7_nearOf_6 : decode cX7_nearOf 6 = .ok (.istore_n 2, 1) := dk_61 (dk_at dksX7_nearOf_0 6 rfl rfl)
theorem dX7_nearOf_7 : decode cX7_nearOf 7 = .ok (.iconst 0, 1) := dk_3 (dk_at dksX7_nearOf_0 7 rfl rfl)
theorem dX7_nearOf_8 : decode cX7_nearOf 8 = .ok (.istore_n 3, 1) := dk_62 (dk_at dksX7_nearOf_0 8 rfl rfl)
theorem dX7_nearOf_9 : decode cX7_nearOf 9 = .ok (.iload_n 2, 1) := dk_28 (dk_at dksX7_nearOf_0 9 rfl rfl)
theorem dX7_nearOf_10 : decode cX7_nearOf 10 = .ok (.iload_n 1, 1) := dk_27 (dk_at dksX7_nearOf_0 10 rfl rfl)
theorem dX7_nearOf_11 : decode cX7_nearOf 11 = .ok (.invokestatic 99, 3) := dk_184 0 99 (dk_at dksX7_nearOf_0 11 rfl rfl)
theorem dX7_nearOf_14 : decode cX7_nearOf 14 = .ok (.ifCond .eq 5, 3) := dk_153 0 5 (dk_at dksX7_nearOf_0 14 rfl rfl)
theorem dX7_nearOf_17 : decode cX7_nearOf 17 = .ok (.iload_n 3, 1) := dk_29 (dk_at dksX7_nearOf_0 17 rfl rfl)
theorem dX7_nearOf_18 : decode cX7_nearOf 18 = .ok (.ireturn, 1) := dk_172 (dk_at dksX7_nearOf_0 18 rfl rfl)
theorem dX7_nearOf_19 : decode cX7_nearOf 19 = .ok (.iload_n 2, 1) := dk_28 (dk_at dksX7_nearOf_0 19 rfl rfl)
theorem dX7_nearOf_20 : decode cX7_nearOf 20 = .ok (.istore 4, 2) := dk_54 4 (dk_at dksX7_nearOf_0 20 rfl rfl)
theorem dX7_nearOf_22 : decode cX7_nearOf 22 = .ok (.iconst 0, 1) := dk_3 (dk_at dksX7_nearOf_0 22 rfl rfl)
theorem dX7_nearOf_23 : decode cX7_nearOf 23 = .ok (.istore 5, 2) := dk_54 5 (dk_at dksX7_nearOf_1 0 rfl rfl)
theorem dX7_nearOf_25 : decode cX7_nearOf 25 = .ok (.iload 5, 2) := dk_21 5 (dk_at dksX7_nearOf_1 2 rfl rfl)
theorem dX7_nearOf_27 : decode cX7_nearOf 27 = .ok (.aload_n 0, 1) := dk_42 (dk_at dksX7_nearOf_1 4 rfl rfl)
theorem dX7_nearOf_28 : decode cX7_nearOf 28 = .ok (.invokevirtual 88, 3) := dk_182 0 88 (dk_at dksX7_nearOf_1 5 rfl rfl)
theorem dX7_nearOf_31 : decode cX7_nearOf 31 = .ok (.if_icmp .ge 44, 3) := dk_162 0 44 (dk_at dksX7_nearOf_1 8 rfl rfl)
theorem dX7_nearOf_34 : decode cX7_nearOf 34 = .ok (.aload_n 0, 1) := dk_42 (dk_at dksX7_nearOf_1 11 rfl rfl)
theorem dX7_nearOf_35 : decode cX7_nearOf 35 = .ok (.iload 5, 2) := dk_21 5 (dk_at dksX7_nearOf_1 12 rfl rfl)
theorem dX7_nearOf_37 : decode cX7_nearOf 37 = .ok (.invokevirtual 91, 3) := dk_182 0 91 (dk_at dksX7_nearOf_1 14 rfl rfl)
theorem dX7_nearOf_40 : decode cX7_nearOf 40 = .ok (.ifCond .eq 29, 3) := dk_153 0 29 (dk_at dksX7_nearOf_1 17 rfl rfl)
theorem dX7_nearOf_43 : decode cX7_nearOf 43 = .ok (.iload_n 2, 1) := dk_28 (dk_at dksX7_nearOf_1 20 rfl rfl)
theorem dX7_nearOf_44 : decode cX7_nearOf 44 = .ok (.aload_n 0, 1) := dk_42 (dk_at dksX7_nearOf_1 21 rfl rfl)
theorem dX7_nearOf_45 : decode cX7_nearOf 45 = .ok (.iload 5, 2) := dk_21 5 (dk_at dksX7_nearOf_1 22 rfl rfl)
theorem dX7_nearOf_47 : decode cX7_nearOf 47 = .ok (.invokevirtual 95, 3) := dk_182 0 95 (dk_at dksX7_nearOf_2 0 rfl rfl)
theorem dX7_nearOf_50 : decode cX7_nearOf 50 = .ok (.invokestatic 99, 3) := dk_184 0 99 (dk_at dksX7_nearOf_2 3 rfl rfl)
theorem dX7_nearOf_53 : decode cX7_nearOf 53 = .ok (.ifCond .eq 16, 3) := dk_153 0 16 (dk_at dksX7_nearOf_2 6 rfl rfl)
theorem dX7_nearOf_56 : decode cX7_nearOf 56 = .ok (.iload 4, 2) := dk_21 4 (dk_at dksX7_nearOf_2 9 rfl rfl)
theorem dX7_nearOf_58 : decode cX7_nearOf 58 = .ok (.iconst 1, 1) := dk_4 (dk_at dksX7_nearOf_2 11 rfl rfl)
theorem dX7_nearOf_59 : decode cX7_nearOf 59 = .ok (.aload_n 0, 1) := dk_42 (dk_at dksX7_nearOf_2 12 rfl rfl)
theorem dX7_nearOf_60 : decode cX7_nearOf 60 = .ok (.iload 5, 2) := dk_21 5 (dk_at dksX7_nearOf_2 13 rfl rfl)
theorem dX7_nearOf_62 : decode cX7_nearOf 62 = .ok (.invokevirtual 103, 3) := dk_182 0 103 (dk_at dksX7_nearOf_2 15 rfl rfl)
theorem dX7_nearOf_65 : decode cX7_nearOf 65 = .ok (.ishl, 1) := dk_120 (dk_at dksX7_nearOf_2 18 rfl rfl)
theorem dX7_nearOf_66 : decode cX7_nearOf 66 = .ok (.ior, 1) := dk_128 (dk_at dksX7_nearOf_2 19 rfl rfl)
theorem dX7_nearOf_67 : decode cX7_nearOf 67 = .ok (.istore 4, 2) := dk_54 4 (dk_at dksX7_nearOf_2 20 rfl rfl)
theorem dX7_nearOf_69 : decode cX7_nearOf 69 = .ok (.iinc 5 1, 3) := dk_132 5 1 (dk_at dksX7_nearOf_3 0 rfl rfl)
theorem dX7_nearOf_72 : decode cX7_nearOf 72 = .ok (.goto (-47), 3) := dk_167 255 209 (dk_at dksX7_nearOf_3 3 rfl rfl)
theorem dX7_nearOf_75 : decode cX7_nearOf 75 = .ok (.iload 4, 2) := dk_21 4 (dk_at dksX7_nearOf_3 6 rfl rfl)
theorem dX7_nearOf_77 : decode cX7_nearOf 77 = .ok (.iload_n 2, 1) := dk_28 (dk_at dksX7_nearOf_3 8 rfl rfl)
theorem dX7_nearOf_78 : decode cX7_nearOf 78 = .ok (.if_icmp .ne 5, 3) := dk_160 0 5 (dk_at dksX7_nearOf_3 9 rfl rfl)
theorem dX7_nearOf_81 : decode cX7_nearOf 81 = .ok (.iconst (-1), 1) := dk_2 (dk_at dksX7_nearOf_3 12 rfl rfl)
theorem dX7_nearOf_82 : decode cX7_nearOf 82 = .ok (.ireturn, 1) := dk_172 (dk_at dksX7_nearOf_3 13 rfl rfl)
theorem dX7_nearOf_83 : decode cX7_nearOf 83 = .ok (.iload 4, 2) := dk_21 4 (dk_at dksX7_nearOf_3 14 rfl rfl)
theorem dX7_nearOf_85 : decode cX7_nearOf 85 = .ok (.istore_n 2, 1) := dk_61 (dk_at dksX7_nearOf_3 16 rfl rfl)
theorem dX7_nearOf_86 : decode cX7_nearOf 86 = .ok (.iinc 3 1, 3) := dk_132 3 1 (dk_at dksX7_nearOf_3 17 rfl rfl)
theorem dX7_nearOf_89 : decode cX7_nearOf 89 = .ok (.goto (-80), 3) := dk_167 255 176 (dk_at dksX7_nearOf_3 20 rfl rfl)
abbrev cX7_node : ByteArray := prog_11_method_83_code
def yX7_node : MethodName := ⟨RX7, "node", "(II)I"⟩
def dkwX7_node_9 : List UInt8 := [182, 1, 44, 172, 42, 27, 182, 1, 86, 172]
abbrev dktX7_node_9 : List UInt8 := dkwX7_node_9 ++ []
def dkwX7_node_8 : List UInt8 := [42, 27, 182, 1, 80, 172, 42, 27, 182, 1, 83, 172, 42, 27, 3, 182, 1, 44, 172, 42, 27, 4]
abbrev dktX7_node_8 : List UInt8 := dkwX7_node_8 ++ dktX7_node_9
def dkwX7_node_7 : List UInt8 := [27, 96, 46, 172, 29, 153, 0, 11, 42, 27, 182, 1, 74, 167, 0, 4, 2, 172, 42, 27, 182, 1, 77, 172]
abbrev dktX7_node_7 : List UInt8 := dkwX7_node_7 ++ dktX7_node_8
def dkwX7_node_6 : List UInt8 := [172, 42, 27, 182, 1, 38, 172, 42, 27, 182, 1, 68, 172, 42, 27, 182, 1, 71, 172, 42, 180, 0, 13, 7]
abbrev dktX7_node_6 : List UInt8 := dkwX7_node_6 ++ dktX7_node_7
def dkwX7_node_5 : List UInt8 := [172, 42, 27, 182, 1, 32, 172, 42, 27, 182, 1, 62, 172, 42, 27, 182, 1, 53, 172, 42, 27, 182, 1, 65]
abbrev dktX7_node_5 : List UInt8 := dkwX7_node_5 ++ dktX7_node_6
def dkwX7_node_4 : List UInt8 := [42, 180, 0, 32, 27, 46, 172, 42, 27, 182, 1, 20, 172, 42, 27, 182, 1, 56, 172, 42, 27, 182, 1, 59]
abbrev dktX7_node_4 : List UInt8 := dkwX7_node_4 ++ dktX7_node_5
def dkwX7_node_3 : List UInt8 := [29, 153, 0, 7, 4, 167, 0, 4, 3, 172, 42, 180, 0, 38, 27, 46, 172, 42, 180, 0, 35, 27, 46, 172]
abbrev dktX7_node_3 : List UInt8 := dkwX7_node_3 ++ dktX7_node_4
def dkwX7_node_2 : List UInt8 := [170, 0, 0, 0, 243, 0, 0, 0, 0, 0, 0, 0, 20, 0, 0, 0, 97, 0, 0, 0, 107, 0, 0, 0, 114, 0, 0, 0, 121, 0, 0, 0, 128, 0, 0, 0, 134, 0, 0, 0, 140, 0, 0, 0, 146, 0, 0, 0, 152, 0, 0, 0, 158, 0, 0, 0, 164, 0, 0, 0, 170, 0, 0, 0, 176, 0, 0, 0, 182, 0, 0, 0, 188, 0, 0, 0, 197, 0, 0, 0, 211, 0, 0, 0, 217, 0, 0, 0, 223, 0, 0, 0, 229, 0, 0, 0, 236]
abbrev dktX7_node_2 : List UInt8 := dkwX7_node_2 ++ dktX7_node_3
def dkwX7_node_1 : List UInt8 := [5, 182, 0, 157, 153, 0, 5, 3, 172, 42, 180, 0, 120, 27, 184, 0, 99, 62, 28]
abbrev dktX7_node_1 : List UInt8 := dkwX7_node_1 ++ dktX7_node_2
def dkwX7_node_0 : List UInt8 := [42, 27, 182, 1, 47, 154, 0, 26, 42, 28, 3, 16, 21, 184, 0, 84, 154, 0, 7, 4, 167, 0, 4, 3]
abbrev dktX7_node_0 : List UInt8 := dkwX7_node_0 ++ dktX7_node_1
theorem dksX7_node_0 : cX7_node.data.toList.drop 0 = dktX7_node_0 := by decide +kernel
theorem dksX7_node_1 : cX7_node.data.toList.drop 24 = dktX7_node_1 := dk_seg dksX7_node_0 24 rfl rfl
theorem dksX7_node_2 : cX7_node.data.toList.drop 43 = dktX7_node_2 := dk_seg dksX7_node_1 19 rfl rfl
theorem dksX7_node_3 : cX7_node.data.toList.drop 140 = dktX7_node_3 := dk_seg dksX7_node_2 97 rfl rfl
theorem dksX7_node_4 : cX7_node.data.toList.drop 164 = dktX7_node_4 := dk_seg dksX7_node_3 24 rfl rfl
theorem dksX7_node_5 : cX7_node.data.toList.drop 188 = dktX7_node_5 := dk_seg dksX7_node_4 24 rfl rfl
theorem dksX7_node_6 : cX7_node.data.toList.drop 212 = dktX7_node_6 := dk_seg dksX7_node_5 24 rfl rfl
theorem dksX7_node_7 : cX7_node.data.toList.drop 236 = dktX7_node_7 := dk_seg dksX7_node_6 24 rfl rfl
theorem dksX7_node_8 : cX7_node.data.toList.drop 260 = dktX7_node_8 := dk_seg dksX7_node_7 24 rfl rfl
theorem dksX7_node_9 : cX7_node.data.toList.drop 282 = dktX7_node_9 := dk_seg dksX7_node_8 22 rfl rfl
theorem dX7_node_0 : decode cX7_node 0 = .ok (.aload_n 0, 1) := dk_42 (dk_at dksX7_node_0 0 rfl rfl)
theorem dX7_node_1 : decode cX7_node 1 = .ok (.iload_n 1, 1) := dk_27 (dk_at dksX7_node_0 1 rfl rfl)
theorem dX7_node_2 : decode cX7_node 2 = .ok (.invokevirtual 303, 3) := dk_182 1 47 (dk_at dksX7_node_0 2 rfl rfl)
theorem dX7_node_5 : decode cX7_node 5 = .ok (.ifCond .ne 26, 3) := dk_154 0 26 (dk_at dksX7_node_0 5 rfl rfl)
theorem dX7_node_8 : decode cX7_node 8 = .ok (.aload_n 0, 1) := dk_42 (dk_at dksX7_node_0 8 rfl rfl)
theorem dX7_node_9 : decode cX7_node 9 = .ok (.iload_n 2, 1) := dk_28 (dk_at dksX7_node_0 9 rfl rfl)
theorem dX7_node_10 : decode cX7_node 10 = .ok (.iconst 0, 1) := dk_3 (dk_at dksX7_node_0 10 rfl rfl)
theorem dX7_node_11 : decode cX7_node 11 = .ok (.bipush 21, 2) := dk_16 21 (dk_at dksX7_node_0 11 rfl rfl)
theorem dX7_node_13 : decode cX7_node 13 = .ok (.invokestatic 84, 3) := dk_184 0 84 (dk_at dksX7_node_0 13 rfl rfl)
theorem dX7_node_16 : decode cX7_node 16 = .ok (.ifCond .ne 7, 3) := dk_154 0 7 (dk_at dksX7_node_0 16 rfl rfl)
theorem dX7_node_19 : decode cX7_node 19 = .ok (.iconst 1, 1) := dk_4 (dk_at dksX7_node_0 19 rfl rfl)
theorem dX7_node_20 : decode cX7_node 20 = .ok (.goto 4, 3) := dk_167 0 4 (dk_at dksX7_node_0 20 rfl rfl)
theorem dX7_node_23 : decode cX7_node 23 = .ok (.iconst 0, 1) := dk_3 (dk_at dksX7_node_0 23 rfl rfl)
theorem dX7_node_24 : decode cX7_node 24 = .ok (.iconst 2, 1) := dk_5 (dk_at dksX7_node_1 0 rfl rfl)
theorem dX7_node_25 : decode cX7_node 25 = .ok (.invokevirtual 157, 3) := dk_182 0 157 (dk_at dksX7_node_1 1 rfl rfl)
theorem dX7_node_28 : decode cX7_node 28 = .ok (.ifCond .eq 5, 3) := dk_153 0 5 (dk_at dksX7_node_1 4 rfl rfl)
theorem dX7_node_31 : decode cX7_node 31 = .ok (.iconst 0, 1) := dk_3 (dk_at dksX7_node_1 7 rfl rfl)
theorem dX7_node_32 : decode cX7_node 32 = .ok (.ireturn, 1) := dk_172 (dk_at dksX7_node_1 8 rfl rfl)
theorem dX7_node_33 : decode cX7_node 33 = .ok (.aload_n 0, 1) := dk_42 (dk_at dksX7_node_1 9 rfl rfl)
theorem dX7_node_34 : decode cX7_node 34 = .ok (.getfield 120, 3) := dk_180 0 120 (dk_at dksX7_node_1 10 rfl rfl)
theorem dX7_node_37 : decode cX7_node 37 = .ok (.iload_n 1, 1) := dk_27 (dk_at dksX7_node_1 13 rfl rfl)
theorem dX7_node_38 : decode cX7_node 38 = .ok (.invokestatic 99, 3) := dk_184 0 99 (dk_at dksX7_node_1 14 rfl rfl)
theorem dX7_node_41 : decode cX7_node 41 = .ok (.istore_n 3, 1) := dk_62 (dk_at dksX7_node_1 17 rfl rfl)
theorem dX7_node_42 : decode cX7_node 42 = .ok (.iload_n 2, 1) := dk_28 (dk_at dksX7_node_1 18 rfl rfl)
theorem dX7_node_43 : decode cX7_node 43 = .ok (.tableswitch 243 0 20 #[97, 107, 114, 121, 128, 134, 140, 146, 152, 158, 164, 170, 176, 182, 188, 197, 211, 217, 223, 229, 236], 97) := by decide +kernel
theorem dX7_node_140 : decode cX7_node 140 = .ok (.iload_n 3, 1) := dk_29 (dk_at dksX7_node_3 0 rfl rfl)
theorem dX7_node_141 : decode cX7_node 141 = .ok (.ifCond .eq 7, 3) := dk_153 0 7 (dk_at dksX7_node_3 1 rfl rfl)
theorem dX7_node_144 : decode cX7_node 144 = .ok (.iconst 1, 1) := dk_4 (dk_at dksX7_node_3 4 rfl rfl)
theorem dX7_node_145 : decode cX7_node 145 = .ok (.goto 4, 3) := dk_167 0 4 (dk_at dksX7_node_3 5 rfl rfl)
theorem dX7_node_148 : decode cX7_node 148 = .ok (.iconst 0, 1) := dk_3 (dk_at dksX7_node_3 8 rfl rfl)
theorem dX7_node_149 : decode cX7_node 149 = .ok (.ireturn, 1) := dk_172 (dk_at dksX7_node_3 9 rfl rfl)
theorem dX7_node_150 : decode cX7_node 150 = .ok (.aload_n 0, 1) := dk_42 (dk_at dksX7_node_3 10 rfl rfl)
theorem dX7_node_151 : decode cX7_node 151 = .ok (.getfield 38, 3) := dk_180 0 38 (dk_at dksX7_node_3 11 rfl rfl)
theorem dX7_node_154 : decode cX7_node 154 = .ok (.iload_n 1, 1) := dk_27 (dk_at dksX7_node_3 14 rfl rfl)
theorem dX7_node_155 : decode cX7_node 155 = .ok (.iaload, 1) := dk_46 (dk_at dksX7_node_3 15 rfl rfl)
theorem dX7_node_156 : decode cX7_node 156 = .ok (.ireturn, 1) := dk_172 (dk_at dksX7_node_3 16 rfl rfl)
theorem dX7_node_157 : decode cX7_node 157 = .ok (.aload_n 0, 1) := dk_42 (dk_at dksX7_node_3 17 rfl rfl)
theorem dX7_node_158 : decode cX7_node 158 = .ok (.getfield 35, 3) := dk_180 0 35 (dk_at dksX7_node_3 18 rfl rfl)
theorem dX7_node_161 : decode cX7_node 161 = .ok (.iload_n 1, 1) := dk_27 (dk_at dksX7_node_3 21 rfl rfl)
theorem dX7_node_162 : decode cX7_node 162 = .ok (.iaload, 1) := dk_46 (dk_at dksX7_node_3 22 rfl rfl)
theorem dX7_node_163 : decode cX7_node 163 = .ok (.ireturn, 1) := dk_172 (dk_at dksX7_node_3 23 rfl rfl)
theorem dX7_node_164 : decode cX7_node 164 = .ok (.aload_n 0, 1) := dk_42 (dk_at dksX7_node_4 0 rfl rfl)
theorem dX7_node_165 : decode cX7_node 165 = .ok (.getfield 32, 3) := dk_180 0 32 (dk_at dksX7_node_4 1 rfl rfl)
theorem dX7_node_168 : decode cX7_node 168 = .ok (.iload_n 1, 1) := dk_27 (dk_at dksX7_node_4 4 rfl rfl)
theorem dX7_node_169 : decode cX7_node 169 = .ok (.iaload, 1) := dk_46 (dk_at dksX7_node_4 5 rfl rfl)
theorem dX7_node_170 : decode cX7_node 170 = .ok (.ireturn, 1) := dk_172 (dk_at dksX7_node_4 6 rfl rfl)
theorem dX7_node_171 : decode cX7_node 171 = .ok (.aload_n 0, 1) := dk_42 (dk_at dksX7_node_4 7 rfl rfl)
theorem dX7_node_172 : decode cX7_node 172 = .ok (.iload_n 1, 1) := dk_27 (dk_at dksX7_node_4 8 rfl rfl)
theorem dX7_node_173 : decode cX7_node 173 = .ok (.invokevirtual 276, 3) := dk_182 1 20 (dk_at dksX7_node_4 9 rfl rfl)
theorem dX7_node_176 : decode cX7_node 176 = .ok (.ireturn, 1) := dk_172 (dk_at dksX7_node_4 12 rfl rfl)
theorem dX7_node_177 : decode cX7_node 177 = .ok (.aload_n 0, 1) := dk_42 (dk_at dksX7_node_4 13 rfl rfl)
theorem dX7_node_178 : decode cX7_node 178 = .ok (.iload_n 1, 1) := dk_27 (dk_at dksX7_node_4 14 rfl rfl)
theorem dX7_node_179 : decode cX7_node 179 = .ok (.invokevirtual 312, 3) := dk_182 1 56 (dk_at dksX7_node_4 15 rfl rfl)
theorem dX7_node_182 : decode cX7_node 182 = .ok (.ireturn, 1) := dk_172 (dk_at dksX7_node_4 18 rfl rfl)
theorem dX7_node_183 : decode cX7_node 183 = .ok (.aload_n 0, 1) := dk_42 (dk_at dksX7_node_4 19 rfl rfl)
theorem dX7_node_184 : decode cX7_node 184 = .ok (.iload_n 1, 1) := dk_27 (dk_at dksX7_node_4 20 rfl rfl)
theorem dX7_node_185 : decode cX7_node 185 = .ok (.invokevirtual 315, 3) := dk_182 1 59 (dk_at dksX7_node_4 21 rfl rfl)
theorem dX7_node_188 : decode cX7_node 188 = .ok (.ireturn, 1) := dk_172 (dk_at dksX7_node_5 0 rfl rfl)
theorem dX7_node_189 : decode cX7_node 189 = .ok (.aload_n 0, 1) := dk_42 (dk_at dksX7_node_5 1 rfl rfl)
theorem dX7_node_190 : decode cX7_node 190 = .ok (.iload_n 1, 1) := dk_27 (dk_at dksX7_node_5 2 rfl rfl)
theorem dX7_node_191 : decode cX7_node 191 = .ok (.invokevirtual 288, 3) := dk_182 1 32 (dk_at dksX7_node_5 3 rfl rfl)
theorem dX7_node_194 : decode cX7_node 194 = .ok (.ireturn, 1) := dk_172 (dk_at dksX7_node_5 6 rfl rfl)
theorem dX7_node_195 : decode cX7_node 195 = .ok (.aload_n 0, 1) := dk_42 (dk_at dksX7_node_5 7 rfl rfl)
theorem dX7_node_196 : decode cX7_node 196 = .ok (.iload_n 1, 1) := dk_27 (dk_at dksX7_node_5 8 rfl rfl)
theorem dX7_node_197 : decode cX7_node 197 = .ok (.invokevirtual 318, 3) := dk_182 1 62 (dk_at dksX7_node_5 9 rfl rfl)
theorem dX7_node_200 : decode cX7_node 200 = .ok (.ireturn, 1) := dk_172 (dk_at dksX7_node_5 12 rfl rfl)
theorem dX7_node_201 : decode cX7_node 201 = .ok (.aload_n 0, 1) := dk_42 (dk_at dksX7_node_5 13 rfl rfl)
theorem dX7_node_202 : decode cX7_node 202 = .ok (.iload_n 1, 1) := dk_27 (dk_at dksX7_node_5 14 rfl rfl)
theorem dX7_node_203 : decode cX7_node 203 = .ok (.invokevirtual 309, 3) := dk_182 1 53 (dk_at dksX7_node_5 15 rfl rfl)
theorem dX7_node_206 : decode cX7_node 206 = .ok (.ireturn, 1) := dk_172 (dk_at dksX7_node_5 18 rfl rfl)
theorem dX7_node_207 : decode cX7_node 207 = .ok (.aload_n 0, 1) := dk_42 (dk_at dksX7_node_5 19 rfl rfl)
theorem dX7_node_208 : decode cX7_node 208 = .ok (.iload_n 1, 1) := dk_27 (dk_at dksX7_node_5 20 rfl rfl)
theorem dX7_node_209 : decode cX7_node 209 = .ok (.invokevirtual 321, 3) := dk_182 1 65 (dk_at dksX7_node_5 21 rfl rfl)
theorem dX7_node_212 : decode cX7_node 212 = .ok (.ireturn, 1) := dk_172 (dk_at dksX7_node_6 0 rfl rfl)
theorem dX7_node_213 : decode cX7_node 213 = .ok (.aload_n 0, 1) := dk_42 (dk_at dksX7_node_6 1 rfl rfl)
theorem dX7_node_214 : decode cX7_node 214 = .ok (.iload_n 1, 1) := dk_27 (dk_at dksX7_node_6 2 rfl rfl)
theorem dX7_node_215 : decode cX7_node 215 = .ok (.invokevirtual 294, 3) := dk_182 1 38 (dk_at dksX7_node_6 3 rfl rfl)
theorem dX7_node_218 : decode cX7_node 218 = .ok (.ireturn, 1) := dk_172 (dk_at dksX7_node_6 6 rfl rfl)
theorem dX7_node_219 : decode cX7_node 219 = .ok (.aload_n 0, 1) := dk_42 (dk_at dksX7_node_6 7 rfl rfl)
theorem dX7_node_220 : decode cX7_node 220 = .ok (.iload_n 1, 1) := dk_27 (dk_at dksX7_node_6 8 rfl rfl)
theorem dX7_node_221 : decode cX7_node 221 = .ok (.invokevirtual 324, 3) := dk_182 1 68 (dk_at dksX7_node_6 9 rfl rfl)
theorem dX7_node_224 : decode cX7_node 224 = .ok (.ireturn, 1) := dk_172 (dk_at dksX7_node_6 12 rfl rfl)
theorem dX7_node_225 : decode cX7_node 225 = .ok (.aload_n 0, 1) := dk_42 (dk_at dksX7_node_6 13 rfl rfl)
theorem dX7_node_226 : decode cX7_node 226 = .ok (.iload_n 1, 1) := dk_27 (dk_at dksX7_node_6 14 rfl rfl)
theorem dX7_node_227 : decode cX7_node 227 = .ok (.invokevirtual 327, 3) := dk_182 1 71 (dk_at dksX7_node_6 15 rfl rfl)
theorem dX7_node_230 : decode cX7_node 230 = .ok (.ireturn, 1) := dk_172 (dk_at dksX7_node_6 18 rfl rfl)
theorem dX7_node_231 : decode cX7_node 231 = .ok (.aload_n 0, 1) := dk_42 (dk_at dksX7_node_6 19 rfl rfl)
theorem dX7_node_232 : decode cX7_node 232 = .ok (.getfield 13, 3) := dk_180 0 13 (dk_at dksX7_node_6 20 rfl rfl)
theorem dX7_node_235 : decode cX7_node 235 = .ok (.iconst 4, 1) := dk_7 (dk_at dksX7_node_6 23 rfl rfl)
theorem dX7_node_236 : decode cX7_node 236 = .ok (.iload_n 1, 1) := dk_27 (dk_at dksX7_node_7 0 rfl rfl)
theorem dX7_node_237 : decode cX7_node 237 = .ok (.iadd, 1) := dk_96 (dk_at dksX7_node_7 1 rfl rfl)
theorem dX7_node_238 : decode cX7_node 238 = .ok (.iaload, 1) := dk_46 (dk_at dksX7_node_7 2 rfl rfl)
theorem dX7_node_239 : decode cX7_node 239 = .ok (.ireturn, 1) := dk_172 (dk_at dksX7_node_7 3 rfl rfl)
theorem dX7_node_240 : decode cX7_node 240 = .ok (.iload_n 3, 1) := dk_29 (dk_at dksX7_node_7 4 rfl rfl)
theorem dX7_node_241 : decode cX7_node 241 = .ok (.ifCond .eq 11, 3) := dk_153 0 11 (dk_at dksX7_node_7 5 rfl rfl)
theorem dX7_node_244 : decode cX7_node 244 = .ok (.aload_n 0, 1) := dk_42 (dk_at dksX7_node_7 8 rfl rfl)
theorem dX7_node_245 : decode cX7_node 245 = .ok (.iload_n 1, 1) := dk_27 (dk_at dksX7_node_7 9 rfl rfl)
theorem dX7_node_246 : decode cX7_node 246 = .ok (.invokevirtual 330, 3) := dk_182 1 74 (dk_at dksX7_node_7 10 rfl rfl)
theorem dX7_node_249 : decode cX7_node 249 = .ok (.goto 4, 3) := dk_167 0 4 (dk_at dksX7_node_7 13 rfl rfl)
theorem dX7_node_252 : decode cX7_node 252 = .ok (.iconst (-1), 1) := dk_2 (dk_at dksX7_node_7 16 rfl rfl)
theorem dX7_node_253 : decode cX7_node 253 = .ok (.ireturn, 1) := dk_172 (dk_at dksX7_node_7 17 rfl rfl)
theorem dX7_node_254 : decode cX7_node 254 = .ok (.aload_n 0, 1) := dk_42 (dk_at dksX7_node_7 18 rfl rfl)
theorem dX7_node_255 : decode cX7_node 255 = .ok (.iload_n 1, 1) := dk_27 (dk_at dksX7_node_7 19 rfl rfl)
theorem dX7_node_256 : decode cX7_node 256 = .ok (.invokevirtual 333, 3) := dk_182 1 77 (dk_at dksX7_node_7 20 rfl rfl)
theorem dX7_node_259 : decode cX7_node 259 = .ok (.ireturn, 1) := dk_172 (dk_at dksX7_node_7 23 rfl rfl)
theorem dX7_node_260 : decode cX7_node 260 = .ok (.aload_n 0, 1) := dk_42 (dk_at dksX7_node_8 0 rfl rfl)
theorem dX7_node_261 : decode cX7_node 261 = .ok (.iload_n 1, 1) := dk_27 (dk_at dksX7_node_8 1 rfl rfl)
theorem dX7_node_262 : decode cX7_node 262 = .ok (.invokevirtual 336, 3) := dk_182 1 80 (dk_at dksX7_node_8 2 rfl rfl)
theorem dX7_node_265 : decode cX7_node 265 = .ok (.ireturn, 1) := dk_172 (dk_at dksX7_node_8 5 rfl rfl)
theorem dX7_node_266 : decode cX7_node 266 = .ok (.aload_n 0, 1) := dk_42 (dk_at dksX7_node_8 6 rfl rfl)
theorem dX7_node_267 : decode cX7_node 267 = .ok (.iload_n 1, 1) := dk_27 (dk_at dksX7_node_8 7 rfl rfl)
theorem dX7_node_268 : decode cX7_node 268 = .ok (.invokevirtual 339, 3) := dk_182 1 83 (dk_at dksX7_node_8 8 rfl rfl)
theorem dX7_node_271 : decode cX7_node 271 = .ok (.ireturn, 1) := dk_172 (dk_at dksX7_node_8 11 rfl rfl)
theorem dX7_node_272 : decode cX7_node 272 = .ok (.aload_n 0, 1) := dk_42 (dk_at dksX7_node_8 12 rfl rfl)
theorem dX7_node_273 : decode cX7_node 273 = .ok (.iload_n 1, 1) := dk_27 (dk_at dksX7_node_8 13 rfl rfl)
theorem dX7_node_274 : decode cX7_node 274 = .ok (.iconst 0, 1) := dk_3 (dk_at dksX7_node_8 14 rfl rfl)
theorem dX7_node_275 : decode cX7_node 275 = .ok (.invokevirtual 300, 3) := dk_182 1 44 (dk_at dksX7_node_8 15 rfl rfl)
theorem dX7_node_278 : decode cX7_node 278 = .ok (.ireturn, 1) := dk_172 (dk_at dksX7_node_8 18 rfl rfl)
theorem dX7_node_279 : decode cX7_node 279 = .ok (.aload_n 0, 1) := dk_42 (dk_at dksX7_node_8 19 rfl rfl)
theorem dX7_node_280 : decode cX7_node 280 = .ok (.iload_n 1, 1) := dk_27 (dk_at dksX7_node_8 20 rfl rfl)
theorem dX7_node_281 : decode cX7_node 281 = .ok (.iconst 1, 1) := dk_4 (dk_at dksX7_node_8 21 rfl rfl)
theorem dX7_node_282 : decode cX7_node 282 = .ok (.invokevirtual 300, 3) := dk_182 1 44 (dk_at dksX7_node_9 0 rfl rfl)
theorem dX7_node_285 : decode cX7_node 285 = .ok (.ireturn, 1) := dk_172 (dk_at dksX7_node_9 3 rfl rfl)
theorem dX7_node_286 : decode cX7_node 286 = .ok (.aload_n 0, 1) := dk_42 (dk_at dksX7_node_9 4 rfl rfl)
theorem dX7_node_287 : decode cX7_node 287 = .ok (.iload_n 1, 1) := dk_27 (dk_at dksX7_node_9 5 rfl rfl)
theorem dX7_node_288 : decode cX7_node 288 = .ok (.invokevirtual 342, 3) := dk_182 1 86 (dk_at dksX7_node_9 6 rfl rfl)
theorem dX7_node_291 : decode cX7_node 291 = .ok (.ireturn, 1) := dk_172 (dk_at dksX7_node_9 9 rfl rfl)
abbrev cX7_keptBy : ByteArray := prog_11_method_22_code
def yX7_keptBy : MethodName := ⟨RX7, "keptBy", "(I)I"⟩
def dkwX7_keptBy_1 : List UInt8 := [153, 0, 9, 4, 29, 120, 167, 0, 4, 3, 128, 61, 132, 3, 1, 167, 255, 222, 28, 172]
abbrev dktX7_keptBy_1 : List UInt8 := dkwX7_keptBy_1 ++ []
def dkwX7_keptBy_0 : List UInt8 := [3, 61, 3, 62, 29, 42, 182, 0, 80, 162, 0, 32, 28, 42, 180, 0, 32, 29, 46, 27, 184, 0, 99]
abbrev dktX7_keptBy_0 : List UInt8 := dkwX7_keptBy_0 ++ dktX7_keptBy_1
theorem dksX7_keptBy_0 : cX7_keptBy.data.toList.drop 0 = dktX7_keptBy_0 := by decide +kernel
theorem dksX7_keptBy_1 : cX7_keptBy.data.toList.drop 23 = dktX7_keptBy_1 := dk_seg dksX7_keptBy_0 23 rfl rfl
theorem dX7_keptBy_0 : decode cX7_keptBy 0 = .ok (.iconst 0, 1) := dk_3 (dk_at dksX7_keptBy_0 0 rfl rfl)
theorem dX7_keptBy_1 : decode cX7_keptBy 1 = .ok (.istore_n 2, 1) := dk_61 (dk_at dksX7_keptBy_0 1 rfl rfl)
theorem dX7_keptBy_2 : decode cX7_keptBy 2 = .ok (.iconst 0, 1) := dk_3 (dk_at dksX7_keptBy_0 2 rfl rfl)
theorem dX7_keptBy_3 : decode cX7_keptBy 3 = .ok (.istore_n 3, 1) := dk_62 (dk_at dksX7_keptBy_0 3 rfl rfl)
theorem dX7_keptBy_4 : decode cX7_keptBy 4 = .ok (.iload_n 3, 1) := dk_29 (dk_at dksX7_keptBy_0 4 rfl rfl)
theorem dX7_keptBy_5 : decode cX7_keptBy 5 = .ok (.aload_n 0, 1) := dk_42 (dk_at dksX7_keptBy_0 5 rfl rfl)
theorem dX7_keptBy_6 : decode cX7_keptBy 6 = .ok (.invokevirtual 80, 3) := dk_182 0 80 (dk_at dksX7_keptBy_0 6 rfl rfl)
theorem dX7_keptBy_9 : decode cX7_keptBy 9 = .ok (.if_icmp .ge 32, 3) := dk_162 0 32 (dk_at dksX7_keptBy_0 9 rfl rfl)
theorem dX7_keptBy_12 : decode cX7_keptBy 12 = .ok (.iload_n 2, 1) := dk_28 (dk_at dksX7_keptBy_0 12 rfl rfl)
theorem dX7_keptBy_13 : decode cX7_keptBy 13 = .ok (.aload_n 0, 1) := dk_42 (dk_at dksX7_keptBy_0 13 rfl rfl)
theorem dX7_keptBy_14 : decode cX7_keptBy 14 = .ok (.getfield 32, 3) := dk_180 0 32 (dk_at dksX7_keptBy_0 14 rfl rfl)
theorem dX7_keptBy_17 : decode cX7_keptBy 17 = .ok (.iload_n 3, 1) := dk_29 (dk_at dksX7_keptBy_0 17 rfl rfl)
theorem dX7_keptBy_18 : decode cX7_keptBy 18 = .ok (.iaload, 1) := dk_46 (dk_at dksX7_keptBy_0 18 rfl rfl)
theorem dX7_keptBy_19 : decode cX7_keptBy 19 = .ok (.iload_n 1, 1) := dk_27 (dk_at dksX7_keptBy_0 19 rfl rfl)
theorem dX7_keptBy_20 : decode cX7_keptBy 20 = .ok (.invokestatic 99, 3) := dk_184 0 99 (dk_at dksX7_keptBy_0 20 rfl rfl)
theorem dX7_keptBy_23 : decode cX7_keptBy 23 = .ok (.ifCond .eq 9, 3) := dk_153 0 9 (dk_at dksX7_keptBy_1 0 rfl rfl)
theorem dX7_keptBy_26 : decode cX7_keptBy 26 = .ok (.iconst 1, 1) := dk_4 (dk_at dksX7_keptBy_1 3 rfl rfl)
theorem dX7_keptBy_27 : decode cX7_keptBy 27 = .ok (.iload_n 3, 1) := dk_29 (dk_at dksX7_keptBy_1 4 rfl rfl)
theorem dX7_keptBy_28 : decode cX7_keptBy 28 = .ok (.ishl, 1) := dk_120 (dk_at dksX7_keptBy_1 5 rfl rfl)
theorem dX7_keptBy_29 : decode cX7_keptBy 29 = .ok (.goto 4, 3) := dk_167 0 4 (dk_at dksX7_keptBy_1 6 rfl rfl)
theorem dX7_keptBy_32 : decode cX7_keptBy 32 = .ok (.iconst 0, 1) := dk_3 (dk_at dksX7_keptBy_1 9 rfl rfl)
theorem dX7_keptBy_33 : decode cX7_keptBy 33 = .ok (.ior, 1) := dk_128 (dk_at dksX7_keptBy_1 10 rfl rfl)
theorem dX7_keptBy_34 : decode cX7_keptBy 34 = .ok (.istore_n 2, 1) := dk_61 (dk_at dksX7_keptBy_1 11 rfl rfl)
theorem dX7_keptBy_35 : decode cX7_keptBy 35 = .ok (.iinc 3 1, 3) := dk_132 3 1 (dk_at dksX7_keptBy_1 12 rfl rfl)
theorem dX7_keptBy_38 : decode cX7_keptBy 38 = .ok (.goto (-34), 3) := dk_167 255 222 (dk_at dksX7_keptBy_1 15 rfl rfl)
theorem dX7_keptBy_41 : decode cX7_keptBy 41 = .ok (.iload_n 2, 1) := dk_28 (dk_at dksX7_keptBy_1 18 rfl rfl)
theorem dX7_keptBy_42 : decode cX7_keptBy 42 = .ok (.ireturn, 1) := dk_172 (dk_at dksX7_keptBy_1 19 rfl rfl)
abbrev cX7_ownOf : ByteArray := prog_11_method_76_code
def yX7_ownOf : MethodName := ⟨RX7, "ownOf", "(I)I"⟩
def dkwX7_ownOf_1 : List UInt8 := [29, 120, 167, 0, 4, 3, 128, 61, 132, 3, 1, 167, 255, 225, 28, 172]
abbrev dktX7_ownOf_1 : List UInt8 := dkwX7_ownOf_1 ++ []
def dkwX7_ownOf_0 : List UInt8 := [3, 61, 3, 62, 29, 42, 182, 0, 80, 162, 0, 29, 28, 42, 180, 0, 38, 29, 46, 27, 160, 0, 9, 4]
abbrev dktX7_ownOf_0 : List UInt8 := dkwX7_ownOf_0 ++ dktX7_ownOf_1
theorem dksX7_ownOf_0 : cX7_ownOf.data.toList.drop 0 = dktX7_ownOf_0 := by decide +kernel
theorem dksX7_ownOf_1 : cX7_ownOf.data.toList.drop 24 = dktX7_ownOf_1 := dk_seg dksX7_ownOf_0 24 rfl rfl
theorem dX7_ownOf_0 : decode cX7_ownOf 0 = .ok (.iconst 0, 1) := dk_3 (dk_at dksX7_ownOf_0 0 rfl rfl)
theorem dX7_ownOf_1 : decode cX7_ownOf 1 = .ok (.istore_n 2, 1) := dk_61 (dk_at dksX7_ownOf_0 1 rfl rfl)
theorem dX7_ownOf_2 : decode cX7_ownOf 2 = .ok (.iconst 0, 1) := dk_3 (dk_at dksX7_ownOf_0 2 rfl rfl)
theorem dX7_ownOf_3 : decode cX7_ownOf 3 = .ok (.istore_n 3, 1) := dk_62 (dk_at dksX7_ownOf_0 3 rfl rfl)
theorem dX7_ownOf_4 : decode cX7_ownOf 4 = .ok (.iload_n 3, 1) := dk_29 (dk_at dksX7_ownOf_0 4 rfl rfl)
theorem dX7_ownOf_5 : decode cX7_ownOf 5 = .ok (.aload_n 0, 1) := dk_42 (dk_at dksX7_ownOf_0 5 rfl rfl)
theorem dX7_ownOf_6 : decode cX7_ownOf 6 = .ok (.invokevirtual 80, 3) := dk_182 0 80 (dk_at dksX7_ownOf_0 6 rfl rfl)
theorem dX7_ownOf_9 : decode cX7_ownOf 9 = .ok (.if_icmp .ge 29, 3) := dk_162 0 29 (dk_at dksX7_ownOf_0 9 rfl rfl)
theorem dX7_ownOf_12 : decode cX7_ownOf 12 = .ok (.iload_n 2, 1) := dk_28 (dk_at dksX7_ownOf_0 12 rfl rfl)
theorem dX7_ownOf_13 : decode cX7_ownOf 13 = .ok (.aload_n 0, 1) := dk_42 (dk_at dksX7_ownOf_0 13 rfl rfl)
theorem dX7_ownOf_14 : decode cX7_ownOf 14 = .ok (.getfield 38, 3) := dk_180 0 38 (dk_at dksX7_ownOf_0 14 rfl rfl)
theorem dX7_ownOf_17 : decode cX7_ownOf 17 = .ok (.iload_n 3, 1) := dk_29 (dk_at dksX7_ownOf_0 17 rfl rfl)
theorem dX7_ownOf_18 : decode cX7_ownOf 18 = .ok (.iaload, 1) := dk_46 (dk_at dksX7_ownOf_0 18 rfl rfl)
theorem dX7_ownOf_19 : decode cX7_ownOf 19 = .ok (.iload_n 1, 1) := dk_27 (dk_at dksX7_ownOf_0 19 rfl rfl)
theorem dX7_ownOf_20 : decode cX7_ownOf 20 = .ok (.if_icmp .ne 9, 3) := dk_160 0 9 (dk_at dksX7_ownOf_0 20 rfl rfl)
theorem dX7_ownOf_23 : decode cX7_ownOf 23 = .ok (.iconst 1, 1) := dk_4 (dk_at dksX7_ownOf_0 23 rfl rfl)
theorem dX7_ownOf_24 : decode cX7_ownOf 24 = .ok (.iload_n 3, 1) := dk_29 (dk_at dksX7_ownOf_1 0 rfl rfl)
theorem dX7_ownOf_25 : decode cX7_ownOf 25 = .ok (.ishl, 1) := dk_120 (dk_at dksX7_ownOf_1 1 rfl rfl)
theorem dX7_ownOf_26 : decode cX7_ownOf 26 = .ok (.goto 4, 3) := dk_167 0 4 (dk_at dksX7_ownOf_1 2 rfl rfl)
theorem dX7_ownOf_29 : decode cX7_ownOf 29 = .ok (.iconst 0, 1) := dk_3 (dk_at dksX7_ownOf_1 5 rfl rfl)
theorem dX7_ownOf_30 : decode cX7_ownOf 30 = .ok (.ior, 1) := dk_128 (dk_at dksX7_ownOf_1 6 rfl rfl)
theorem dX7_ownOf_31 : decode cX7_ownOf 31 = .ok (.istore_n 2, 1) := dk_61 (dk_at dksX7_ownOf_1 7 rfl rfl)
theorem dX7_ownOf_32 : decode cX7_ownOf 32 = .ok (.iinc 3 1, 3) := dk_132 3 1 (dk_at dksX7_ownOf_1 8 rfl rfl)
theorem dX7_ownOf_35 : decode cX7_ownOf 35 = .ok (.goto (-31), 3) := dk_167 255 225 (dk_at dksX7_ownOf_1 11 rfl rfl)
theorem dX7_ownOf_38 : decode cX7_ownOf 38 = .ok (.iload_n 2, 1) := dk_28 (dk_at dksX7_ownOf_1 14 rfl rfl)
theorem dX7_ownOf_39 : decode cX7_ownOf 39 = .ok (.ireturn, 1) := dk_172 (dk_at dksX7_ownOf_1 15 rfl rfl)
abbrev cX7_edgeOf : ByteArray := prog_11_method_61_code
def yX7_edgeOf : MethodName := ⟨RX7, "edgeOf", "(I)I"⟩
def dkwX7_edgeOf_3 : List UInt8 := [154, 0, 14, 29, 4, 42, 21, 4, 182, 0, 103, 120, 128, 62, 132, 4, 1, 167, 255, 197, 29, 172]
abbrev dktX7_edgeOf_3 : List UInt8 := dkwX7_edgeOf_3 ++ []
def dkwX7_edgeOf_2 : List UInt8 := [21, 4, 182, 0, 95, 184, 0, 99, 153, 0, 28, 42, 27, 42, 21, 4, 182, 0, 103, 182, 1, 23]
abbrev dktX7_edgeOf_2 : List UInt8 := dkwX7_edgeOf_2 ++ dktX7_edgeOf_3
def dkwX7_edgeOf_1 : List UInt8 := [62, 3, 54, 4, 21, 4, 42, 182, 0, 88, 162, 0, 56, 42, 21, 4, 182, 0, 91, 153, 0, 41, 28, 42]
abbrev dktX7_edgeOf_1 : List UInt8 := dkwX7_edgeOf_1 ++ dktX7_edgeOf_2
def dkwX7_edgeOf_0 : List UInt8 := [42, 180, 0, 120, 27, 184, 0, 99, 154, 0, 5, 3, 172, 42, 27, 182, 1, 20, 4, 27, 120, 128, 61, 3]
abbrev dktX7_edgeOf_0 : List UInt8 := dkwX7_edgeOf_0 ++ dktX7_edgeOf_1
theorem dksX7_edgeOf_0 : cX7_edgeOf.data.toList.drop 0 = dktX7_edgeOf_0 := by decide +kernel
theorem dksX7_edgeOf_1 : cX7_edgeOf.data.toList.drop 24 = dktX7_edgeOf_1 := dk_seg dksX7_edgeOf_0 24 rfl rfl
theorem dksX7_edgeOf_2 : cX7_edgeOf.data.toList.drop 48 = dktX7_edgeOf_2 := dk_seg dksX7_edgeOf_1 24 rfl rfl
theorem dksX7_edgeOf_3 : cX7_edgeOf.data.toList.drop 70 = dktX7_edgeOf_3 := dk_seg dksX7_edgeOf_2 22 rfl rfl
theorem dX7_edgeOf_0 : decode cX7_edgeOf 0 = .ok (.aload_n 0, 1) := dk_42 (dk_at dksX7_edgeOf_0 0 rfl rfl)
theorem dX7_edgeOf_1 : decode cX7_edgeOf 1 = .ok (.getfield 120, 3) := dk_180 0 120 (dk_at dksX7_edgeOf_0 1 rfl rfl)
theorem dX7_edgeOf_4 : decode cX7_edgeOf 4 = .ok (.iload_n 1, 1) := dk_27 (dk_at dksX7_edgeOf_0 4 rfl rfl)
theorem dX7_edgeOf_5 : decode cX7_edgeOf 5 = .ok (.invokestatic 99, 3) := dk_184 0 99 (dk_at dksX7_edgeOf_0 5 rfl rfl)
theorem dX7_edgeOf_8 : decode cX7_edgeOf 8 = .ok (.ifCond .ne 5, 3) := dk_154 0 5 (dk_at dksX7_edgeOf_0 8 rfl rfl)
theorem dX7_edgeOf_11 : decode cX7_edgeOf 11 = .ok (.iconst 0, 1) := dk_3 (dk_at dksX7_edgeOf_0 11 rfl rfl)
theorem dX7_edgeOf_12 : decode cX7_edgeOf 12 = .ok (.ireturn, 1) := dk_172 (dk_at dksX7_edgeOf_0 12 rfl rfl)
theorem dX7_edgeOf_13 : decode cX7_edgeOf 13 = .ok (.aload_n 0, 1) := dk_42 (dk_at dksX7_edgeOf_0 13 rfl rfl)
theorem dX7_edgeOf_14 : decode cX7_edgeOf 14 = .ok (.iload_n 1, 1) := dk_27 (dk_at dksX7_edgeOf_0 14 rfl rfl)
theorem dX7_edgeOf_15 : decode cX7_edgeOf 15 = .ok (.invokevirtual 276, 3) := dk_182 1 20 (dk_at dksX7_edgeOf_0 15 rfl rfl)
theorem dX7_edgeOf_18 : decode cX7_edgeOf 18 = .ok (.iconst 1, 1) := dk_4 (dk_at dksX7_edgeOf_0 18 rfl rfl)
theorem dX7_edgeOf_19 : decode cX7_edgeOf 19 = .ok (.iload_n 1, 1) := dk_27 (dk_at dksX7_edgeOf_0 19 rfl rfl)
theorem dX7_edgeOf_20 : decode cX7_edgeOf 20 = .ok (.ishl, 1) := dk_120 (dk_at dksX7_edgeOf_0 20 rfl rfl)
theorem dX7_edgeOf_21 : decode cX7_edgeOf 21 = .ok (.ior, 1) := dk_128 (dk_at dksX7_edgeOf_0 21 rfl rfl)
theorem dX7_edgeOf_22 : decode cX7_edgeOf 22 = .ok (.istore_n 2, 1) := dk_61 (dk_at dksX7_edgeOf_0 22 rfl rfl)
theorem dX7_edgeOf_23 : decode cX7_edgeOf 23 = .ok (.iconst 0, 1) := dk_3 (dk_at dksX7_edgeOf_0 23 rfl rfl)
theorem dX7_edgeOf_24 : decode cX7_edgeOf 24 = .ok (.istore_n 3, 1) := dk_62 (dk_at dksX7_edgeOf_1 0 rfl rfl)
theorem dX7_edgeOf_25 : decode cX7_edgeOf 25 = .ok (.iconst 0, 1) := dk_3 (dk_at dksX7_edgeOf_1 1 rfl rfl)
theorem dX7_edgeOf_26 : decode cX7_edgeOf 26 = .ok (.istore 4, 2) := dk_54 4 (dk_at dksX7_edgeOf_1 2 rfl rfl)
theorem dX7_edgeOf_28 : decode cX7_edgeOf 28 = .ok (.iload 4, 2) := dk_21 4 (dk_at dksX7_edgeOf_1 4 rfl rfl)
theorem dX7_edgeOf_30 : decode cX7_edgeOf 30 = .ok (.aload_n 0, 1) := dk_42 (dk_at dksX7_edgeOf_1 6 rfl rfl)
theorem dX7_edgeOf_31 : decode cX7_edgeOf 31 = .ok (.invokevirtual 88, 3) := dk_182 0 88 (dk_at dksX7_edgeOf_1 7 rfl rfl)
theorem dX7_edgeOf_34 : decode cX7_edgeOf 34 = .ok (.if_icmp .ge 56, 3) := dk_162 0 56 (dk_at dksX7_edgeOf_1 10 rfl rfl)
theorem dX7_edgeOf_37 : decode cX7_edgeOf 37 = .ok (.aload_n 0, 1) := dk_42 (dk_at dksX7_edgeOf_1 13 rfl rfl)
theorem dX7_edgeOf_38 : decode cX7_edgeOf 38 = .ok (.iload 4, 2) := dk_21 4 (dk_at dksX7_edgeOf_1 14 rfl rfl)
theorem dX7_edgeOf_40 : decode cX7_edgeOf 40 = .ok (.invokevirtual 91, 3) := dk_182 0 91 (dk_at dksX7_edgeOf_1 16 rfl rfl)
theorem dX7_edgeOf_43 : decode cX7_edgeOf 43 = .ok (.ifCond .eq 41, 3) := dk_153 0 41 (dk_at dksX7_edgeOf_1 19 rfl rfl)
theorem dX7_edgeOf_46 : decode cX7_edgeOf 46 = .ok (.iload_n 2, 1) := dk_28 (dk_at dksX7_edgeOf_1 22 rfl rfl)
theorem dX7_edgeOf_47 : decode cX7_edgeOf 47 = .ok (.aload_n 0, 1) := dk_42 (dk_at dksX7_edgeOf_1 23 rfl rfl)
theorem dX7_edgeOf_48 : decode cX7_edgeOf 48 = .ok (.iload 4, 2) := dk_21 4 (dk_at dksX7_edgeOf_2 0 rfl rfl)
theorem dX7_edgeOf_50 : decode cX7_edgeOf 50 = .ok (.invokevirtual 95, 3) := dk_182 0 95 (dk_at dksX7_edgeOf_2 2 rfl rfl)
theorem dX7_edgeOf_53 : decode cX7_edgeOf 53 = .ok (.invokestatic 99, 3) := dk_184 0 99 (dk_at dksX7_edgeOf_2 5 rfl rfl)
theorem dX7_edgeOf_56 : decode cX7_edgeOf 56 = .ok (.ifCond .eq 28, 3) := dk_153 0 28 (dk_at dksX7_edgeOf_2 8 rfl rfl)
theorem dX7_edgeOf_59 : decode cX7_edgeOf 59 = .ok (.aload_n 0, 1) := dk_42 (dk_at dksX7_edgeOf_2 11 rfl rfl)
theorem dX7_edgeOf_60 : decode cX7_edgeOf 60 = .ok (.iload_n 1, 1) := dk_27 (dk_at dksX7_edgeOf_2 12 rfl rfl)
theorem dX7_edgeOf_61 : decode cX7_edgeOf 61 = .ok (.aload_n 0, 1) := dk_42 (dk_at dksX7_edgeOf_2 13 rfl rfl)
theorem dX7_edgeOf_62 : decode cX7_edgeOf 62 = .ok (.iload 4, 2) := dk_21 4 (dk_at dksX7_edgeOf_2 14 rfl rfl)
theorem dX7_edgeOf_64 : decode cX7_edgeOf 64 = .ok (.invokevirtual 103, 3) := dk_182 0 103 (dk_at dksX7_edgeOf_2 16 rfl rfl)
theorem dX7_edgeOf_67 : decode cX7_edgeOf 67 = .ok (.invokevirtual 279, 3) := dk_182 1 23 (dk_at dksX7_edgeOf_2 19 rfl rfl)
theorem dX7_edgeOf_70 : decode cX7_edgeOf 70 = .ok (.ifCond .ne 14, 3) := dk_154 0 14 (dk_at dksX7_edgeOf_3 0 rfl rfl)
theorem dX7_edgeOf_73 : decode cX7_edgeOf 73 = .ok (.iload_n 3, 1) := dk_29 (dk_at dksX7_edgeOf_3 3 rfl rfl)
theorem dX7_edgeOf_74 : decode cX7_edgeOf 74 = .ok (.iconst 1, 1) := dk_4 (dk_at dksX7_edgeOf_3 4 rfl rfl)
theorem dX7_edgeOf_75 : decode cX7_edgeOf 75 = .ok (.aload_n 0, 1) := dk_42 (dk_at dksX7_edgeOf_3 5 rfl rfl)
theorem dX7_edgeOf_76 : decode cX7_edgeOf 76 = .ok (.iload 4, 2) := dk_21 4 (dk_at dksX7_edgeOf_3 6 rfl rfl)
theorem dX7_edgeOf_78 : decode cX7_edgeOf 78 = .ok (.invokevirtual 103, 3) := dk_182 0 103 (dk_at dksX7_edgeOf_3 8 rfl rfl)
theorem dX7_edgeOf_81 : decode cX7_edgeOf 81 = .ok (.ishl, 1) := dk_120 (dk_at dksX7_edgeOf_3 11 rfl rfl)
theorem dX7_edgeOf_82 : decode cX7_edgeOf 82 = .ok (.ior, 1) := dk_128 (dk_at dksX7_edgeOf_3 12 rfl rfl)
theorem dX7_edgeOf_83 : decode cX7_edgeOf 83 = .ok (.istore_n 3, 1) := dk_62 (dk_at dksX7_edgeOf_3 13 rfl rfl)
theorem dX7_edgeOf_84 : decode cX7_edgeOf 84 = .ok (.iinc 4 1, 3) := dk_132 4 1 (dk_at dksX7_edgeOf_3 14 rfl rfl)
theorem dX7_edgeOf_87 : decode cX7_edgeOf 87 = .ok (.goto (-59), 3) := dk_167 255 197 (dk_at dksX7_edgeOf_3 17 rfl rfl)
theorem dX7_edgeOf_90 : decode cX7_edgeOf 90 = .ok (.iload_n 3, 1) := dk_29 (dk_at dksX7_edgeOf_3 20 rfl rfl)
theorem dX7_edgeOf_91 : decode cX7_edgeOf 91 = .ok (.ireturn, 1) := dk_172 (dk_at dksX7_edgeOf_3 21 rfl rfl)
abbrev cX7_keepsOne : ByteArray := prog_11_method_21_code
def yX7_keepsOne : MethodName := ⟨RX7, "keepsOne", "(II)Z"⟩
def dkwX7_keepsOne_0 : List UInt8 := [42, 180, 0, 32, 28, 46, 27, 184, 0, 99, 172]
abbrev dktX7_keepsOne_0 : List UInt8 := dkwX7_keepsOne_0 ++ []
theorem dksX7_keepsOne_0 : cX7_keepsOne.data.toList.drop 0 = dktX7_keepsOne_0 := by decide +kernel
theorem dX7_keepsOne_0 : decode cX7_keepsOne 0 = .ok (.aload_n 0, 1) := dk_42 (dk_at dksX7_keepsOne_0 0 rfl rfl)
theorem dX7_keepsOne_1 : decode cX7_keepsOne 1 = .ok (.getfield 32, 3) := dk_180 0 32 (dk_at dksX7_keepsOne_0 1 rfl rfl)
theorem dX7_keepsOne_4 : decode cX7_keepsOne 4 = .ok (.iload_n 2, 1) := dk_28 (dk_at dksX7_keepsOne_0 4 rfl rfl)
theorem dX7_keepsOne_5 : decode cX7_keepsOne 5 = .ok (.iaload, 1) := dk_46 (dk_at dksX7_keepsOne_0 5 rfl rfl)
theorem dX7_keepsOne_6 : decode cX7_keepsOne 6 = .ok (.iload_n 1, 1) := dk_27 (dk_at dksX7_keepsOne_0 6 rfl rfl)
theorem dX7_keepsOne_7 : decode cX7_keepsOne 7 = .ok (.invokestatic 99, 3) := dk_184 0 99 (dk_at dksX7_keepsOne_0 7 rfl rfl)
theorem dX7_keepsOne_10 : decode cX7_keepsOne 10 = .ok (.ireturn, 1) := dk_172 (dk_at dksX7_keepsOne_0 10 rfl rfl)
abbrev cX7_bodyOf : ByteArray := prog_11_method_63_code
def yX7_bodyOf : MethodName := ⟨RX7, "bodyOf", "(I)I"⟩
def dkwX7_bodyOf_3 : List UInt8 := [4, 27, 120, 182, 1, 29, 42, 180, 0, 120, 126, 4, 27, 120, 128, 167, 0, 4, 3, 172]
abbrev dktX7_bodyOf_3 : List UInt8 := dkwX7_bodyOf_3 ++ []
def dkwX7_bodyOf_2 : List UInt8 := [182, 0, 95, 120, 128, 61, 132, 4, 1, 167, 255, 209, 29, 153, 0, 29, 42, 28, 4, 27, 120, 2, 130, 126]
abbrev dktX7_bodyOf_2 : List UInt8 := dkwX7_bodyOf_2 ++ dktX7_bodyOf_3
def dkwX7_bodyOf_1 : List UInt8 := [153, 0, 29, 42, 21, 4, 182, 0, 103, 27, 159, 0, 6, 167, 0, 16, 4, 62, 28, 4, 42, 21, 4]
abbrev dktX7_bodyOf_1 : List UInt8 := dkwX7_bodyOf_1 ++ dktX7_bodyOf_2
def dkwX7_bodyOf_0 : List UInt8 := [3, 61, 3, 62, 3, 54, 4, 21, 4, 42, 182, 0, 88, 162, 0, 44, 42, 21, 4, 182, 1, 26]
abbrev dktX7_bodyOf_0 : List UInt8 := dkwX7_bodyOf_0 ++ dktX7_bodyOf_1
theorem dksX7_bodyOf_0 : cX7_bodyOf.data.toList.drop 0 = dktX7_bodyOf_0 := by decide +kernel
theorem dksX7_bodyOf_1 : cX7_bodyOf.data.toList.drop 22 = dktX7_bodyOf_1 := dk_seg dksX7_bodyOf_0 22 rfl rfl
theorem dksX7_bodyOf_2 : cX7_bodyOf.data.toList.drop 45 = dktX7_bodyOf_2 := dk_seg dksX7_bodyOf_1 23 rfl rfl
theorem dksX7_bodyOf_3 : cX7_bodyOf.data.toList.drop 69 = dktX7_bodyOf_3 := dk_seg dksX7_bodyOf_2 24 rfl rfl
theorem dX7_bodyOf_0 : decode cX7_bodyOf 0 = .ok (.iconst 0, 1) := dk_3 (dk_at dksX7_bodyOf_0 0 rfl rfl)
theorem dX7_bodyOf_1 : decode cX7_bodyOf 1 = .ok (.istore_n 2, 1) := dk_61 (dk_at dksX7_bodyOf_0 1 rfl rfl)
theorem dX7_bodyOf_2 : decode cX7_bodyOf 2 = .ok (.iconst 0, 1) := dk_3 (dk_at dksX7_bodyOf_0 2 rfl rfl)
theorem dX7_bodyOf_3 : decode cX7_bodyOf 3 = .ok (.istore_n 3, 1) := dk_62 (dk_at dksX7_bodyOf_0 3 rfl rfl)
theorem dX7_bodyOf_4 : decode cX7_bodyOf 4 = .ok (.iconst 0, 1) := dk_3 (dk_at dksX7_bodyOf_0 4 rfl rfl)
theorem dX7_bodyOf_5 : decode cX7_bodyOf 5 = .ok (.istore 4, 2) := dk_54 4 (dk_at dksX7_bodyOf_0 5 rfl rfl)
theorem dX7_bodyOf_7 : decode cX7_bodyOf 7 = .ok (.iload 4, 2) := dk_21 4 (dk_at dksX7_bodyOf_0 7 rfl rfl)
theorem dX7_bodyOf_9 : decode cX7_bodyOf 9 = .ok (.aload_n 0, 1) := dk_42 (dk_at dksX7_bodyOf_0 9 rfl rfl)
theorem dX7_bodyOf_10 : decode cX7_bodyOf 10 = .ok (.invokevirtual 88, 3) := dk_182 0 88 (dk_at dksX7_bodyOf_0 10 rfl rfl)
theorem dX7_bodyOf_13 : decode cX7_bodyOf 13 = .ok (.if_icmp .ge 44, 3) := dk_162 0 44 (dk_at dksX7_bodyOf_0 13 rfl rfl)
theorem dX7_bodyOf_16 : decode cX7_bodyOf 16 = .ok (.aload_n 0, 1) := dk_42 (dk_at dksX7_bodyOf_0 16 rfl rfl)
theorem dX7_bodyOf_17 : decode cX7_bodyOf 17 = .ok (.iload 4, 2) := dk_21 4 (dk_at dksX7_bodyOf_0 17 rfl rfl)
theorem dX7_bodyOf_19 : decode cX7_bodyOf 19 = .ok (.invokevirtual 282, 3) := dk_182 1 26 (dk_at dksX7_bodyOf_0 19 rfl rfl)
theorem dX7_bodyOf_22 : decode cX7_bodyOf 22 = .ok (.ifCond .eq 29, 3) := dk_153 0 29 (dk_at dksX7_bodyOf_1 0 rfl rfl)
theorem dX7_bodyOf_25 : decode cX7_bodyOf 25 = .ok (.aload_n 0, 1) := dk_42 (dk_at dksX7_bodyOf_1 3 rfl rfl)
theorem dX7_bodyOf_26 : decode cX7_bodyOf 26 = .ok (.iload 4, 2) := dk_21 4 (dk_at dksX7_bodyOf_1 4 rfl rfl)
theorem dX7_bodyOf_28 : decode cX7_bodyOf 28 = .ok (.invokevirtual 103, 3) := dk_182 0 103 (dk_at dksX7_bodyOf_1 6 rfl rfl)
theorem dX7_bodyOf_31 : decode cX7_bodyOf 31 = .ok (.iload_n 1, 1) := dk_27 (dk_at dksX7_bodyOf_1 9 rfl rfl)
theorem dX7_bodyOf_32 : decode cX7_bodyOf 32 = .ok (.if_icmp .eq 6, 3) := dk_159 0 6 (dk_at dksX7_bodyOf_1 10 rfl rfl)
theorem dX7_bodyOf_35 : decode cX7_bodyOf 35 = .ok (.goto 16, 3) := dk_167 0 16 (dk_at dksX7_bodyOf_1 13 rfl rfl)
theorem dX7_bodyOf_38 : decode cX7_bodyOf 38 = .ok (.iconst 1, 1) := dk_4 (dk_at dksX7_bodyOf_1 16 rfl rfl)
theorem dX7_bodyOf_39 : decode cX7_bodyOf 39 = .ok (.istore_n 3, 1) := dk_62 (dk_at dksX7_bodyOf_1 17 rfl rfl)
theorem dX7_bodyOf_40 : decode cX7_bodyOf 40 = .ok (.iload_n 2, 1) := dk_28 (dk_at dksX7_bodyOf_1 18 rfl rfl)
theorem dX7_bodyOf_41 : decode cX7_bodyOf 41 = .ok (.iconst 1, 1) := dk_4 (dk_at dksX7_bodyOf_1 19 rfl rfl)
theorem dX7_bodyOf_42 : decode cX7_bodyOf 42 = .ok (.aload_n 0, 1) := dk_42 (dk_at dksX7_bodyOf_1 20 rfl rfl)
theorem dX7_bodyOf_43 : decode cX7_bodyOf 43 = .ok (.iload 4, 2) := dk_21 4 (dk_at dksX7_bodyOf_1 21 rfl rfl)
theorem dX7_bodyOf_45 : decode cX7_bodyOf 45 = .ok (.invokevirtual 95, 3) := dk_182 0 95 (dk_at dksX7_bodyOf_2 0 rfl rfl)
theorem dX7_bodyOf_48 : decode cX7_bodyOf 48 = .ok (.ishl, 1) := dk_120 (dk_at dksX7_bodyOf_2 3 rfl rfl)
theorem dX7_bodyOf_49 : decode cX7_bodyOf 49 = .ok (.ior, 1) := dk_128 (dk_at dksX7_bodyOf_2 4 rfl rfl)
theorem dX7_bodyOf_50 : decode cX7_bodyOf 50 = .ok (.istore_n 2, 1) := dk_61 (dk_at dksX7_bodyOf_2 5 rfl rfl)
theorem dX7_bodyOf_51 : decode cX7_bodyOf 51 = .ok (.iinc 4 1, 3) := dk_132 4 1 (dk_at dksX7_bodyOf_2 6 rfl rfl)
theorem dX7_bodyOf_54 : decode cX7_bodyOf 54 = .ok (.goto (-47), 3) := dk_167 255 209 (dk_at dksX7_bodyOf_2 9 rfl rfl)
theorem dX7_bodyOf_57 : decode cX7_bodyOf 57 = .ok (.iload_n 3, 1) := dk_29 (dk_at dksX7_bodyOf_2 12 rfl rfl)
theorem dX7_bodyOf_58 : decode cX7_bodyOf 58 = .ok (.ifCond .eq 29, 3) := dk_153 0 29 (dk_at dksX7_bodyOf_2 13 rfl rfl)
theorem dX7_bodyOf_61 : decode cX7_bodyOf 61 = .ok (.aload_n 0, 1) := dk_42 (dk_at dksX7_bodyOf_2 16 rfl rfl)
theorem dX7_bodyOf_62 : decode cX7_bodyOf 62 = .ok (.iload_n 2, 1) := dk_28 (dk_at dksX7_bodyOf_2 17 rfl rfl)
theorem dX7_bodyOf_63 : decode cX7_bodyOf 63 = .ok (.iconst 1, 1) := dk_4 (dk_at dksX7_bodyOf_2 18 rfl rfl)
theorem dX7_bodyOf_64 : decode cX7_bodyOf 64 = .ok (.iload_n 1, 1) := dk_27 (dk_at dksX7_bodyOf_2 19 rfl rfl)
theorem dX7_bodyOf_65 : decode cX7_bodyOf 65 = .ok (.ishl, 1) := dk_120 (dk_at dksX7_bodyOf_2 20 rfl rfl)
theorem dX7_bodyOf_66 : decode cX7_bodyOf 66 = .ok (.iconst (-1), 1) := dk_2 (dk_at dksX7_bodyOf_2 21 rfl rfl)
theorem dX7_bodyOf_67 : decode cX7_bodyOf 67 = .ok (.ixor, 1) := dk_130 (dk_at dksX7_bodyOf_2 22 rfl rfl)
theorem dX7_bodyOf_68 : decode cX7_bodyOf 68 = .ok (.iand, 1) := dk_126 (dk_at dksX7_bodyOf_2 23 rfl rfl)
theorem dX7_bodyOf_69 : decode cX7_bodyOf 69 = .ok (.iconst 1, 1) := dk_4 (dk_at dksX7_bodyOf_3 0 rfl rfl)
theorem dX7_bodyOf_70 : decode cX7_bodyOf 70 = .ok (.iload_n 1, 1) := dk_27 (dk_at dksX7_bodyOf_3 1 rfl rfl)
theorem dX7_bodyOf_71 : decode cX7_bodyOf 71 = .ok (.ishl, 1) := dk_120 (dk_at dksX7_bodyOf_3 2 rfl rfl)
theorem dX7_bodyOf_72 : decode cX7_bodyOf 72 = .ok (.invokevirtual 285, 3) := dk_182 1 29 (dk_at dksX7_bodyOf_3 3 rfl rfl)
theorem dX7_bodyOf_75 : decode cX7_bodyOf 75 = .ok (.aload_n 0, 1) := dk_42 (dk_at dksX7_bodyOf_3 6 rfl rfl)
theorem dX7_bodyOf_76 : decode cX7_bodyOf 76 = .ok (.getfield 120, 3) := dk_180 0 120 (dk_at dksX7_bodyOf_3 7 rfl rfl)
theorem dX7_bodyOf_79 : decode cX7_bodyOf 79 = .ok (.iand, 1) := dk_126 (dk_at dksX7_bodyOf_3 10 rfl rfl)
theorem dX7_bodyOf_80 : decode cX7_bodyOf 80 = .ok (.iconst 1, 1) := dk_4 (dk_at dksX7_bodyOf_3 11 rfl rfl)
theorem dX7_bodyOf_81 : decode cX7_bodyOf 81 = .ok (.iload_n 1, 1) := dk_27 (dk_at dksX7_bodyOf_3 12 rfl rfl)
theorem dX7_bodyOf_82 : decode cX7_bodyOf 82 = .ok (.ishl, 1) := dk_120 (dk_at dksX7_bodyOf_3 13 rfl rfl)
theorem dX7_bodyOf_83 : decode cX7_bodyOf 83 = .ok (.ior, 1) := dk_128 (dk_at dksX7_bodyOf_3 14 rfl rfl)
theorem dX7_bodyOf_84 : decode cX7_bodyOf 84 = .ok (.goto 4, 3) := dk_167 0 4 (dk_at dksX7_bodyOf_3 15 rfl rfl)
theorem dX7_bodyOf_87 : decode cX7_bodyOf 87 = .ok (.iconst 0, 1) := dk_3 (dk_at dksX7_bodyOf_3 18 rfl rfl)
theorem dX7_bodyOf_88 : decode cX7_bodyOf 88 = .ok (.ireturn, 1) := dk_172 (dk_at dksX7_bodyOf_3 19 rfl rfl)
abbrev cX7_isBack : ByteArray := prog_11_method_62_code
def yX7_isBack : MethodName := ⟨RX7, "isBack", "(I)Z"⟩
def dkwX7_isBack_2 : List UInt8 := [182, 1, 23, 153, 0, 7, 4, 167, 0, 4, 3, 172]
abbrev dktX7_isBack_2 : List UInt8 := dkwX7_isBack_2 ++ []
def dkwX7_isBack_1 : List UInt8 := [27, 182, 0, 95, 42, 27, 182, 0, 103, 159, 0, 20, 42, 42, 27, 182, 0, 103, 42, 27, 182, 0, 95]
abbrev dktX7_isBack_1 : List UInt8 := dkwX7_isBack_1 ++ dktX7_isBack_2
def dkwX7_isBack_0 : List UInt8 := [42, 27, 182, 0, 91, 153, 0, 52, 42, 180, 0, 120, 42, 27, 182, 0, 95, 184, 0, 99, 153, 0, 37, 42]
abbrev dktX7_isBack_0 : List UInt8 := dkwX7_isBack_0 ++ dktX7_isBack_1
theorem dksX7_isBack_0 : cX7_isBack.data.toList.drop 0 = dktX7_isBack_0 := by decide +kernel
theorem dksX7_isBack_1 : cX7_isBack.data.toList.drop 24 = dktX7_isBack_1 := dk_seg dksX7_isBack_0 24 rfl rfl
theorem dksX7_isBack_2 : cX7_isBack.data.toList.drop 47 = dktX7_isBack_2 := dk_seg dksX7_isBack_1 23 rfl rfl
theorem dX7_isBack_0 : decode cX7_isBack 0 = .ok (.aload_n 0, 1) := dk_42 (dk_at dksX7_isBack_0 0 rfl rfl)
theorem dX7_isBack_1 : decode cX7_isBack 1 = .ok (.iload_n 1, 1) := dk_27 (dk_at dksX7_isBack_0 1 rfl rfl)
theorem dX7_isBack_2 : decode cX7_isBack 2 = .ok (.invokevirtual 91, 3) := dk_182 0 91 (dk_at dksX7_isBack_0 2 rfl rfl)
theorem dX7_isBack_5 : decode cX7_isBack 5 = .ok (.ifCond .eq 52, 3) := dk_153 0 52 (dk_at dksX7_isBack_0 5 rfl rfl)
theorem dX7_isBack_8 : decode cX7_isBack 8 = .ok (.aload_n 0, 1) := dk_42 (dk_at dksX7_isBack_0 8 rfl rfl)
theorem dX7_isBack_9 : decode cX7_isBack 9 = .ok (.getfield 120, 3) := dk_180 0 120 (dk_at dksX7_isBack_0 9 rfl rfl)
theorem dX7_isBack_12 : decode cX7_isBack 12 = .ok (.aload_n 0, 1) := dk_42 (dk_at dksX7_isBack_0 12 rfl rfl)
theorem dX7_isBack_13 : decode cX7_isBack 13 = .ok (.iload_n 1, 1) := dk_27 (dk_at dksX7_isBack_0 13 rfl rfl)
theorem dX7_isBack_14 : decode cX7_isBack 14 = .ok (.invokevirtual 95, 3) := dk_182 0 95 (dk_at dksX7_isBack_0 14 rfl rfl)
theorem dX7_isBack_17 : decode cX7_isBack 17 = .ok (.invokestatic 99, 3) := dk_184 0 99 (dk_at dksX7_isBack_0 17 rfl rfl)
theorem dX7_isBack_20 : decode cX7_isBack 20 = .ok (.ifCond .eq 37, 3) := dk_153 0 37 (dk_at dksX7_isBack_0 20 rfl rfl)
theorem dX7_isBack_23 : decode cX7_isBack 23 = .ok (.aload_n 0, 1) := dk_42 (dk_at dksX7_isBack_0 23 rfl rfl)
theorem dX7_isBack_24 : decode cX7_isBack 24 = .ok (.iload_n 1, 1) := dk_27 (dk_at dksX7_isBack_1 0 rfl rfl)
theorem dX7_isBack_25 : decode cX7_isBack 25 = .ok (.invokevirtual 95, 3) := dk_182 0 95 (dk_at dksX7_isBack_1 1 rfl rfl)
theorem dX7_isBack_28 : decode cX7_isBack 28 = .ok (.aload_n 0, 1) := dk_42 (dk_at dksX7_isBack_1 4 rfl rfl)
theorem dX7_isBack_29 : decode cX7_isBack 29 = .ok (.iload_n 1, 1) := dk_27 (dk_at dksX7_isBack_1 5 rfl rfl)
theorem dX7_isBack_30 : decode cX7_isBack 30 = .ok (.invokevirtual 103, 3) := dk_182 0 103 (dk_at dksX7_isBack_1 6 rfl rfl)
theorem dX7_isBack_33 : decode cX7_isBack 33 = .ok (.if_icmp .eq 20, 3) := dk_159 0 20 (dk_at dksX7_isBack_1 9 rfl rfl)
theorem dX7_isBack_36 : decode cX7_isBack 36 = .ok (.aload_n 0, 1) := dk_42 (dk_at dksX7_isBack_1 12 rfl rfl)
theorem dX7_isBack_37 : decode cX7_isBack 37 = .ok (.aload_n 0, 1) := dk_42 (dk_at dksX7_isBack_1 13 rfl rfl)
theorem dX7_isBack_38 : decode cX7_isBack 38 = .ok (.iload_n 1, 1) := dk_27 (dk_at dksX7_isBack_1 14 rfl rfl)
theorem dX7_isBack_39 : decode cX7_isBack 39 = .ok (.invokevirtual 103, 3) := dk_182 0 103 (dk_at dksX7_isBack_1 15 rfl rfl)
theorem dX7_isBack_42 : decode cX7_isBack 42 = .ok (.aload_n 0, 1) := dk_42 (dk_at dksX7_isBack_1 18 rfl rfl)
theorem dX7_isBack_43 : decode cX7_isBack 43 = .ok (.iload_n 1, 1) := dk_27 (dk_at dksX7_isBack_1 19 rfl rfl)
theorem dX7_isBack_44 : decode cX7_isBack 44 = .ok (.invokevirtual 95, 3) := dk_182 0 95 (dk_at dksX7_isBack_1 20 rfl rfl)
theorem dX7_isBack_47 : decode cX7_isBack 47 = .ok (.invokevirtual 279, 3) := dk_182 1 23 (dk_at dksX7_isBack_2 0 rfl rfl)
theorem dX7_isBack_50 : decode cX7_isBack 50 = .ok (.ifCond .eq 7, 3) := dk_153 0 7 (dk_at dksX7_isBack_2 3 rfl rfl)
theorem dX7_isBack_53 : decode cX7_isBack 53 = .ok (.iconst 1, 1) := dk_4 (dk_at dksX7_isBack_2 6 rfl rfl)
theorem dX7_isBack_54 : decode cX7_isBack 54 = .ok (.goto 4, 3) := dk_167 0 4 (dk_at dksX7_isBack_2 7 rfl rfl)
theorem dX7_isBack_57 : decode cX7_isBack 57 = .ok (.iconst 0, 1) := dk_3 (dk_at dksX7_isBack_2 10 rfl rfl)
theorem dX7_isBack_58 : decode cX7_isBack 58 = .ok (.ireturn, 1) := dk_172 (dk_at dksX7_isBack_2 11 rfl rfl)
abbrev cX7_comers : ByteArray := prog_11_method_18_code
def yX7_comers : MethodName := ⟨RX7, "comers", "(II)I"⟩
def dkwX7_comers_3 : List UInt8 := [182, 0, 95, 120, 128, 62, 132, 5, 1, 167, 255, 198, 167, 255, 183, 29, 172]
abbrev dktX7_comers_3 : List UInt8 := dkwX7_comers_3 ++ []
def dkwX7_comers_2 : List UInt8 := [184, 0, 99, 153, 0, 27, 28, 42, 21, 5, 182, 0, 95, 184, 0, 99, 154, 0, 14, 29, 4, 42, 21, 5]
abbrev dktX7_comers_2 : List UInt8 := dkwX7_comers_2 ++ dktX7_comers_3
def dkwX7_comers_1 : List UInt8 := [182, 0, 88, 162, 0, 55, 42, 21, 5, 182, 0, 91, 153, 0, 40, 29, 42, 21, 5, 182, 0, 103]
abbrev dktX7_comers_1 : List UInt8 := dkwX7_comers_1 ++ dktX7_comers_2
def dkwX7_comers_0 : List UInt8 := [27, 28, 2, 130, 126, 62, 3, 54, 4, 29, 21, 4, 159, 0, 73, 29, 54, 4, 3, 54, 5, 21, 5, 42]
abbrev dktX7_comers_0 : List UInt8 := dkwX7_comers_0 ++ dktX7_comers_1
theorem dksX7_comers_0 : cX7_comers.data.toList.drop 0 = dktX7_comers_0 := by decide +kernel
theorem dksX7_comers_1 : cX7_comers.data.toList.drop 24 = dktX7_comers_1 := dk_seg dksX7_comers_0 24 rfl rfl
theorem dksX7_comers_2 : cX7_comers.data.toList.drop 46 = dktX7_comers_2 := dk_seg dksX7_comers_1 22 rfl rfl
theorem dksX7_comers_3 : cX7_comers.data.toList.drop 70 = dktX7_comers_3 := dk_seg dksX7_comers_2 24 rfl rfl
theorem dX7_comers_0 : decode cX7_comers 0 = .ok (.iload_n 1, 1) := dk_27 (dk_at dksX7_comers_0 0 rfl rfl)
theorem dX7_comers_1 : decode cX7_comers 1 = .ok (.iload_n 2, 1) := dk_28 (dk_at dksX7_comers_0 1 rfl rfl)
theorem dX7_comers_2 : decode cX7_comers 2 = .ok (.iconst (-1), 1) := dk_2 (dk_at dksX7_comers_0 2 rfl rfl)
theorem dX7_comers_3 : decode cX7_comers 3 = .ok (.ixor, 1) := dk_130 (dk_at dksX7_comers_0 3 rfl rfl)
theorem dX7_comers_4 : decode cX7_comers 4 = .ok (.iand, 1) := dk_126 (dk_at dksX7_comers_0 4 rfl rfl)
theorem dX7_comers_5 : decode cX7_comers 5 = .ok (.istore_n 3, 1) := dk_62 (dk_at dksX7_comers_0 5 rfl rfl)
theorem dX7_comers_6 : decode cX7_comers 6 = .ok (.iconst 0, 1) := dk_3 (dk_at dksX7_comers_0 6 rfl rfl)
theorem dX7_comers_7 : decode cX7_comers 7 = .ok (.istore 4, 2) := dk_54 4 (dk_at dksX7_comers_0 7 rfl rfl)
theorem dX7_comers_9 : decode cX7_comers 9 = .ok (.iload_n 3, 1) := dk_29 (dk_at dksX7_comers_0 9 rfl rfl)
theorem dX7_comers_10 : decode cX7_comers 10 = .ok (.iload 4, 2) := dk_21 4 (dk_at dksX7_comers_0 10 rfl rfl)
theorem dX7_comers_12 : decode cX7_comers 12 = .ok (.if_icmp .eq 73, 3) := dk_159 0 73 (dk_at dksX7_comers_0 12 rfl rfl)
theorem dX7_comers_15 : decode cX7_comers 15 = .ok (.iload_n 3, 1) := dk_29 (dk_at dksX7_comers_0 15 rfl rfl)
theorem dX7_comers_16 : decode cX7_comers 16 = .ok (.istore 4, 2) := dk_54 4 (dk_at dksX7_comers_0 16 rfl rfl)
theorem dX7_comers_18 : decode cX7_comers 18 = .ok (.iconst 0, 1) := dk_3 (dk_at dksX7_comers_0 18 rfl rfl)
theorem dX7_comers_19 : decode cX7_comers 19 = .ok (.istore 5, 2) := dk_54 5 (dk_at dksX7_comers_0 19 rfl rfl)
theorem dX7_comers_21 : decode cX7_comers 21 = .ok (.iload 5, 2) := dk_21 5 (dk_at dksX7_comers_0 21 rfl rfl)
theorem dX7_comers_23 : decode cX7_comers 23 = .ok (.aload_n 0, 1) := dk_42 (dk_at dksX7_comers_0 23 rfl rfl)
theorem dX7_comers_24 : decode cX7_comers 24 = .ok (.invokevirtual 88, 3) := dk_182 0 88 (dk_at dksX7_comers_1 0 rfl rfl)
theorem dX7_comers_27 : decode cX7_comers 27 = .ok (.if_icmp .ge 55, 3) := dk_162 0 55 (dk_at dksX7_comers_1 3 rfl rfl)
theorem dX7_comers_30 : decode cX7_comers 30 = .ok (.aload_n 0, 1) := dk_42 (dk_at dksX7_comers_1 6 rfl rfl)
theorem dX7_comers_31 : decode cX7_comers 31 = .ok (.iload 5, 2) := dk_21 5 (dk_at dksX7_comers_1 7 rfl rfl)
theorem dX7_comers_33 : decode cX7_comers 33 = .ok (.invokevirtual 91, 3) := dk_182 0 91 (dk_at dksX7_comers_1 9 rfl rfl)
theorem dX7_comers_36 : decode cX7_comers 36 = .ok (.ifCond .eq 40, 3) := dk_153 0 40 (dk_at dksX7_comers_1 12 rfl rfl)
theorem dX7_comers_39 : decode cX7_comers 39 = .ok (.iload_n 3, 1) := dk_29 (dk_at dksX7_comers_1 15 rfl rfl)
theorem dX7_comers_40 : decode cX7_comers 40 = .ok (.aload_n 0, 1) := dk_42 (dk_at dksX7_comers_1 16 rfl rfl)
theorem dX7_comers_41 : decode cX7_comers 41 = .ok (.iload 5, 2) := dk_21 5 (dk_at dksX7_comers_1 17 rfl rfl)
theorem dX7_comers_43 : decode cX7_comers 43 = .ok (.invokevirtual 103, 3) := dk_182 0 103 (dk_at dksX7_comers_1 19 rfl rfl)
theorem dX7_comers_46 : decode cX7_comers 46 = .ok (.invokestatic 99, 3) := dk_184 0 99 (dk_at dksX7_comers_2 0 rfl rfl)
theorem dX7_comers_49 : decode cX7_comers 49 = .ok (.ifCond .eq 27, 3) := dk_153 0 27 (dk_at dksX7_comers_2 3 rfl rfl)
theorem dX7_comers_52 : decode cX7_comers 52 = .ok (.iload_n 2, 1) := dk_28 (dk_at dksX7_comers_2 6 rfl rfl)
theorem dX7_comers_53 : decode cX7_comers 53 = .ok (.aload_n 0, 1) := dk_42 (dk_at dksX7_comers_2 7 rfl rfl)
theorem dX7_comers_54 : decode cX7_comers 54 = .ok (.iload 5, 2) := dk_21 5 (dk_at dksX7_comers_2 8 rfl rfl)
theorem dX7_comers_56 : decode cX7_comers 56 = .ok (.invokevirtual 95, 3) := dk_182 0 95 (dk_at dksX7_comers_2 10 rfl rfl)
theorem dX7_comers_59 : decode cX7_comers 59 = .ok (.invokestatic 99, 3) := dk_184 0 99 (dk_at dksX7_comers_2 13 rfl rfl)
theorem dX7_comers_62 : decode cX7_comers 62 = .ok (.ifCond .ne 14, 3) := dk_154 0 14 (dk_at dksX7_comers_2 16 rfl rfl)
theorem dX7_comers_65 : decode cX7_comers 65 = .ok (.iload_n 3, 1) := dk_29 (dk_at dksX7_comers_2 19 rfl rfl)
theorem dX7_comers_66 : decode cX7_comers 66 = .ok (.iconst 1, 1) := dk_4 (dk_at dksX7_comers_2 20 rfl rfl)
theorem dX7_comers_67 : decode cX7_comers 67 = .ok (.aload_n 0, 1) := dk_42 (dk_at dksX7_comers_2 21 rfl rfl)
theorem dX7_comers_68 : decode cX7_comers 68 = .ok (.iload 5, 2) := dk_21 5 (dk_at dksX7_comers_2 22 rfl rfl)
theorem dX7_comers_70 : decode cX7_comers 70 = .ok (.invokevirtual 95, 3) := dk_182 0 95 (dk_at dksX7_comers_3 0 rfl rfl)
theorem dX7_comers_73 : decode cX7_comers 73 = .ok (.ishl, 1) := dk_120 (dk_at dksX7_comers_3 3 rfl rfl)
theorem dX7_comers_74 : decode cX7_comers 74 = .ok (.ior, 1) := dk_128 (dk_at dksX7_comers_3 4 rfl rfl)
theorem dX7_comers_75 : decode cX7_comers 75 = .ok (.istore_n 3, 1) := dk_62 (dk_at dksX7_comers_3 5 rfl rfl)
theorem dX7_comers_76 : decode cX7_comers 76 = .ok (.iinc 5 1, 3) := dk_132 5 1 (dk_at dksX7_comers_3 6 rfl rfl)
theorem dX7_comers_79 : decode cX7_comers 79 = .ok (.goto (-58), 3) := dk_167 255 198 (dk_at dksX7_comers_3 9 rfl rfl)
theorem dX7_comers_82 : decode cX7_comers 82 = .ok (.goto (-73), 3) := dk_167 255 183 (dk_at dksX7_comers_3 12 rfl rfl)
theorem dX7_comers_85 : decode cX7_comers 85 = .ok (.iload_n 3, 1) := dk_29 (dk_at dksX7_comers_3 15 rfl rfl)
theorem dX7_comers_86 : decode cX7_comers 86 = .ok (.ireturn, 1) := dk_172 (dk_at dksX7_comers_3 16 rfl rfl)
abbrev cX7_nestOf : ByteArray := prog_11_method_64_code
def yX7_nestOf : MethodName := ⟨RX7, "nestOf", "(I)I"⟩
def dkwX7_nestOf_1 : List UInt8 := [153, 0, 7, 4, 167, 0, 4, 3, 96, 61, 132, 3, 1, 167, 255, 225, 28, 172]
abbrev dktX7_nestOf_1 : List UInt8 := dkwX7_nestOf_1 ++ []
def dkwX7_nestOf_0 : List UInt8 := [3, 61, 3, 62, 29, 42, 182, 0, 80, 162, 0, 29, 28, 42, 29, 182, 1, 32, 27, 184, 0, 99]
abbrev dktX7_nestOf_0 : List UInt8 := dkwX7_nestOf_0 ++ dktX7_nestOf_1
theorem dksX7_nestOf_0 : cX7_nestOf.data.toList.drop 0 = dktX7_nestOf_0 := by decide +kernel
theorem dksX7_nestOf_1 : cX7_nestOf.data.toList.drop 22 = dktX7_nestOf_1 := dk_seg dksX7_nestOf_0 22 rfl rfl
theorem dX7_nestOf_0 : decode cX7_nestOf 0 = .ok (.iconst 0, 1) := dk_3 (dk_at dksX7_nestOf_0 0 rfl rfl)
theorem dX7_nestOf_1 : decode cX7_nestOf 1 = .ok (.istore_n 2, 1) := dk_61 (dk_at dksX7_nestOf_0 1 rfl rfl)
theorem dX7_nestOf_2 : decode cX7_nestOf 2 = .ok (.iconst 0, 1) := dk_3 (dk_at dksX7_nestOf_0 2 rfl rfl)
theorem dX7_nestOf_3 : decode cX7_nestOf 3 = .ok (.istore_n 3, 1) := dk_62 (dk_at dksX7_nestOf_0 3 rfl rfl)
theorem dX7_nestOf_4 : decode cX7_nestOf 4 = .ok (.iload_n 3, 1) := dk_29 (dk_at dksX7_nestOf_0 4 rfl rfl)
theorem dX7_nestOf_5 : decode cX7_nestOf 5 = .ok (.aload_n 0, 1) := dk_42 (dk_at dksX7_nestOf_0 5 rfl rfl)
theorem dX7_nestOf_6 : decode cX7_nestOf 6 = .ok (.invokevirtual 80, 3) := dk_182 0 80 (dk_at dksX7_nestOf_0 6 rfl rfl)
theorem dX7_nestOf_9 : decode cX7_nestOf 9 = .ok (.if_icmp .ge 29, 3) := dk_162 0 29 (dk_at dksX7_nestOf_0 9 rfl rfl)
theorem dX7_nestOf_12 : decode cX7_nestOf 12 = .ok (.iload_n 2, 1) := dk_28 (dk_at dksX7_nestOf_0 12 rfl rfl)
theorem dX7_nestOf_13 : decode cX7_nestOf 13 = .ok (.aload_n 0, 1) := dk_42 (dk_at dksX7_nestOf_0 13 rfl rfl)
theorem dX7_nestOf_14 : decode cX7_nestOf 14 = .ok (.iload_n 3, 1) := dk_29 (dk_at dksX7_nestOf_0 14 rfl rfl)
theorem dX7_nestOf_15 : decode cX7_nestOf 15 = .ok (.invokevirtual 288, 3) := dk_182 1 32 (dk_at dksX7_nestOf_0 15 rfl rfl)
theorem dX7_nestOf_18 : decode cX7_nestOf 18 = .ok (.iload_n 1, 1) := dk_27 (dk_at dksX7_nestOf_0 18 rfl rfl)
theorem dX7_nestOf_19 : decode cX7_nestOf 19 = .ok (.invokestatic 99, 3) := dk_184 0 99 (dk_at dksX7_nestOf_0 19 rfl rfl)
theorem dX7_nestOf_22 : decode cX7_nestOf 22 = .ok (.ifCond .eq 7, 3) := dk_153 0 7 (dk_at dksX7_nestOf_1 0 rfl rfl)
theorem dX7_nestOf_25 : decode cX7_nestOf 25 = .ok (.iconst 1, 1) := dk_4 (dk_at dksX7_nestOf_1 3 rfl rfl)
theorem dX7_nestOf_26 : decode cX7_nestOf 26 = .ok (.goto 4, 3) := dk_167 0 4 (dk_at dksX7_nestOf_1 4 rfl rfl)
theorem dX7_nestOf_29 : decode cX7_nestOf 29 = .ok (.iconst 0, 1) := dk_3 (dk_at dksX7_nestOf_1 7 rfl rfl)
theorem dX7_nestOf_30 : decode cX7_nestOf 30 = .ok (.iadd, 1) := dk_96 (dk_at dksX7_nestOf_1 8 rfl rfl)
theorem dX7_nestOf_31 : decode cX7_nestOf 31 = .ok (.istore_n 2, 1) := dk_61 (dk_at dksX7_nestOf_1 9 rfl rfl)
theorem dX7_nestOf_32 : decode cX7_nestOf 32 = .ok (.iinc 3 1, 3) := dk_132 3 1 (dk_at dksX7_nestOf_1 10 rfl rfl)
theorem dX7_nestOf_35 : decode cX7_nestOf 35 = .ok (.goto (-31), 3) := dk_167 255 225 (dk_at dksX7_nestOf_1 13 rfl rfl)
theorem dX7_nestOf_38 : decode cX7_nestOf 38 = .ok (.iload_n 2, 1) := dk_28 (dk_at dksX7_nestOf_1 16 rfl rfl)
theorem dX7_nestOf_39 : decode cX7_nestOf 39 = .ok (.ireturn, 1) := dk_172 (dk_at dksX7_nestOf_1 17 rfl rfl)
abbrev cX7_outKeeperOf : ByteArray := prog_11_method_68_code
def yX7_outKeeperOf : MethodName := ⟨RX7, "outKeeperOf", "(I)I"⟩
def dkwX7_outKeeperOf_2 : List UInt8 := [167, 255, 217, 2, 172]
abbrev dktX7_outKeeperOf_2 : List UInt8 := dkwX7_outKeeperOf_2 ++ []
def dkwX7_outKeeperOf_1 : List UInt8 := [28, 4, 29, 120, 2, 130, 126, 42, 29, 182, 1, 38, 2, 130, 126, 154, 0, 5, 29, 172, 132, 3, 1]
abbrev dktX7_outKeeperOf_1 : List UInt8 := dkwX7_outKeeperOf_1 ++ dktX7_outKeeperOf_2
def dkwX7_outKeeperOf_0 : List UInt8 := [42, 27, 182, 1, 38, 61, 3, 62, 29, 42, 182, 0, 80, 162, 0, 37, 28, 29, 184, 0, 99, 153, 0, 23]
abbrev dktX7_outKeeperOf_0 : List UInt8 := dkwX7_outKeeperOf_0 ++ dktX7_outKeeperOf_1
theorem dksX7_outKeeperOf_0 : cX7_outKeeperOf.data.toList.drop 0 = dktX7_outKeeperOf_0 := by decide +kernel
theorem dksX7_outKeeperOf_1 : cX7_outKeeperOf.data.toList.drop 24 = dktX7_outKeeperOf_1 := dk_seg dksX7_outKeeperOf_0 24 rfl rfl
theorem dksX7_outKeeperOf_2 : cX7_outKeeperOf.data.toList.drop 47 = dktX7_outKeeperOf_2 := dk_seg dksX7_outKeeperOf_1 23 rfl rfl
theorem dX7_outKeeperOf_0 : decode cX7_outKeeperOf 0 = .ok (.aload_n 0, 1) := dk_42 (dk_at dksX7_outKeeperOf_0 0 rfl rfl)
theorem dX7_outKeeperOf_1 : decode cX7_outKeeperOf 1 = .ok (.iload_n 1, 1) := dk_27 (dk_at dksX7_outKeeperOf_0 1 rfl rfl)
theorem dX7_outKeeperOf_2 : decode cX7_outKeeperOf 2 = .ok (.invokevirtual 294, 3) := dk_182 1 38 (dk_at dksX7_outKeeperOf_0 2 rfl rfl)
theorem dX7_outKeeperOf_5 : decode cX7_outKeeperOf 5 = .ok (.istore_n 2, 1) := dk_61 (dk_at dksX7_outKeeperOf_0 5 rfl rfl)
theorem dX7_outKeeperOf_6 : decode cX7_outKeeperOf 6 = .ok (.iconst 0, 1) := dk_3 (dk_at dksX7_outKeeperOf_0 6 rfl rfl)
theorem dX7_outKeeperOf_7 : decode cX7_outKeeperOf 7 = .ok (.istore_n 3, 1) := dk_62 (dk_at dksX7_outKeeperOf_0 7 rfl rfl)
theorem dX7_outKeeperOf_8 : decode cX7_outKeeperOf 8 = .ok (.iload_n 3, 1) := dk_29 (dk_at dksX7_outKeeperOf_0 8 rfl rfl)
theorem dX7_outKeeperOf_9 : decode cX7_outKeeperOf 9 = .ok (.aload_n 0, 1) := dk_42 (dk_at dksX7_outKeeperOf_0 9 rfl rfl)
theorem dX7_outKeeperOf_10 : decode cX7_outKeeperOf 10 = .ok (.invokevirtual 80, 3) := dk_182 0 80 (dk_at dksX7_outKeeperOf_0 10 rfl rfl)
theorem dX7_outKeeperOf_13 : decode cX7_outKeeperOf 13 = .ok (.if_icmp .ge 37, 3) := dk_162 0 37 (dk_at dksX7_outKeeperOf_0 13 rfl rfl)
theorem dX7_outKeeperOf_16 : decode cX7_outKeeperOf 16 = .ok (.iload_n 2, 1) := dk_28 (dk_at dksX7_outKeeperOf_0 16 rfl rfl)
theorem dX7_outKeeperOf_17 : decode cX7_outKeeperOf 17 = .ok (.iload_n 3, 1) := dk_29 (dk_at dksX7_outKeeperOf_0 17 rfl rfl)
theorem dX7_outKeeperOf_18 : decode cX7_outKeeperOf 18 = .ok (.invokestatic 99, 3) := dk_184 0 99 (dk_at dksX7_outKeeperOf_0 18 rfl rfl)
theorem dX7_outKeeperOf_21 : decode cX7_outKeeperOf 21 = .ok (.ifCond .eq 23, 3) := dk_153 0 23 (dk_at dksX7_outKeeperOf_0 21 rfl rfl)
theorem dX7_outKeeperOf_24 : decode cX7_outKeeperOf 24 = .ok (.iload_n 2, 1) := dk_28 (dk_at dksX7_outKeeperOf_1 0 rfl rfl)
theorem dX7_outKeeperOf_25 : decode cX7_outKeeperOf 25 = .ok (.iconst 1, 1) := dk_4 (dk_at dksX7_outKeeperOf_1 1 rfl rfl)
theorem dX7_outKeeperOf_26 : decode cX7_outKeeperOf 26 = .ok (.iload_n 3, 1) := dk_29 (dk_at dksX7_outKeeperOf_1 2 rfl rfl)
theorem dX7_outKeeperOf_27 : decode cX7_outKeeperOf 27 = .ok (.ishl, 1) := dk_120 (dk_at dksX7_outKeeperOf_1 3 rfl rfl)
theorem dX7_outKeeperOf_28 : decode cX7_outKeeperOf 28 = .ok (.iconst (-1), 1) := dk_2 (dk_at dksX7_outKeeperOf_1 4 rfl rfl)
theorem dX7_outKeeperOf_29 : decode cX7_outKeeperOf 29 = .ok (.ixor, 1) := dk_130 (dk_at dksX7_outKeeperOf_1 5 rfl rfl)
theorem dX7_outKeeperOf_30 : decode cX7_outKeeperOf 30 = .ok (.iand, 1) := dk_126 (dk_at dksX7_outKeeperOf_1 6 rfl rfl)
theorem dX7_outKeeperOf_31 : decode cX7_outKeeperOf 31 = .ok (.aload_n 0, 1) := dk_42 (dk_at dksX7_outKeeperOf_1 7 rfl rfl)
theorem dX7_outKeeperOf_32 : decode cX7_outKeeperOf 32 = .ok (.iload_n 3, 1) := dk_29 (dk_at dksX7_outKeeperOf_1 8 rfl rfl)
theorem dX7_outKeeperOf_33 : decode cX7_outKeeperOf 33 = .ok (.invokevirtual 294, 3) := dk_182 1 38 (dk_at dksX7_outKeeperOf_1 9 rfl rfl)
theorem dX7_outKeeperOf_36 : decode cX7_outKeeperOf 36 = .ok (.iconst (-1), 1) := dk_2 (dk_at dksX7_outKeeperOf_1 12 rfl rfl)
theorem dX7_outKeeperOf_37 : decode cX7_outKeeperOf 37 = .ok (.ixor, 1) := dk_130 (dk_at dksX7_outKeeperOf_1 13 rfl rfl)
theorem dX7_outKeeperOf_38 : decode cX7_outKeeperOf 38 = .ok (.iand, 1) := dk_126 (dk_at dksX7_outKeeperOf_1 14 rfl rfl)
theorem dX7_outKeeperOf_39 : decode cX7_outKeeperOf 39 = .ok (.ifCond .ne 5, 3) := dk_154 0 5 (dk_at dksX7_outKeeperOf_1 15 rfl rfl)
theorem dX7_outKeeperOf_42 : decode cX7_outKeeperOf 42 = .ok (.iload_n 3, 1) := dk_29 (dk_at dksX7_outKeeperOf_1 18 rfl rfl)
theorem dX7_outKeeperOf_43 : decode cX7_outKeeperOf 43 = .ok (.ireturn, 1) := dk_172 (dk_at dksX7_outKeeperOf_1 19 rfl rfl)
theorem dX7_outKeeperOf_44 : decode cX7_outKeeperOf 44 = .ok (.iinc 3 1, 3) := dk_132 3 1 (dk_at dksX7_outKeeperOf_1 20 rfl rfl)
theorem dX7_outKeeperOf_47 : decode cX7_outKeeperOf 47 = .ok (.goto (-39), 3) := dk_167 255 217 (dk_at dksX7_outKeeperOf_2 0 rfl rfl)
theorem dX7_outKeeperOf_50 : decode cX7_outKeeperOf 50 = .ok (.iconst (-1), 1) := dk_2 (dk_at dksX7_outKeeperOf_2 3 rfl rfl)
theorem dX7_outKeeperOf_51 : decode cX7_outKeeperOf 51 = .ok (.ireturn, 1) := dk_172 (dk_at dksX7_outKeeperOf_2 4 rfl rfl)
abbrev cX7_outGatesOf : ByteArray := prog_11_method_67_code
def yX7_outGatesOf : MethodName := ⟨RX7, "outGatesOf", "(I)I"⟩
def dkwX7_outGatesOf_2 : List UInt8 := [154, 0, 9, 28, 4, 29, 120, 128, 61, 132, 3, 1, 167, 255, 212, 28, 172]
abbrev dktX7_outGatesOf_2 : List UInt8 := dkwX7_outGatesOf_2 ++ []
def dkwX7_outGatesOf_1 : List UInt8 := [159, 0, 31, 42, 4, 42, 180, 0, 13, 5, 46, 120, 4, 29, 120, 182, 1, 29, 27, 184, 0, 99]
abbrev dktX7_outGatesOf_1 : List UInt8 := dkwX7_outGatesOf_1 ++ dktX7_outGatesOf_2
def dkwX7_outGatesOf_0 : List UInt8 := [42, 27, 182, 1, 35, 154, 0, 5, 3, 172, 3, 61, 3, 62, 29, 42, 182, 0, 80, 162, 0, 42, 29, 27]
abbrev dktX7_outGatesOf_0 : List UInt8 := dkwX7_outGatesOf_0 ++ dktX7_outGatesOf_1
theorem dksX7_outGatesOf_0 : cX7_outGatesOf.data.toList.drop 0 = dktX7_outGatesOf_0 := by decide +kernel
theorem dksX7_outGatesOf_1 : cX7_outGatesOf.data.toList.drop 24 = dktX7_outGatesOf_1 := dk_seg dksX7_outGatesOf_0 24 rfl rfl
theorem dksX7_outGatesOf_2 : cX7_outGatesOf.data.toList.drop 46 = dktX7_outGatesOf_2 := dk_seg dksX7_outGatesOf_1 22 rfl rfl
theorem dX7_outGatesOf_0 : decode cX7_outGatesOf 0 = .ok (.aload_n 0, 1) := dk_42 (dk_at dksX7_outGatesOf_0 0 rfl rfl)
theorem dX7_outGatesOf_1 : decode cX7_outGatesOf 1 = .ok (.iload_n 1, 1) := dk_27 (dk_at dksX7_outGatesOf_0 1 rfl rfl)
theorem dX7_outGatesOf_2 : decode cX7_outGatesOf 2 = .ok (.invokevirtual 291, 3) := dk_182 1 35 (dk_at dksX7_outGatesOf_0 2 rfl rfl)
theorem dX7_outGatesOf_5 : decode cX7_outGatesOf 5 = .ok (.ifCond .ne 5, 3) := dk_154 0 5 (dk_at dksX7_outGatesOf_0 5 rfl rfl)
theorem dX7_outGatesOf_8 : decode cX7_outGatesOf 8 = .ok (.iconst 0, 1) := dk_3 (dk_at dksX7_outGatesOf_0 8 rfl rfl)
theorem dX7_outGatesOf_9 : decode cX7_outGatesOf 9 = .ok (.ireturn, 1) := dk_172 (dk_at dksX7_outGatesOf_0 9 rfl rfl)
theorem dX7_outGatesOf_10 : decode cX7_outGatesOf 10 = .ok (.iconst 0, 1) := dk_3 (dk_at dksX7_outGatesOf_0 10 rfl rfl)
theorem dX7_outGatesOf_11 : decode cX7_outGatesOf 11 = .ok (.istore_n 2, 1) := dk_61 (dk_at dksX7_outGatesOf_0 11 rfl rfl)
theorem dX7_outGatesOf_12 : decode cX7_outGatesOf 12 = .ok (.iconst 0, 1) := dk_3 (dk_at dksX7_outGatesOf_0 12 rfl rfl)
theorem dX7_outGatesOf_13 : decode cX7_outGatesOf 13 = .ok (.istore_n 3, 1) := dk_62 (dk_at dksX7_outGatesOf_0 13 rfl rfl)
theorem dX7_outGatesOf_14 : decode cX7_outGatesOf 14 = .ok (.iload_n 3, 1) := dk_29 (dk_at dksX7_outGatesOf_0 14 rfl rfl)
theorem dX7_outGatesOf_15 : decode cX7_outGatesOf 15 = .ok (.aload_n 0, 1) := dk_42 (dk_at dksX7_outGatesOf_0 15 rfl rfl)
theorem dX7_outGatesOf_16 : decode cX7_outGatesOf 16 = .ok (.invokevirtual 80, 3) := dk_182 0 80 (dk_at dksX7_outGatesOf_0 16 rfl rfl)
theorem dX7_outGatesOf_19 : decode cX7_outGatesOf 19 = .ok (.if_icmp .ge 42, 3) := dk_162 0 42 (dk_at dksX7_outGatesOf_0 19 rfl rfl)
theorem dX7_outGatesOf_22 : decode cX7_outGatesOf 22 = .ok (.iload_n 3, 1) := dk_29 (dk_at dksX7_outGatesOf_0 22 rfl rfl)
theorem dX7_outGatesOf_23 : decode cX7_outGatesOf 23 = .ok (.iload_n 1, 1) := dk_27 (dk_at dksX7_outGatesOf_0 23 rfl rfl)
theorem dX7_outGatesOf_24 : decode cX7_outGatesOf 24 = .ok (.if_icmp .eq 31, 3) := dk_159 0 31 (dk_at dksX7_outGatesOf_1 0 rfl rfl)
theorem dX7_outGatesOf_27 : decode cX7_outGatesOf 27 = .ok (.aload_n 0, 1) := dk_42 (dk_at dksX7_outGatesOf_1 3 rfl rfl)
theorem dX7_outGatesOf_28 : decode cX7_outGatesOf 28 = .ok (.iconst 1, 1) := dk_4 (dk_at dksX7_outGatesOf_1 4 rfl rfl)
theorem dX7_outGatesOf_29 : decode cX7_outGatesOf 29 = .ok (.aload_n 0, 1) := dk_42 (dk_at dksX7_outGatesOf_1 5 rfl rfl)
theorem dX7_outGatesOf_30 : decode cX7_outGatesOf 30 = .ok (.getfield 13, 3) := dk_180 0 13 (dk_at dksX7_outGatesOf_1 6 rfl rfl)
theorem dX7_outGatesOf_33 : decode cX7_outGatesOf 33 = .ok (.iconst 2, 1) := dk_5 (dk_at dksX7_outGatesOf_1 9 rfl rfl)
theorem dX7_outGatesOf_34 : decode cX7_outGatesOf 34 = .ok (.iaload, 1) := dk_46 (dk_at dksX7_outGatesOf_1 10 rfl rfl)
theorem dX7_outGatesOf_35 : decode cX7_outGatesOf 35 = .ok (.ishl, 1) := dk_120 (dk_at dksX7_outGatesOf_1 11 rfl rfl)
theorem dX7_outGatesOf_36 : decode cX7_outGatesOf 36 = .ok (.iconst 1, 1) := dk_4 (dk_at dksX7_outGatesOf_1 12 rfl rfl)
theorem dX7_outGatesOf_37 : decode cX7_outGatesOf 37 = .ok (.iload_n 3, 1) := dk_29 (dk_at dksX7_outGatesOf_1 13 rfl rfl)
theorem dX7_outGatesOf_38 : decode cX7_outGatesOf 38 = .ok (.ishl, 1) := dk_120 (dk_at dksX7_outGatesOf_1 14 rfl rfl)
theorem dX7_outGatesOf_39 : decode cX7_outGatesOf 39 = .ok (.invokevirtual 285, 3) := dk_182 1 29 (dk_at dksX7_outGatesOf_1 15 rfl rfl)
theorem dX7_outGatesOf_42 : decode cX7_outGatesOf 42 = .ok (.iload_n 1, 1) := dk_27 (dk_at dksX7_outGatesOf_1 18 rfl rfl)
theorem dX7_outGatesOf_43 : decode cX7_outGatesOf 43 = .ok (.invokestatic 99, 3) := dk_184 0 99 (dk_at dksX7_outGatesOf_1 19 rfl rfl)
theorem dX7_outGatesOf_46 : decode cX7_outGatesOf 46 = .ok (.ifCond .ne 9, 3) := dk_154 0 9 (dk_at dksX7_outGatesOf_2 0 rfl rfl)
theorem dX7_outGatesOf_49 : decode cX7_outGatesOf 49 = .ok (.iload_n 2, 1) := dk_28 (dk_at dksX7_outGatesOf_2 3 rfl rfl)
theorem dX7_outGatesOf_50 : decode cX7_outGatesOf 50 = .ok (.iconst 1, 1) := dk_4 (dk_at dksX7_outGatesOf_2 4 rfl rfl)
theorem dX7_outGatesOf_51 : decode cX7_outGatesOf 51 = .ok (.iload_n 3, 1) := dk_29 (dk_at dksX7_outGatesOf_2 5 rfl rfl)
theorem dX7_outGatesOf_52 : decode cX7_outGatesOf 52 = .ok (.ishl, 1) := dk_120 (dk_at dksX7_outGatesOf_2 6 rfl rfl)
theorem dX7_outGatesOf_53 : decode cX7_outGatesOf 53 = .ok (.ior, 1) := dk_128 (dk_at dksX7_outGatesOf_2 7 rfl rfl)
theorem dX7_outGatesOf_54 : decode cX7_outGatesOf 54 = .ok (.istore_n 2, 1) := dk_61 (dk_at dksX7_outGatesOf_2 8 rfl rfl)
theorem dX7_outGatesOf_55 : decode cX7_outGatesOf 55 = .ok (.iinc 3 1, 3) := dk_132 3 1 (dk_at dksX7_outGatesOf_2 9 rfl rfl)
theorem dX7_outGatesOf_58 : decode cX7_outGatesOf 58 = .ok (.goto (-44), 3) := dk_167 255 212 (dk_at dksX7_outGatesOf_2 12 rfl rfl)
theorem dX7_outGatesOf_61 : decode cX7_outGatesOf 61 = .ok (.iload_n 2, 1) := dk_28 (dk_at dksX7_outGatesOf_2 15 rfl rfl)
theorem dX7_outGatesOf_62 : decode cX7_outGatesOf 62 = .ok (.ireturn, 1) := dk_172 (dk_at dksX7_outGatesOf_2 16 rfl rfl)
abbrev cX7_hasWayOut : ByteArray := prog_11_method_66_code
def yX7_hasWayOut : MethodName := ⟨RX7, "hasWayOut", "(I)Z"⟩
def dkwX7_hasWayOut_1 : List UInt8 := [27, 184, 0, 99, 153, 0, 7, 4, 167, 0, 4, 3, 172]
abbrev dktX7_hasWayOut_1 : List UInt8 := dkwX7_hasWayOut_1 ++ []
def dkwX7_hasWayOut_0 : List UInt8 := [42, 180, 0, 120, 27, 184, 0, 99, 153, 0, 27, 42, 4, 42, 180, 0, 13, 5, 46, 120, 3, 182, 1, 29]
abbrev dktX7_hasWayOut_0 : List UInt8 := dkwX7_hasWayOut_0 ++ dktX7_hasWayOut_1
theorem dksX7_hasWayOut_0 : cX7_hasWayOut.data.toList.drop 0 = dktX7_hasWayOut_0 := by decide +kernel
theorem dksX7_hasWayOut_1 : cX7_hasWayOut.data.toList.drop 24 = dktX7_hasWayOut_1 := dk_seg dksX7_hasWayOut_0 24 rfl rfl
theorem dX7_hasWayOut_0 : decode cX7_hasWayOut 0 = .ok (.aload_n 0, 1) := dk_42 (dk_at dksX7_hasWayOut_0 0 rfl rfl)
theorem dX7_hasWayOut_1 : decode cX7_hasWayOut 1 = .ok (.getfield 120, 3) := dk_180 0 120 (dk_at dksX7_hasWayOut_0 1 rfl rfl)
theorem dX7_hasWayOut_4 : decode cX7_hasWayOut 4 = .ok (.iload_n 1, 1) := dk_27 (dk_at dksX7_hasWayOut_0 4 rfl rfl)
theorem dX7_hasWayOut_5 : decode cX7_hasWayOut 5 = .ok (.invokestatic 99, 3) := dk_184 0 99 (dk_at dksX7_hasWayOut_0 5 rfl rfl)
theorem dX7_hasWayOut_8 : decode cX7_hasWayOut 8 = .ok (.ifCond .eq 27, 3) := dk_153 0 27 (dk_at dksX7_hasWayOut_0 8 rfl rfl)
theorem dX7_hasWayOut_11 : decode cX7_hasWayOut 11 = .ok (.aload_n 0, 1) := dk_42 (dk_at dksX7_hasWayOut_0 11 rfl rfl)
theorem dX7_hasWayOut_12 : decode cX7_hasWayOut 12 = .ok (.iconst 1, 1) := dk_4 (dk_at dksX7_hasWayOut_0 12 rfl rfl)
theorem dX7_hasWayOut_13 : decode cX7_hasWayOut 13 = .ok (.aload_n 0, 1) := dk_42 (dk_at dksX7_hasWayOut_0 13 rfl rfl)
theorem dX7_hasWayOut_14 : decode cX7_hasWayOut 14 = .ok (.getfield 13, 3) := dk_180 0 13 (dk_at dksX7_hasWayOut_0 14 rfl rfl)
theorem dX7_hasWayOut_17 : decode cX7_hasWayOut 17 = .ok (.iconst 2, 1) := dk_5 (dk_at dksX7_hasWayOut_0 17 rfl rfl)
theorem dX7_hasWayOut_18 : decode cX7_hasWayOut 18 = .ok (.iaload, 1) := dk_46 (dk_at dksX7_hasWayOut_0 18 rfl rfl)
theorem dX7_hasWayOut_19 : decode cX7_hasWayOut 19 = .ok (.ishl, 1) := dk_120 (dk_at dksX7_hasWayOut_0 19 rfl rfl)
theorem dX7_hasWayOut_20 : decode cX7_hasWayOut 20 = .ok (.iconst 0, 1) := dk_3 (dk_at dksX7_hasWayOut_0 20 rfl rfl)
theorem dX7_hasWayOut_21 : decode cX7_hasWayOut 21 = .ok (.invokevirtual 285, 3) := dk_182 1 29 (dk_at dksX7_hasWayOut_0 21 rfl rfl)
theorem dX7_hasWayOut_24 : decode cX7_hasWayOut 24 = .ok (.iload_n 1, 1) := dk_27 (dk_at dksX7_hasWayOut_1 0 rfl rfl)
theorem dX7_hasWayOut_25 : decode cX7_hasWayOut 25 = .ok (.invokestatic 99, 3) := dk_184 0 99 (dk_at dksX7_hasWayOut_1 1 rfl rfl)
theorem dX7_hasWayOut_28 : decode cX7_hasWayOut 28 = .ok (.ifCond .eq 7, 3) := dk_153 0 7 (dk_at dksX7_hasWayOut_1 4 rfl rfl)
theorem dX7_hasWayOut_31 : decode cX7_hasWayOut 31 = .ok (.iconst 1, 1) := dk_4 (dk_at dksX7_hasWayOut_1 7 rfl rfl)
theorem dX7_hasWayOut_32 : decode cX7_hasWayOut 32 = .ok (.goto 4, 3) := dk_167 0 4 (dk_at dksX7_hasWayOut_1 8 rfl rfl)
theorem dX7_hasWayOut_35 : decode cX7_hasWayOut 35 = .ok (.iconst 0, 1) := dk_3 (dk_at dksX7_hasWayOut_1 11 rfl rfl)
theorem dX7_hasWayOut_36 : decode cX7_hasWayOut 36 = .ok (.ireturn, 1) := dk_172 (dk_at dksX7_hasWayOut_1 12 rfl rfl)
abbrev cX7_hardOf : ByteArray := prog_11_method_70_code
def yX7_hardOf : MethodName := ⟨RX7, "hardOf", "(I)I"⟩
def dkwX7_hardOf_2 : List UInt8 := [28, 172]
abbrev dktX7_hardOf_2 : List UInt8 := dkwX7_hardOf_2 ++ []
def dkwX7_hardOf_1 : List UInt8 := [3, 79, 132, 2, 1, 167, 255, 240, 3, 61, 42, 27, 182, 1, 41, 153, 0, 9, 132, 2, 1, 167, 255, 245]
abbrev dktX7_hardOf_1 : List UInt8 := dkwX7_hardOf_1 ++ dktX7_hardOf_2
def dkwX7_hardOf_0 : List UInt8 := [27, 42, 182, 0, 109, 160, 0, 6, 16, 99, 172, 3, 61, 28, 16, 60, 162, 0, 16, 42, 180, 0, 60, 28]
abbrev dktX7_hardOf_0 : List UInt8 := dkwX7_hardOf_0 ++ dktX7_hardOf_1
theorem dksX7_hardOf_0 : cX7_hardOf.data.toList.drop 0 = dktX7_hardOf_0 := by decide +kernel
theorem dksX7_hardOf_1 : cX7_hardOf.data.toList.drop 24 = dktX7_hardOf_1 := dk_seg dksX7_hardOf_0 24 rfl rfl
theorem dksX7_hardOf_2 : cX7_hardOf.data.toList.drop 48 = dktX7_hardOf_2 := dk_seg dksX7_hardOf_1 24 rfl rfl
theorem dX7_hardOf_0 : decode cX7_hardOf 0 = .ok (.iload_n 1, 1) := dk_27 (dk_at dksX7_hardOf_0 0 rfl rfl)
theorem dX7_hardOf_1 : decode cX7_hardOf 1 = .ok (.aload_n 0, 1) := dk_42 (dk_at dksX7_hardOf_0 1 rfl rfl)
theorem dX7_hardOf_2 : decode cX7_hardOf 2 = .ok (.invokevirtual 109, 3) := dk_182 0 109 (dk_at dksX7_hardOf_0 2 rfl rfl)
theorem dX7_hardOf_5 : decode cX7_hardOf 5 = .ok (.if_icmp .ne 6, 3) := dk_160 0 6 (dk_at dksX7_hardOf_0 5 rfl rfl)
theorem dX7_hardOf_8 : decode cX7_hardOf 8 = .ok (.bipush 99, 2) := dk_16 99 (dk_at dksX7_hardOf_0 8 rfl rfl)
theorem dX7_hardOf_10 : decode cX7_hardOf 10 = .ok (.ireturn, 1) := dk_172 (dk_at dksX7_hardOf_0 10 rfl rfl)
theorem dX7_hardOf_11 : decode cX7_hardOf 11 = .ok (.iconst 0, 1) := dk_3 (dk_at dksX7_hardOf_0 11 rfl rfl)
theorem dX7_hardOf_12 : decode cX7_hardOf 12 = .ok (.istore_n 2, 1) := dk_61 (dk_at dksX7_hardOf_0 12 rfl rfl)
theorem dX7_hardOf_13 : decode cX7_hardOf 13 = .ok (.iload_n 2, 1) := dk_28 (dk_at dksX7_hardOf_0 13 rfl rfl)
theorem dX7_hardOf_14 : decode cX7_hardOf 14 = .ok (.bipush 60, 2) := dk_16 60 (dk_at dksX7_hardOf_0 14 rfl rfl)
theorem dX7_hardOf_16 : decode cX7_hardOf 16 = .ok (.if_icmp .ge 16, 3) := dk_162 0 16 (dk_at dksX7_hardOf_0 16 rfl rfl)
theorem dX7_hardOf_19 : decode cX7_hardOf 19 = .ok (.aload_n 0, 1) := dk_42 (dk_at dksX7_hardOf_0 19 rfl rfl)
theorem dX7_hardOf_20 : decode cX7_hardOf 20 = .ok (.getfield 60, 3) := dk_180 0 60 (dk_at dksX7_hardOf_0 20 rfl rfl)
theorem dX7_hardOf_23 : decode cX7_hardOf 23 = .ok (.iload_n 2, 1) := dk_28 (dk_at dksX7_hardOf_0 23 rfl rfl)
theorem dX7_hardOf_24 : decode cX7_hardOf 24 = .ok (.iconst 0, 1) := dk_3 (dk_at dksX7_hardOf_1 0 rfl rfl)
theorem dX7_hardOf_25 : decode cX7_hardOf 25 = .ok (.iastore, 1) := dk_79 (dk_at dksX7_hardOf_1 1 rfl rfl)
theorem dX7_hardOf_26 : decode cX7_hardOf 26 = .ok (.iinc 2 1, 3) := dk_132 2 1 (dk_at dksX7_hardOf_1 2 rfl rfl)
theorem dX7_hardOf_29 : decode cX7_hardOf 29 = .ok (.goto (-16), 3) := dk_167 255 240 (dk_at dksX7_hardOf_1 5 rfl rfl)
theorem dX7_hardOf_32 : decode cX7_hardOf 32 = .ok (.iconst 0, 1) := dk_3 (dk_at dksX7_hardOf_1 8 rfl rfl)
theorem dX7_hardOf_33 : decode cX7_hardOf 33 = .ok (.istore_n 2, 1) := dk_61 (dk_at dksX7_hardOf_1 9 rfl rfl)
theorem dX7_hardOf_34 : decode cX7_hardOf 34 = .ok (.aload_n 0, 1) := dk_42 (dk_at dksX7_hardOf_1 10 rfl rfl)
theorem dX7_hardOf_35 : decode cX7_hardOf 35 = .ok (.iload_n 1, 1) := dk_27 (dk_at dksX7_hardOf_1 11 rfl rfl)
theorem dX7_hardOf_36 : decode cX7_hardOf 36 = .ok (.invokevirtual 297, 3) := dk_182 1 41 (dk_at dksX7_hardOf_1 12 rfl rfl)
theorem dX7_hardOf_39 : decode cX7_hardOf 39 = .ok (.ifCond .eq 9, 3) := dk_153 0 9 (dk_at dksX7_hardOf_1 15 rfl rfl)
theorem dX7_hardOf_42 : decode cX7_hardOf 42 = .ok (.iinc 2 1, 3) := dk_132 2 1 (dk_at dksX7_hardOf_1 18 rfl rfl)
theorem dX7_hardOf_45 : decode cX7_hardOf 45 = .ok (.goto (-11), 3) := dk_167 255 245 (dk_at dksX7_hardOf_1 21 rfl rfl)
theorem dX7_hardOf_48 : decode cX7_hardOf 48 = .ok (.iload_n 2, 1) := dk_28 (dk_at dksX7_hardOf_2 0 rfl rfl)
theorem dX7_hardOf_49 : decode cX7_hardOf 49 = .ok (.ireturn, 1) := dk_172 (dk_at dksX7_hardOf_2 1 rfl rfl)
abbrev cX7_flows : ByteArray := prog_11_method_69_code
def yX7_flows : MethodName := ⟨RX7, "flows", "(I)Z"⟩
def dkwX7_flows_12 : List UInt8 := [167, 0, 9, 42, 21, 5, 182, 0, 103, 54, 4, 167, 255, 171, 4, 172]
abbrev dktX7_flows_12 : List UInt8 := dkwX7_flows_12 ++ []
def dkwX7_flows_11 : List UInt8 := [21, 5, 21, 6, 153, 0, 7, 4, 167, 0, 4, 3, 79, 21, 6, 153, 0, 12, 42, 21, 5, 182, 0, 95]
abbrev dktX7_flows_11 : List UInt8 := dkwX7_flows_11 ++ dktX7_flows_12
def dkwX7_flows_10 : List UInt8 := [160, 0, 17, 42, 180, 0, 60, 21, 5, 46, 154, 0, 7, 4, 167, 0, 4, 3, 54, 6, 42, 180, 0, 60]
abbrev dktX7_flows_10 : List UInt8 := dkwX7_flows_10 ++ dktX7_flows_11
def dkwX7_flows_9 : List UInt8 := [182, 0, 109, 159, 0, 82, 42, 180, 0, 63, 21, 4, 46, 54, 5, 42, 21, 5, 182, 0, 103, 21, 4]
abbrev dktX7_flows_9 : List UInt8 := dkwX7_flows_9 ++ dktX7_flows_10
def dkwX7_flows_8 : List UInt8 := [167, 255, 94, 167, 255, 73, 28, 27, 184, 0, 99, 154, 0, 5, 3, 172, 27, 54, 4, 21, 4, 42]
abbrev dktX7_flows_8 : List UInt8 := dkwX7_flows_8 ++ dktX7_flows_9
def dkwX7_flows_7 : List UInt8 := [182, 0, 95, 54, 7, 28, 4, 21, 7, 120, 128, 61, 42, 180, 0, 63, 21, 7, 21, 4, 79, 132, 4, 1]
abbrev dktX7_flows_7 : List UInt8 := dkwX7_flows_7 ++ dktX7_flows_8
def dkwX7_flows_6 : List UInt8 := [154, 0, 6, 167, 0, 41, 21, 5, 153, 0, 12, 42, 21, 4, 182, 0, 103, 167, 0, 9, 42, 21, 4]
abbrev dktX7_flows_6 : List UInt8 := dkwX7_flows_6 ++ dktX7_flows_7
def dkwX7_flows_5 : List UInt8 := [182, 0, 95, 184, 0, 99, 154, 0, 7, 4, 167, 0, 4, 3, 54, 6, 21, 5, 154, 0, 11, 21, 6]
abbrev dktX7_flows_5 : List UInt8 := dkwX7_flows_5 ++ dktX7_flows_6
def dkwX7_flows_4 : List UInt8 := [21, 4, 46, 4, 160, 0, 33, 28, 42, 21, 4, 182, 0, 103, 184, 0, 99, 153, 0, 20, 28, 42, 21, 4]
abbrev dktX7_flows_4 : List UInt8 := dkwX7_flows_4 ++ dktX7_flows_5
def dkwX7_flows_3 : List UInt8 := [42, 21, 4, 182, 0, 103, 184, 0, 99, 154, 0, 7, 4, 167, 0, 4, 3, 54, 5, 42, 180, 0, 60]
abbrev dktX7_flows_3 : List UInt8 := dkwX7_flows_3 ++ dktX7_flows_4
def dkwX7_flows_2 : List UInt8 := [42, 180, 0, 60, 21, 4, 46, 154, 0, 33, 28, 42, 21, 4, 182, 0, 95, 184, 0, 99, 153, 0, 20, 28]
abbrev dktX7_flows_2 : List UInt8 := dkwX7_flows_2 ++ dktX7_flows_3
def dkwX7_flows_1 : List UInt8 := [3, 54, 4, 21, 4, 42, 182, 0, 88, 162, 0, 159, 42, 21, 4, 182, 0, 91, 154, 0, 6, 167, 0, 141]
abbrev dktX7_flows_1 : List UInt8 := dkwX7_flows_1 ++ dktX7_flows_2
def dkwX7_flows_0 : List UInt8 := [4, 42, 182, 0, 109, 120, 61, 3, 62, 28, 29, 159, 0, 184, 28, 27, 184, 0, 99, 154, 0, 176, 28, 62]
abbrev dktX7_flows_0 : List UInt8 := dkwX7_flows_0 ++ dktX7_flows_1
theorem dksX7_flows_0 : cX7_flows.data.toList.drop 0 = dktX7_flows_0 := by decide +kernel
theorem dksX7_flows_1 : cX7_flows.data.toList.drop 24 = dktX7_flows_1 := dk_seg dksX7_flows_0 24 rfl rfl
theorem dksX7_flows_2 : cX7_flows.data.toList.drop 48 = dktX7_flows_2 := dk_seg dksX7_flows_1 24 rfl rfl
theorem dksX7_flows_3 : cX7_flows.data.toList.drop 72 = dktX7_flows_3 := dk_seg dksX7_flows_2 24 rfl rfl
theorem dksX7_flows_4 : cX7_flows.data.toList.drop 95 = dktX7_flows_4 := dk_seg dksX7_flows_3 23 rfl rfl
theorem dksX7_flows_5 : cX7_flows.data.toList.drop 119 = dktX7_flows_5 := dk_seg dksX7_flows_4 24 rfl rfl
theorem dksX7_flows_6 : cX7_flows.data.toList.drop 142 = dktX7_flows_6 := dk_seg dksX7_flows_5 23 rfl rfl
theorem dksX7_flows_7 : cX7_flows.data.toList.drop 165 = dktX7_flows_7 := dk_seg dksX7_flows_6 23 rfl rfl
theorem dksX7_flows_8 : cX7_flows.data.toList.drop 189 = dktX7_flows_8 := dk_seg dksX7_flows_7 24 rfl rfl
theorem dksX7_flows_9 : cX7_flows.data.toList.drop 211 = dktX7_flows_9 := dk_seg dksX7_flows_8 22 rfl rfl
theorem dksX7_flows_10 : cX7_flows.data.toList.drop 234 = dktX7_flows_10 := dk_seg dksX7_flows_9 23 rfl rfl
theorem dksX7_flows_11 : cX7_flows.data.toList.drop 258 = dktX7_flows_11 := dk_seg dksX7_flows_10 24 rfl rfl
theorem dksX7_flows_12 : cX7_flows.data.toList.drop 282 = dktX7_flows_12 := dk_seg dksX7_flows_11 24 rfl rfl
theorem dX7_flows_0 : decode cX7_flows 0 = .ok (.iconst 1, 1) := dk_4 (dk_at dksX7_flows_0 0 rfl rfl)
theorem dX7_flows_1 : decode cX7_flows 1 = .ok (.aload_n 0, 1) := dk_42 (dk_at dksX7_flows_0 1 rfl rfl)
theorem dX7_flows_2 : decode cX7_flows 2 = .ok (.invokevirtual 109, 3) := dk_182 0 109 (dk_at dksX7_flows_0 2 rfl rfl)
theorem dX7_flows_5 : decode cX7_flows 5 = .ok (.ishl, 1) := dk_120 (dk_at dksX7_flows_0 5 rfl rfl)
theorem dX7_flows_6 : decode cX7_flows 6 = .ok (.istore_n 2, 1) := dk_61 (dk_at dksX7_flows_0 6 rfl rfl)
theorem dX7_flows_7 : decode cX7_flows 7 = .ok (.iconst 0, 1) := dk_3 (dk_at dksX7_flows_0 7 rfl rfl)
theorem dX7_flows_8 : decode cX7_flows 8 = .ok (.istore_n 3, 1) := dk_62 (dk_at dksX7_flows_0 8 rfl rfl)
theorem dX7_flows_9 : decode cX7_flows 9 = .ok (.iload_n 2, 1) := dk_28 (dk_at dksX7_flows_0 9 rfl rfl)
theorem dX7_flows_10 : decode cX7_flows 10 = .ok (.iload_n 3, 1) := dk_29 (dk_at dksX7_flows_0 10 rfl rfl)
theorem dX7_flows_11 : decode cX7_flows 11 = .ok (.if_icmp .eq 184, 3) := dk_159 0 184 (dk_at dksX7_flows_0 11 rfl rfl)
theorem dX7_flows_14 : decode cX7_flows 14 = .ok (.iload_n 2, 1) := dk_28 (dk_at dksX7_flows_0 14 rfl rfl)
theorem dX7_flows_15 : decode cX7_flows 15 = .ok (.iload_n 1, 1) := dk_27 (dk_at dksX7_flows_0 15 rfl rfl)
theorem dX7_flows_16 : decode cX7_flows 16 = .ok (.invokestatic 99, 3) := dk_184 0 99 (dk_at dksX7_flows_0 16 rfl rfl)
theorem dX7_flows_19 : decode cX7_flows 19 = .ok (.ifCond .ne 176, 3) := dk_154 0 176 (dk_at dksX7_flows_0 19 rfl rfl)
theorem dX7_flows_22 : decode cX7_flows 22 = .ok (.iload_n 2, 1) := dk_28 (dk_at dksX7_flows_0 22 rfl rfl)
theorem dX7_flows_23 : decode cX7_flows 23 = .ok (.istore_n 3, 1) := dk_62 (dk_at dksX7_flows_0 23 rfl rfl)
theorem dX7_flows_24 : decode cX7_flows 24 = .ok (.iconst 0, 1) := dk_3 (dk_at dksX7_flows_1 0 rfl rfl)
theorem dX7_flows_25 : decode cX7_flows 25 = .ok (.istore 4, 2) := dk_54 4 (dk_at dksX7_flows_1 1 rfl rfl)
theorem dX7_flows_27 : decode cX7_flows 27 = .ok (.iload 4, 2) := dk_21 4 (dk_at dksX7_flows_1 3 rfl rfl)
theorem dX7_flows_29 : decode cX7_flows 29 = .ok (.aload_n 0, 1) := dk_42 (dk_at dksX7_flows_1 5 rfl rfl)
theorem dX7_flows_30 : decode cX7_flows 30 = .ok (.invokevirtual 88, 3) := dk_182 0 88 (dk_at dksX7_flows_1 6 rfl rfl)
theorem dX7_flows_33 : decode cX7_flows 33 = .ok (.if_icmp .ge 159, 3) := dk_162 0 159 (dk_at dksX7_flows_1 9 rfl rfl)
theorem dX7_flows_36 : decode cX7_flows 36 = .ok (.aload_n 0, 1) := dk_42 (dk_at dksX7_flows_1 12 rfl rfl)
theorem dX7_flows_37 : decode cX7_flows 37 = .ok (.iload 4, 2) := dk_21 4 (dk_at dksX7_flows_1 13 rfl rfl)
theorem dX7_flows_39 : decode cX7_flows 39 = .ok (.invokevirtual 91, 3) := dk_182 0 91 (dk_at dksX7_flows_1 15 rfl rfl)
theorem dX7_flows_42 : decode cX7_flows 42 = .ok (.ifCond .ne 6, 3) := dk_154 0 6 (dk_at dksX7_flows_1 18 rfl rfl)
theorem dX7_flows_45 : decode cX7_flows 45 = .ok (.goto 141, 3) := dk_167 0 141 (dk_at dksX7_flows_1 21 rfl rfl)
theorem dX7_flows_48 : decode cX7_flows 48 = .ok (.aload_n 0, 1) := dk_42 (dk_at dksX7_flows_2 0 rfl rfl)
theorem dX7_flows_49 : decode cX7_flows 49 = .ok (.getfield 60, 3) := dk_180 0 60 (dk_at dksX7_flows_2 1 rfl rfl)
theorem dX7_flows_52 : decode cX7_flows 52 = .ok (.iload 4, 2) := dk_21 4 (dk_at dksX7_flows_2 4 rfl rfl)
theorem dX7_flows_54 : decode cX7_flows 54 = .ok (.iaload, 1) := dk_46 (dk_at dksX7_flows_2 6 rfl rfl)
theorem dX7_flows_55 : decode cX7_flows 55 = .ok (.ifCond .ne 33, 3) := dk_154 0 33 (dk_at dksX7_flows_2 7 rfl rfl)
theorem dX7_flows_58 : decode cX7_flows 58 = .ok (.iload_n 2, 1) := dk_28 (dk_at dksX7_flows_2 10 rfl rfl)
theorem dX7_flows_59 : decode cX7_flows 59 = .ok (.aload_n 0, 1) := dk_42 (dk_at dksX7_flows_2 11 rfl rfl)
theorem dX7_flows_60 : decode cX7_flows 60 = .ok (.iload 4, 2) := dk_21 4 (dk_at dksX7_flows_2 12 rfl rfl)
theorem dX7_flows_62 : decode cX7_flows 62 = .ok (.invokevirtual 95, 3) := dk_182 0 95 (dk_at dksX7_flows_2 14 rfl rfl)
theorem dX7_flows_65 : decode cX7_flows 65 = .ok (.invokestatic 99, 3) := dk_184 0 99 (dk_at dksX7_flows_2 17 rfl rfl)
theorem dX7_flows_68 : decode cX7_flows 68 = .ok (.ifCond .eq 20, 3) := dk_153 0 20 (dk_at dksX7_flows_2 20 rfl rfl)
theorem dX7_flows_71 : decode cX7_flows 71 = .ok (.iload_n 2, 1) := dk_28 (dk_at dksX7_flows_2 23 rfl rfl)
theorem dX7_flows_72 : decode cX7_flows 72 = .ok (.aload_n 0, 1) := dk_42 (dk_at dksX7_flows_3 0 rfl rfl)
theorem dX7_flows_73 : decode cX7_flows 73 = .ok (.iload 4, 2) := dk_21 4 (dk_at dksX7_flows_3 1 rfl rfl)
theorem dX7_flows_75 : decode cX7_flows 75 = .ok (.invokevirtual 103, 3) := dk_182 0 103 (dk_at dksX7_flows_3 3 rfl rfl)
theorem dX7_flows_78 : decode cX7_flows 78 = .ok (.invokestatic 99, 3) := dk_184 0 99 (dk_at dksX7_flows_3 6 rfl rfl)
theorem dX7_flows_81 : decode cX7_flows 81 = .ok (.ifCond .ne 7, 3) := dk_154 0 7 (dk_at dksX7_flows_3 9 rfl rfl)
theorem dX7_flows_84 : decode cX7_flows 84 = .ok (.iconst 1, 1) := dk_4 (dk_at dksX7_flows_3 12 rfl rfl)
theorem dX7_flows_85 : decode cX7_flows 85 = .ok (.goto 4, 3) := dk_167 0 4 (dk_at dksX7_flows_3 13 rfl rfl)
theorem dX7_flows_88 : decode cX7_flows 88 = .ok (.iconst 0, 1) := dk_3 (dk_at dksX7_flows_3 16 rfl rfl)
theorem dX7_flows_89 : decode cX7_flows 89 = .ok (.istore 5, 2) := dk_54 5 (dk_at dksX7_flows_3 17 rfl rfl)
theorem dX7_flows_91 : decode cX7_flows 91 = .ok (.aload_n 0, 1) := dk_42 (dk_at dksX7_flows_3 19 rfl rfl)
theorem dX7_flows_92 : decode cX7_flows 92 = .ok (.getfield 60, 3) := dk_180 0 60 (dk_at dksX7_flows_3 20 rfl rfl)
theorem dX7_flows_95 : decode cX7_flows 95 = .ok (.iload 4, 2) := dk_21 4 (dk_at dksX7_flows_4 0 rfl rfl)
theorem dX7_flows_97 : decode cX7_flows 97 = .ok (.iaload, 1) := dk_46 (dk_at dksX7_flows_4 2 rfl rfl)
theorem dX7_flows_98 : decode cX7_flows 98 = .ok (.iconst 1, 1) := dk_4 (dk_at dksX7_flows_4 3 rfl rfl)
theorem dX7_flows_99 : decode cX7_flows 99 = .ok (.if_icmp .ne 33, 3) := dk_160 0 33 (dk_at dksX7_flows_4 4 rfl rfl)
theorem dX7_flows_102 : decode cX7_flows 102 = .ok (.iload_n 2, 1) := dk_28 (dk_at dksX7_flows_4 7 rfl rfl)
theorem dX7_flows_103 : decode cX7_flows 103 = .ok (.aload_n 0, 1) := dk_42 (dk_at dksX7_flows_4 8 rfl rfl)
theorem dX7_flows_104 : decode cX7_flows 104 = .ok (.iload 4, 2) := dk_21 4 (dk_at dksX7_flows_4 9 rfl rfl)
theorem dX7_flows_106 : decode cX7_flows 106 = .ok (.invokevirtual 103, 3) := dk_182 0 103 (dk_at dksX7_flows_4 11 rfl rfl)
theorem dX7_flows_109 : decode cX7_flows 109 = .ok (.invokestatic 99, 3) := dk_184 0 99 (dk_at dksX7_flows_4 14 rfl rfl)
theorem dX7_flows_112 : decode cX7_flows 112 = .ok (.ifCond .eq 20, 3) := dk_153 0 20 (dk_at dksX7_flows_4 17 rfl rfl)
theorem dX7_flows_115 : decode cX7_flows 115 = .ok (.iload_n 2, 1) := dk_28 (dk_at dksX7_flows_4 20 rfl rfl)
theorem dX7_flows_116 : decode cX7_flows 116 = .ok (.aload_n 0, 1) := dk_42 (dk_at dksX7_flows_4 21 rfl rfl)
theorem dX7_flows_117 : decode cX7_flows 117 = .ok (.iload 4, 2) := dk_21 4 (dk_at dksX7_flows_4 22 rfl rfl)
theorem dX7_flows_119 : decode cX7_flows 119 = .ok (.invokevirtual 95, 3) := dk_182 0 95 (dk_at dksX7_flows_5 0 rfl rfl)
theorem dX7_flows_122 : decode cX7_flows 122 = .ok (.invokestatic 99, 3) := dk_184 0 99 (dk_at dksX7_flows_5 3 rfl rfl)
theorem dX7_flows_125 : decode cX7_flows 125 = .ok (.ifCond .ne 7, 3) := dk_154 0 7 (dk_at dksX7_flows_5 6 rfl rfl)
theorem dX7_flows_128 : decode cX7_flows 128 = .ok (.iconst 1, 1) := dk_4 (dk_at dksX7_flows_5 9 rfl rfl)
theorem dX7_flows_129 : decode cX7_flows 129 = .ok (.goto 4, 3) := dk_167 0 4 (dk_at dksX7_flows_5 10 rfl rfl)
theorem dX7_flows_132 : decode cX7_flows 132 = .ok (.iconst 0, 1) := dk_3 (dk_at dksX7_flows_5 13 rfl rfl)
theorem dX7_flows_133 : decode cX7_flows 133 = .ok (.istore 6, 2) := dk_54 6 (dk_at dksX7_flows_5 14 rfl rfl)
theorem dX7_flows_135 : decode cX7_flows 135 = .ok (.iload 5, 2) := dk_21 5 (dk_at dksX7_flows_5 16 rfl rfl)
theorem dX7_flows_137 : decode cX7_flows 137 = .ok (.ifCond .ne 11, 3) := dk_154 0 11 (dk_at dksX7_flows_5 18 rfl rfl)
theorem dX7_flows_140 : decode cX7_flows 140 = .ok (.iload 6, 2) := dk_21 6 (dk_at dksX7_flows_5 21 rfl rfl)
theorem dX7_flows_142 : decode cX7_flows 142 = .ok (.ifCond .ne 6, 3) := dk_154 0 6 (dk_at dksX7_flows_6 0 rfl rfl)
theorem dX7_flows_145 : decode cX7_flows 145 = .ok (.goto 41, 3) := dk_167 0 41 (dk_at dksX7_flows_6 3 rfl rfl)
theorem dX7_flows_148 : decode cX7_flows 148 = .ok (.iload 5, 2) := dk_21 5 (dk_at dksX7_flows_6 6 rfl rfl)
theorem dX7_flows_150 : decode cX7_flows 150 = .ok (.ifCond .eq 12, 3) := dk_153 0 12 (dk_at dksX7_flows_6 8 rfl rfl)
theorem dX7_flows_153 : decode cX7_flows 153 = .ok (.aload_n 0, 1) := dk_42 (dk_at dksX7_flows_6 11 rfl rfl)
theorem dX7_flows_154 : decode cX7_flows 154 = .ok (.iload 4, 2) := dk_21 4 (dk_at dksX7_flows_6 12 rfl rfl)
theorem dX7_flows_156 : decode cX7_flows 156 = .ok (.invokevirtual 103, 3) := dk_182 0 103 (dk_at dksX7_flows_6 14 rfl rfl)
theorem dX7_flows_159 : decode cX7_flows 159 = .ok (.goto 9, 3) := dk_167 0 9 (dk_at dksX7_flows_6 17 rfl rfl)
theorem dX7_flows_162 : decode cX7_flows 162 = .ok (.aload_n 0, 1) := dk_42 (dk_at dksX7_flows_6 20 rfl rfl)
theorem dX7_flows_163 : decode cX7_flows 163 = .ok (.iload 4, 2) := dk_21 4 (dk_at dksX7_flows_6 21 rfl rfl)
theorem dX7_flows_165 : decode cX7_flows 165 = .ok (.invokevirtual 95, 3) := dk_182 0 95 (dk_at dksX7_flows_7 0 rfl rfl)
theorem dX7_flows_168 : decode cX7_flows 168 = .ok (.istore 7, 2) := dk_54 7 (dk_at dksX7_flows_7 3 rfl rfl)
theorem dX7_flows_170 : decode cX7_flows 170 = .ok (.iload_n 2, 1) := dk_28 (dk_at dksX7_flows_7 5 rfl rfl)
theorem dX7_flows_171 : decode cX7_flows 171 = .ok (.iconst 1, 1) := dk_4 (dk_at dksX7_flows_7 6 rfl rfl)
theorem dX7_flows_172 : decode cX7_flows 172 = .ok (.iload 7, 2) := dk_21 7 (dk_at dksX7_flows_7 7 rfl rfl)
theorem dX7_flows_174 : decode cX7_flows 174 = .ok (.ishl, 1) := dk_120 (dk_at dksX7_flows_7 9 rfl rfl)
theorem dX7_flows_175 : decode cX7_flows 175 = .ok (.ior, 1) := dk_128 (dk_at dksX7_flows_7 10 rfl rfl)
theorem dX7_flows_176 : decode cX7_flows 176 = .ok (.istore_n 2, 1) := dk_61 (dk_at dksX7_flows_7 11 rfl rfl)
theorem dX7_flows_177 : decode cX7_flows 177 = .ok (.aload_n 0, 1) := dk_42 (dk_at dksX7_flows_7 12 rfl rfl)
theorem dX7_flows_178 : decode cX7_flows 178 = .ok (.getfield 63, 3) := dk_180 0 63 (dk_at dksX7_flows_7 13 rfl rfl)
theorem dX7_flows_181 : decode cX7_flows 181 = .ok (.iload 7, 2) := dk_21 7 (dk_at dksX7_flows_7 16 rfl rfl)
theorem dX7_flows_183 : decode cX7_flows 183 = .ok (.iload 4, 2) := dk_21 4 (dk_at dksX7_flows_7 18 rfl rfl)
theorem dX7_flows_185 : decode cX7_flows 185 = .ok (.iastore, 1) := dk_79 (dk_at dksX7_flows_7 20 rfl rfl)
theorem dX7_flows_186 : decode cX7_flows 186 = .ok (.iinc 4 1, 3) := dk_132 4 1 (dk_at dksX7_flows_7 21 rfl rfl)
theorem dX7_flows_189 : decode cX7_flows 189 = .ok (.goto (-162), 3) := dk_167 255 94 (dk_at dksX7_flows_8 0 rfl rfl)
theorem dX7_flows_192 : decode cX7_flows 192 = .ok (.goto (-183), 3) := dk_167 255 73 (dk_at dksX7_flows_8 3 rfl rfl)
theorem dX7_flows_195 : decode cX7_flows 195 = .ok (.iload_n 2, 1) := dk_28 (dk_at dksX7_flows_8 6 rfl rfl)
theorem dX7_flows_196 : decode cX7_flows 196 = .ok (.iload_n 1, 1) := dk_27 (dk_at dksX7_flows_8 7 rfl rfl)
theorem dX7_flows_197 : decode cX7_flows 197 = .ok (.invokestatic 99, 3) := dk_184 0 99 (dk_at dksX7_flows_8 8 rfl rfl)
theorem dX7_flows_200 : decode cX7_flows 200 = .ok (.ifCond .ne 5, 3) := dk_154 0 5 (dk_at dksX7_flows_8 11 rfl rfl)
theorem dX7_flows_203 : decode cX7_flows 203 = .ok (.iconst 0, 1) := dk_3 (dk_at dksX7_flows_8 14 rfl rfl)
theorem dX7_flows_204 : decode cX7_flows 204 = .ok (.ireturn, 1) := dk_172 (dk_at dksX7_flows_8 15 rfl rfl)
theorem dX7_flows_205 : decode cX7_flows 205 = .ok (.iload_n 1, 1) := dk_27 (dk_at dksX7_flows_8 16 rfl rfl)
theorem dX7_flows_206 : decode cX7_flows 206 = .ok (.istore 4, 2) := dk_54 4 (dk_at dksX7_flows_8 17 rfl rfl)
theorem dX7_flows_208 : decode cX7_flows 208 = .ok (.iload 4, 2) := dk_21 4 (dk_at dksX7_flows_8 19 rfl rfl)
theorem dX7_flows_210 : decode cX7_flows 210 = .ok (.aload_n 0, 1) := dk_42 (dk_at dksX7_flows_8 21 rfl rfl)
theorem dX7_flows_211 : decode cX7_flows 211 = .ok (.invokevirtual 109, 3) := dk_182 0 109 (dk_at dksX7_flows_9 0 rfl rfl)
theorem dX7_flows_214 : decode cX7_flows 214 = .ok (.if_icmp .eq 82, 3) := dk_159 0 82 (dk_at dksX7_flows_9 3 rfl rfl)
theorem dX7_flows_217 : decode cX7_flows 217 = .ok (.aload_n 0, 1) := dk_42 (dk_at dksX7_flows_9 6 rfl rfl)
theorem dX7_flows_218 : decode cX7_flows 218 = .ok (.getfield 63, 3) := dk_180 0 63 (dk_at dksX7_flows_9 7 rfl rfl)
theorem dX7_flows_221 : decode cX7_flows 221 = .ok (.iload 4, 2) := dk_21 4 (dk_at dksX7_flows_9 10 rfl rfl)
theorem dX7_flows_223 : decode cX7_flows 223 = .ok (.iaload, 1) := dk_46 (dk_at dksX7_flows_9 12 rfl rfl)
theorem dX7_flows_224 : decode cX7_flows 224 = .ok (.istore 5, 2) := dk_54 5 (dk_at dksX7_flows_9 13 rfl rfl)
theorem dX7_flows_226 : decode cX7_flows 226 = .ok (.aload_n 0, 1) := dk_42 (dk_at dksX7_flows_9 15 rfl rfl)
theorem dX7_flows_227 : decode cX7_flows 227 = .ok (.iload 5, 2) := dk_21 5 (dk_at dksX7_flows_9 16 rfl rfl)
theorem dX7_flows_229 : decode cX7_flows 229 = .ok (.invokevirtual 103, 3) := dk_182 0 103 (dk_at dksX7_flows_9 18 rfl rfl)
theorem dX7_flows_232 : decode cX7_flows 232 = .ok (.iload 4, 2) := dk_21 4 (dk_at dksX7_flows_9 21 rfl rfl)
theorem dX7_flows_234 : decode cX7_flows 234 = .ok (.if_icmp .ne 17, 3) := dk_160 0 17 (dk_at dksX7_flows_10 0 rfl rfl)
theorem dX7_flows_237 : decode cX7_flows 237 = .ok (.aload_n 0, 1) := dk_42 (dk_at dksX7_flows_10 3 rfl rfl)
theorem dX7_flows_238 : decode cX7_flows 238 = .ok (.getfield 60, 3) := dk_180 0 60 (dk_at dksX7_flows_10 4 rfl rfl)
theorem dX7_flows_241 : decode cX7_flows 241 = .ok (.iload 5, 2) := dk_21 5 (dk_at dksX7_flows_10 7 rfl rfl)
theorem dX7_flows_243 : decode cX7_flows 243 = .ok (.iaload, 1) := dk_46 (dk_at dksX7_flows_10 9 rfl rfl)
theorem dX7_flows_244 : decode cX7_flows 244 = .ok (.ifCond .ne 7, 3) := dk_154 0 7 (dk_at dksX7_flows_10 10 rfl rfl)
theorem dX7_flows_247 : decode cX7_flows 247 = .ok (.iconst 1, 1) := dk_4 (dk_at dksX7_flows_10 13 rfl rfl)
theorem dX7_flows_248 : decode cX7_flows 248 = .ok (.goto 4, 3) := dk_167 0 4 (dk_at dksX7_flows_10 14 rfl rfl)
theorem dX7_flows_251 : decode cX7_flows 251 = .ok (.iconst 0, 1) := dk_3 (dk_at dksX7_flows_10 17 rfl rfl)
theorem dX7_flows_252 : decode cX7_flows 252 = .ok (.istore 6, 2) := dk_54 6 (dk_at dksX7_flows_10 18 rfl rfl)
theorem dX7_flows_254 : decode cX7_flows 254 = .ok (.aload_n 0, 1) := dk_42 (dk_at dksX7_flows_10 20 rfl rfl)
theorem dX7_flows_255 : decode cX7_flows 255 = .ok (.getfield 60, 3) := dk_180 0 60 (dk_at dksX7_flows_10 21 rfl rfl)
theorem dX7_flows_258 : decode cX7_flows 258 = .ok (.iload 5, 2) := dk_21 5 (dk_at dksX7_flows_11 0 rfl rfl)
theorem dX7_flows_260 : decode cX7_flows 260 = .ok (.iload 6, 2) := dk_21 6 (dk_at dksX7_flows_11 2 rfl rfl)
theorem dX7_flows_262 : decode cX7_flows 262 = .ok (.ifCond .eq 7, 3) := dk_153 0 7 (dk_at dksX7_flows_11 4 rfl rfl)
theorem dX7_flows_265 : decode cX7_flows 265 = .ok (.iconst 1, 1) := dk_4 (dk_at dksX7_flows_11 7 rfl rfl)
theorem dX7_flows_266 : decode cX7_flows 266 = .ok (.goto 4, 3) := dk_167 0 4 (dk_at dksX7_flows_11 8 rfl rfl)
theorem dX7_flows_269 : decode cX7_flows 269 = .ok (.iconst 0, 1) := dk_3 (dk_at dksX7_flows_11 11 rfl rfl)
theorem dX7_flows_270 : decode cX7_flows 270 = .ok (.iastore, 1) := dk_79 (dk_at dksX7_flows_11 12 rfl rfl)
theorem dX7_flows_271 : decode cX7_flows 271 = .ok (.iload 6, 2) := dk_21 6 (dk_at dksX7_flows_11 13 rfl rfl)
theorem dX7_flows_273 : decode cX7_flows 273 = .ok (.ifCond .eq 12, 3) := dk_153 0 12 (dk_at dksX7_flows_11 15 rfl rfl)
theorem dX7_flows_276 : decode cX7_flows 276 = .ok (.aload_n 0, 1) := dk_42 (dk_at dksX7_flows_11 18 rfl rfl)
theorem dX7_flows_277 : decode cX7_flows 277 = .ok (.iload 5, 2) := dk_21 5 (dk_at dksX7_flows_11 19 rfl rfl)
theorem dX7_flows_279 : decode cX7_flows 279 = .ok (.invokevirtual 95, 3) := dk_182 0 95 (dk_at dksX7_flows_11 21 rfl rfl)
theorem dX7_flows_282 : decode cX7_flows 282 = .ok (.goto 9, 3) := dk_167 0 9 (dk_at dksX7_flows_12 0 rfl rfl)
theorem dX7_flows_285 : decode cX7_flows 285 = .ok (.aload_n 0, 1) := dk_42 (dk_at dksX7_flows_12 3 rfl rfl)
theorem dX7_flows_286 : decode cX7_flows 286 = .ok (.iload 5, 2) := dk_21 5 (dk_at dksX7_flows_12 4 rfl rfl)
theorem dX7_flows_288 : decode cX7_flows 288 = .ok (.invokevirtual 103, 3) := dk_182 0 103 (dk_at dksX7_flows_12 6 rfl rfl)
theorem dX7_flows_291 : decode cX7_flows 291 = .ok (.istore 4, 2) := dk_54 4 (dk_at dksX7_flows_12 9 rfl rfl)
theorem dX7_flows_293 : decode cX7_flows 293 = .ok (.goto (-85), 3) := dk_167 255 171 (dk_at dksX7_flows_12 11 rfl rfl)
theorem dX7_flows_296 : decode cX7_flows 296 = .ok (.iconst 1, 1) := dk_4 (dk_at dksX7_flows_12 14 rfl rfl)
theorem dX7_flows_297 : decode cX7_flows 297 = .ok (.ireturn, 1) := dk_172 (dk_at dksX7_flows_12 15 rfl rfl)
abbrev cX7_wallOf : ByteArray := prog_11_method_71_code
def yX7_wallOf : MethodName := ⟨RX7, "wallOf", "(I)I"⟩
def dkwX7_wallOf_6 : List UInt8 := [132, 4, 1, 167, 255, 201, 29, 172]
abbrev dktX7_wallOf_6 : List UInt8 := dkwX7_wallOf_6 ++ []
def dkwX7_wallOf_5 : List UInt8 := [167, 0, 23, 42, 21, 4, 2, 182, 0, 116, 27, 184, 0, 99, 154, 0, 9, 21, 4, 184, 0, 123, 62]
abbrev dktX7_wallOf_5 : List UInt8 := dkwX7_wallOf_5 ++ dktX7_wallOf_6
def dkwX7_wallOf_4 : List UInt8 := [120, 162, 0, 50, 21, 4, 28, 2, 130, 126, 154, 0, 35, 21, 4, 184, 0, 123, 29, 161, 0, 6]
abbrev dktX7_wallOf_4 : List UInt8 := dkwX7_wallOf_4 ++ dktX7_wallOf_5
def dkwX7_wallOf_3 : List UInt8 := [126, 4, 42, 182, 0, 109, 120, 2, 130, 126, 61, 16, 16, 62, 3, 54, 4, 21, 4, 4, 42, 182, 0, 80]
abbrev dktX7_wallOf_3 : List UInt8 := dkwX7_wallOf_3 ++ dktX7_wallOf_4
def dkwX7_wallOf_2 : List UInt8 := [160, 0, 5, 2, 172, 132, 2, 1, 167, 255, 214, 4, 42, 182, 0, 80, 120, 4, 100, 4, 27, 120, 2, 130]
abbrev dktX7_wallOf_2 : List UInt8 := dkwX7_wallOf_2 ++ dktX7_wallOf_3
def dkwX7_wallOf_1 : List UInt8 := [182, 0, 91, 153, 0, 26, 42, 28, 182, 0, 95, 42, 182, 0, 109, 160, 0, 14, 42, 28, 182, 0, 103, 27]
abbrev dktX7_wallOf_1 : List UInt8 := dkwX7_wallOf_1 ++ dktX7_wallOf_2
def dkwX7_wallOf_0 : List UInt8 := [27, 42, 182, 0, 109, 160, 0, 5, 2, 172, 3, 61, 28, 42, 182, 0, 88, 162, 0, 40, 42, 28]
abbrev dktX7_wallOf_0 : List UInt8 := dkwX7_wallOf_0 ++ dktX7_wallOf_1
theorem dksX7_wallOf_0 : cX7_wallOf.data.toList.drop 0 = dktX7_wallOf_0 := by decide +kernel
theorem dksX7_wallOf_1 : cX7_wallOf.data.toList.drop 22 = dktX7_wallOf_1 := dk_seg dksX7_wallOf_0 22 rfl rfl
theorem dksX7_wallOf_2 : cX7_wallOf.data.toList.drop 46 = dktX7_wallOf_2 := dk_seg dksX7_wallOf_1 24 rfl rfl
theorem dksX7_wallOf_3 : cX7_wallOf.data.toList.drop 70 = dktX7_wallOf_3 := dk_seg dksX7_wallOf_2 24 rfl rfl
theorem dksX7_wallOf_4 : cX7_wallOf.data.toList.drop 94 = dktX7_wallOf_4 := dk_seg dksX7_wallOf_3 24 rfl rfl
theorem dksX7_wallOf_5 : cX7_wallOf.data.toList.drop 116 = dktX7_wallOf_5 := dk_seg dksX7_wallOf_4 22 rfl rfl
theorem dksX7_wallOf_6 : cX7_wallOf.data.toList.drop 139 = dktX7_wallOf_6 := dk_seg dksX7_wallOf_5 23 rfl rfl
theorem dX7_wallOf_0 : decode cX7_wallOf 0 = .ok (.iload_n 1, 1) := dk_27 (dk_at dksX7_wallOf_0 0 rfl rfl)
theorem dX7_wallOf_1 : decode cX7_wallOf 1 = .ok (.aload_n 0, 1) := dk_42 (dk_at dksX7_wallOf_0 1 rfl rfl)
theorem dX7_wallOf_2 : decode cX7_wallOf 2 = .ok (.invokevirtual 109, 3) := dk_182 0 109 (dk_at dksX7_wallOf_0 2 rfl rfl)
theorem dX7_wallOf_5 : decode cX7_wallOf 5 = .ok (.if_icmp .ne 5, 3) := dk_160 0 5 (dk_at dksX7_wallOf_0 5 rfl rfl)
theorem dX7_wallOf_8 : decode cX7_wallOf 8 = .ok (.iconst (-1), 1) := dk_2 (dk_at dksX7_wallOf_0 8 rfl rfl)
theorem dX7_wallOf_9 : decode cX7_wallOf 9 = .ok (.ireturn, 1) := dk_172 (dk_at dksX7_wallOf_0 9 rfl rfl)
theorem dX7_wallOf_10 : decode cX7_wallOf 10 = .ok (.iconst 0, 1) := dk_3 (dk_at dksX7_wallOf_0 10 rfl rfl)
theorem dX7_wallOf_11 : decode cX7_wallOf 11 = .ok (.istore_n 2, 1) := dk_61 (dk_at dksX7_wallOf_0 11 rfl rfl)
theorem dX7_wallOf_12 : decode cX7_wallOf 12 = .ok (.iload_n 2, 1) := dk_28 (dk_at dksX7_wallOf_0 12 rfl rfl)
theorem dX7_wallOf_13 : decode cX7_wallOf 13 = .ok (.aload_n 0, 1) := dk_42 (dk_at dksX7_wallOf_0 13 rfl rfl)
theorem dX7_wallOf_14 : decode cX7_wallOf 14 = .ok (.invokevirtual 88, 3) := dk_182 0 88 (dk_at dksX7_wallOf_0 14 rfl rfl)
theorem dX7_wallOf_17 : decode cX7_wallOf 17 = .ok (.if_icmp .ge 40, 3) := dk_162 0 40 (dk_at dksX7_wallOf_0 17 rfl rfl)
theorem dX7_wallOf_20 : decode cX7_wallOf 20 = .ok (.aload_n 0, 1) := dk_42 (dk_at dksX7_wallOf_0 20 rfl rfl)
theorem dX7_wallOf_21 : decode cX7_wallOf 21 = .ok (.iload_n 2, 1) := dk_28 (dk_at dksX7_wallOf_0 21 rfl rfl)
theorem dX7_wallOf_22 : decode cX7_wallOf 22 = .ok (.invokevirtual 91, 3) := dk_182 0 91 (dk_at dksX7_wallOf_1 0 rfl rfl)
theorem dX7_wallOf_25 : decode cX7_wallOf 25 = .ok (.ifCond .eq 26, 3) := dk_153 0 26 (dk_at dksX7_wallOf_1 3 rfl rfl)
theorem dX7_wallOf_28 : decode cX7_wallOf 28 = .ok (.aload_n 0, 1) := dk_42 (dk_at dksX7_wallOf_1 6 rfl rfl)
theorem dX7_wallOf_29 : decode cX7_wallOf 29 = .ok (.iload_n 2, 1) := dk_28 (dk_at dksX7_wallOf_1 7 rfl rfl)
theorem dX7_wallOf_30 : decode cX7_wallOf 30 = .ok (.invokevirtual 95, 3) := dk_182 0 95 (dk_at dksX7_wallOf_1 8 rfl rfl)
theorem dX7_wallOf_33 : decode cX7_wallOf 33 = .ok (.aload_n 0, 1) := dk_42 (dk_at dksX7_wallOf_1 11 rfl rfl)
theorem dX7_wallOf_34 : decode cX7_wallOf 34 = .ok (.invokevirtual 109, 3) := dk_182 0 109 (dk_at dksX7_wallOf_1 12 rfl rfl)
theorem dX7_wallOf_37 : decode cX7_wallOf 37 = .ok (.if_icmp .ne 14, 3) := dk_160 0 14 (dk_at dksX7_wallOf_1 15 rfl rfl)
theorem dX7_wallOf_40 : decode cX7_wallOf 40 = .ok (.aload_n 0, 1) := dk_42 (dk_at dksX7_wallOf_1 18 rfl rfl)
theorem dX7_wallOf_41 : decode cX7_wallOf 41 = .ok (.iload_n 2, 1) := dk_28 (dk_at dksX7_wallOf_1 19 rfl rfl)
theorem dX7_wallOf_42 : decode cX7_wallOf 42 = .ok (.invokevirtual 103, 3) := dk_182 0 103 (dk_at dksX7_wallOf_1 20 rfl rfl)
theorem dX7_wallOf_45 : decode cX7_wallOf 45 = .ok (.iload_n 1, 1) := dk_27 (dk_at dksX7_wallOf_1 23 rfl rfl)
theorem dX7_wallOf_46 : decode cX7_wallOf 46 = .ok (.if_icmp .ne 5, 3) := dk_160 0 5 (dk_at dksX7_wallOf_2 0 rfl rfl)
theorem dX7_wallOf_49 : decode cX7_wallOf 49 = .ok (.iconst (-1), 1) := dk_2 (dk_at dksX7_wallOf_2 3 rfl rfl)
theorem dX7_wallOf_50 : decode cX7_wallOf 50 = .ok (.ireturn, 1) := dk_172 (dk_at dksX7_wallOf_2 4 rfl rfl)
theorem dX7_wallOf_51 : decode cX7_wallOf 51 = .ok (.iinc 2 1, 3) := dk_132 2 1 (dk_at dksX7_wallOf_2 5 rfl rfl)
theorem dX7_wallOf_54 : decode cX7_wallOf 54 = .ok (.goto (-42), 3) := dk_167 255 214 (dk_at dksX7_wallOf_2 8 rfl rfl)
theorem dX7_wallOf_57 : decode cX7_wallOf 57 = .ok (.iconst 1, 1) := dk_4 (dk_at dksX7_wallOf_2 11 rfl rfl)
theorem dX7_wallOf_58 : decode cX7_wallOf 58 = .ok (.aload_n 0, 1) := dk_42 (dk_at dksX7_wallOf_2 12 rfl rfl)
theorem dX7_wallOf_59 : decode cX7_wallOf 59 = .ok (.invokevirtual 80, 3) := dk_182 0 80 (dk_at dksX7_wallOf_2 13 rfl rfl)
theorem dX7_wallOf_62 : decode cX7_wallOf 62 = .ok (.ishl, 1) := dk_120 (dk_at dksX7_wallOf_2 16 rfl rfl)
theorem dX7_wallOf_63 : decode cX7_wallOf 63 = .ok (.iconst 1, 1) := dk_4 (dk_at dksX7_wallOf_2 17 rfl rfl)
theorem dX7_wallOf_64 : decode cX7_wallOf 64 = .ok (.isub, 1) := dk_100 (dk_at dksX7_wallOf_2 18 rfl rfl)
theorem dX7_wallOf_65 : decode cX7_wallOf 65 = .ok (.iconst 1, 1) := dk_4 (dk_at dksX7_wallOf_2 19 rfl rfl)
theorem dX7_wallOf_66 : decode cX7_wallOf 66 = .ok (.iload_n 1, 1) := dk_27 (dk_at dksX7_wallOf_2 20 rfl rfl)
theorem dX7_wallOf_67 : decode cX7_wallOf 67 = .ok (.ishl, 1) := dk_120 (dk_at dksX7_wallOf_2 21 rfl rfl)
theorem dX7_wallOf_68 : decode cX7_wallOf 68 = .ok (.iconst (-1), 1) := dk_2 (dk_at dksX7_wallOf_2 22 rfl rfl)
theorem dX7_wallOf_69 : decode cX7_wallOf 69 = .ok (.ixor, 1) := dk_130 (dk_at dksX7_wallOf_2 23 rfl rfl)
theorem dX7_wallOf_70 : decode cX7_wallOf 70 = .ok (.iand, 1) := dk_126 (dk_at dksX7_wallOf_3 0 rfl rfl)
theorem dX7_wallOf_71 : decode cX7_wallOf 71 = .ok (.iconst 1, 1) := dk_4 (dk_at dksX7_wallOf_3 1 rfl rfl)
theorem dX7_wallOf_72 : decode cX7_wallOf 72 = .ok (.aload_n 0, 1) := dk_42 (dk_at dksX7_wallOf_3 2 rfl rfl)
theorem dX7_wallOf_73 : decode cX7_wallOf 73 = .ok (.invokevirtual 109, 3) := dk_182 0 109 (dk_at dksX7_wallOf_3 3 rfl rfl)
theorem dX7_wallOf_76 : decode cX7_wallOf 76 = .ok (.ishl, 1) := dk_120 (dk_at dksX7_wallOf_3 6 rfl rfl)
theorem dX7_wallOf_77 : decode cX7_wallOf 77 = .ok (.iconst (-1), 1) := dk_2 (dk_at dksX7_wallOf_3 7 rfl rfl)
theorem dX7_wallOf_78 : decode cX7_wallOf 78 = .ok (.ixor, 1) := dk_130 (dk_at dksX7_wallOf_3 8 rfl rfl)
theorem dX7_wallOf_79 : decode cX7_wallOf 79 = .ok (.iand, 1) := dk_126 (dk_at dksX7_wallOf_3 9 rfl rfl)
theorem dX7_wallOf_80 : decode cX7_wallOf 80 = .ok (.istore_n 2, 1) := dk_61 (dk_at dksX7_wallOf_3 10 rfl rfl)
theorem dX7_wallOf_81 : decode cX7_wallOf 81 = .ok (.bipush 16, 2) := dk_16 16 (dk_at dksX7_wallOf_3 11 rfl rfl)
theorem dX7_wallOf_83 : decode cX7_wallOf 83 = .ok (.istore_n 3, 1) := dk_62 (dk_at dksX7_wallOf_3 13 rfl rfl)
theorem dX7_wallOf_84 : decode cX7_wallOf 84 = .ok (.iconst 0, 1) := dk_3 (dk_at dksX7_wallOf_3 14 rfl rfl)
theorem dX7_wallOf_85 : decode cX7_wallOf 85 = .ok (.istore 4, 2) := dk_54 4 (dk_at dksX7_wallOf_3 15 rfl rfl)
theorem dX7_wallOf_87 : decode cX7_wallOf 87 = .ok (.iload 4, 2) := dk_21 4 (dk_at dksX7_wallOf_3 17 rfl rfl)
theorem dX7_wallOf_89 : decode cX7_wallOf 89 = .ok (.iconst 1, 1) := dk_4 (dk_at dksX7_wallOf_3 19 rfl rfl)
theorem dX7_wallOf_90 : decode cX7_wallOf 90 = .ok (.aload_n 0, 1) := dk_42 (dk_at dksX7_wallOf_3 20 rfl rfl)
theorem dX7_wallOf_91 : decode cX7_wallOf 91 = .ok (.invokevirtual 80, 3) := dk_182 0 80 (dk_at dksX7_wallOf_3 21 rfl rfl)
theorem dX7_wallOf_94 : decode cX7_wallOf 94 = .ok (.ishl, 1) := dk_120 (dk_at dksX7_wallOf_4 0 rfl rfl)
theorem dX7_wallOf_95 : decode cX7_wallOf 95 = .ok (.if_icmp .ge 50, 3) := dk_162 0 50 (dk_at dksX7_wallOf_4 1 rfl rfl)
theorem dX7_wallOf_98 : decode cX7_wallOf 98 = .ok (.iload 4, 2) := dk_21 4 (dk_at dksX7_wallOf_4 4 rfl rfl)
theorem dX7_wallOf_100 : decode cX7_wallOf 100 = .ok (.iload_n 2, 1) := dk_28 (dk_at dksX7_wallOf_4 6 rfl rfl)
theorem dX7_wallOf_101 : decode cX7_wallOf 101 = .ok (.iconst (-1), 1) := dk_2 (dk_at dksX7_wallOf_4 7 rfl rfl)
theorem dX7_wallOf_102 : decode cX7_wallOf 102 = .ok (.ixor, 1) := dk_130 (dk_at dksX7_wallOf_4 8 rfl rfl)
theorem dX7_wallOf_103 : decode cX7_wallOf 103 = .ok (.iand, 1) := dk_126 (dk_at dksX7_wallOf_4 9 rfl rfl)
theorem dX7_wallOf_104 : decode cX7_wallOf 104 = .ok (.ifCond .ne 35, 3) := dk_154 0 35 (dk_at dksX7_wallOf_4 10 rfl rfl)
theorem dX7_wallOf_107 : decode cX7_wallOf 107 = .ok (.iload 4, 2) := dk_21 4 (dk_at dksX7_wallOf_4 13 rfl rfl)
theorem dX7_wallOf_109 : decode cX7_wallOf 109 = .ok (.invokestatic 123, 3) := dk_184 0 123 (dk_at dksX7_wallOf_4 15 rfl rfl)
theorem dX7_wallOf_112 : decode cX7_wallOf 112 = .ok (.iload_n 3, 1) := dk_29 (dk_at dksX7_wallOf_4 18 rfl rfl)
theorem dX7_wallOf_113 : decode cX7_wallOf 113 = .ok (.if_icmp .lt 6, 3) := dk_161 0 6 (dk_at dksX7_wallOf_4 19 rfl rfl)
theorem dX7_wallOf_116 : decode cX7_wallOf 116 = .ok (.goto 23, 3) := dk_167 0 23 (dk_at dksX7_wallOf_5 0 rfl rfl)
theorem dX7_wallOf_119 : decode cX7_wallOf 119 = .ok (.aload_n 0, 1) := dk_42 (dk_at dksX7_wallOf_5 3 rfl rfl)
theorem dX7_wallOf_120 : decode cX7_wallOf 120 = .ok (.iload 4, 2) := dk_21 4 (dk_at dksX7_wallOf_5 4 rfl rfl)
theorem dX7_wallOf_122 : decode cX7_wallOf 122 = .ok (.iconst (-1), 1) := dk_2 (dk_at dksX7_wallOf_5 6 rfl rfl)
theorem dX7_wallOf_123 : decode cX7_wallOf 123 = .ok (.invokevirtual 116, 3) := dk_182 0 116 (dk_at dksX7_wallOf_5 7 rfl rfl)
theorem dX7_wallOf_126 : decode cX7_wallOf 126 = .ok (.iload_n 1, 1) := dk_27 (dk_at dksX7_wallOf_5 10 rfl rfl)
theorem dX7_wallOf_127 : decode cX7_wallOf 127 = .ok (.invokestatic 99, 3) := dk_184 0 99 (dk_at dksX7_wallOf_5 11 rfl rfl)
theorem dX7_wallOf_130 : decode cX7_wallOf 130 = .ok (.ifCond .ne 9, 3) := dk_154 0 9 (dk_at dksX7_wallOf_5 14 rfl rfl)
theorem dX7_wallOf_133 : decode cX7_wallOf 133 = .ok (.iload 4, 2) := dk_21 4 (dk_at dksX7_wallOf_5 17 rfl rfl)
theorem dX7_wallOf_135 : decode cX7_wallOf 135 = .ok (.invokestatic 123, 3) := dk_184 0 123 (dk_at dksX7_wallOf_5 19 rfl rfl)
theorem dX7_wallOf_138 : decode cX7_wallOf 138 = .ok (.istore_n 3, 1) := dk_62 (dk_at dksX7_wallOf_5 22 rfl rfl)
theorem dX7_wallOf_139 : decode cX7_wallOf 139 = .ok (.iinc 4 1, 3) := dk_132 4 1 (dk_at dksX7_wallOf_6 0 rfl rfl)
theorem dX7_wallOf_142 : decode cX7_wallOf 142 = .ok (.goto (-55), 3) := dk_167 255 201 (dk_at dksX7_wallOf_6 3 rfl rfl)
theorem dX7_wallOf_145 : decode cX7_wallOf 145 = .ok (.iload_n 3, 1) := dk_29 (dk_at dksX7_wallOf_6 6 rfl rfl)
theorem dX7_wallOf_146 : decode cX7_wallOf 146 = .ok (.ireturn, 1) := dk_172 (dk_at dksX7_wallOf_6 7 rfl rfl)
abbrev cX7_feeOf : ByteArray := prog_11_method_72_code
def yX7_feeOf : MethodName := ⟨RX7, "feeOf", "(I)I"⟩
def dkwX7_feeOf_2 : List UInt8 := [132, 3, 1, 167, 255, 217, 28, 172]
abbrev dktX7_feeOf_2 : List UInt8 := dkwX7_feeOf_2 ++ []
def dkwX7_feeOf_1 : List UInt8 := [27, 46, 29, 184, 0, 99, 153, 0, 14, 42, 180, 0, 13, 7, 29, 96, 46, 167, 0, 4, 3, 96, 61]
abbrev dktX7_feeOf_1 : List UInt8 := dkwX7_feeOf_1 ++ dktX7_feeOf_2
def dkwX7_feeOf_0 : List UInt8 := [42, 180, 0, 13, 7, 27, 96, 46, 61, 3, 62, 29, 42, 182, 0, 80, 162, 0, 37, 28, 42, 180, 0, 32]
abbrev dktX7_feeOf_0 : List UInt8 := dkwX7_feeOf_0 ++ dktX7_feeOf_1
theorem dksX7_feeOf_0 : cX7_feeOf.data.toList.drop 0 = dktX7_feeOf_0 := by decide +kernel
theorem dksX7_feeOf_1 : cX7_feeOf.data.toList.drop 24 = dktX7_feeOf_1 := dk_seg dksX7_feeOf_0 24 rfl rfl
theorem dksX7_feeOf_2 : cX7_feeOf.data.toList.drop 47 = dktX7_feeOf_2 := dk_seg dksX7_feeOf_1 23 rfl rfl
theorem dX7_feeOf_0 : decode cX7_feeOf 0 = .ok (.aload_n 0, 1) := dk_42 (dk_at dksX7_feeOf_0 0 rfl rfl)
theorem dX7_feeOf_1 : decode cX7_feeOf 1 = .ok (.getfield 13, 3) := dk_180 0 13 (dk_at dksX7_feeOf_0 1 rfl rfl)
theorem dX7_feeOf_4 : decode cX7_feeOf 4 = .ok (.iconst 4, 1) := dk_7 (dk_at dksX7_feeOf_0 4 rfl rfl)
theorem dX7_feeOf_5 : decode cX7_feeOf 5 = .ok (.iload_n 1, 1) := dk_27 (dk_at dksX7_feeOf_0 5 rfl rfl)
theorem dX7_feeOf_6 : decode cX7_feeOf 6 = .ok (.iadd, 1) := dk_96 (dk_at dksX7_feeOf_0 6 rfl rfl)
theorem dX7_feeOf_7 : decode cX7_feeOf 7 = .ok (.iaload, 1) := dk_46 (dk_at dksX7_feeOf_0 7 rfl rfl)
theorem dX7_feeOf_8 : decode cX7_feeOf 8 = .ok (.istore_n 2, 1) := dk_61 (dk_at dksX7_feeOf_0 8 rfl rfl)
theorem dX7_feeOf_9 : decode cX7_feeOf 9 = .ok (.iconst 0, 1) := dk_3 (dk_at dksX7_feeOf_0 9 rfl rfl)
theorem dX7_feeOf_10 : decode cX7_feeOf 10 = .ok (.istore_n 3, 1) := dk_62 (dk_at dksX7_feeOf_0 10 rfl rfl)
theorem dX7_feeOf_11 : decode cX7_feeOf 11 = .ok (.iload_n 3, 1) := dk_29 (dk_at dksX7_feeOf_0 11 rfl rfl)
theorem dX7_feeOf_12 : decode cX7_feeOf 12 = .ok (.aload_n 0, 1) := dk_42 (dk_at dksX7_feeOf_0 12 rfl rfl)
theorem dX7_feeOf_13 : decode cX7_feeOf 13 = .ok (.invokevirtual 80, 3) := dk_182 0 80 (dk_at dksX7_feeOf_0 13 rfl rfl)
theorem dX7_feeOf_16 : decode cX7_feeOf 16 = .ok (.if_icmp .ge 37, 3) := dk_162 0 37 (dk_at dksX7_feeOf_0 16 rfl rfl)
theorem dX7_feeOf_19 : decode cX7_feeOf 19 = .ok (.iload_n 2, 1) := dk_28 (dk_at dksX7_feeOf_0 19 rfl rfl)
theorem dX7_feeOf_20 : decode cX7_feeOf 20 = .ok (.aload_n 0, 1) := dk_42 (dk_at dksX7_feeOf_0 20 rfl rfl)
theorem dX7_feeOf_21 : decode cX7_feeOf 21 = .ok (.getfield 32, 3) := dk_180 0 32 (dk_at dksX7_feeOf_0 21 rfl rfl)
theorem dX7_feeOf_24 : decode cX7_feeOf 24 = .ok (.iload_n 1, 1) := dk_27 (dk_at dksX7_feeOf_1 0 rfl rfl)
theorem dX7_feeOf_25 : decode cX7_feeOf 25 = .ok (.iaload, 1) := dk_46 (dk_at dksX7_feeOf_1 1 rfl rfl)
theorem dX7_feeOf_26 : decode cX7_feeOf 26 = .ok (.iload_n 3, 1) := dk_29 (dk_at dksX7_feeOf_1 2 rfl rfl)
theorem dX7_feeOf_27 : decode cX7_feeOf 27 = .ok (.invokestatic 99, 3) := dk_184 0 99 (dk_at dksX7_feeOf_1 3 rfl rfl)
theorem dX7_feeOf_30 : decode cX7_feeOf 30 = .ok (.ifCond .eq 14, 3) := dk_153 0 14 (dk_at dksX7_feeOf_1 6 rfl rfl)
theorem dX7_feeOf_33 : decode cX7_feeOf 33 = .ok (.aload_n 0, 1) := dk_42 (dk_at dksX7_feeOf_1 9 rfl rfl)
theorem dX7_feeOf_34 : decode cX7_feeOf 34 = .ok (.getfield 13, 3) := dk_180 0 13 (dk_at dksX7_feeOf_1 10 rfl rfl)
theorem dX7_feeOf_37 : decode cX7_feeOf 37 = .ok (.iconst 4, 1) := dk_7 (dk_at dksX7_feeOf_1 13 rfl rfl)
theorem dX7_feeOf_38 : decode cX7_feeOf 38 = .ok (.iload_n 3, 1) := dk_29 (dk_at dksX7_feeOf_1 14 rfl rfl)
theorem dX7_feeOf_39 : decode cX7_feeOf 39 = .ok (.iadd, 1) := dk_96 (dk_at dksX7_feeOf_1 15 rfl rfl)
theorem dX7_feeOf_40 : decode cX7_feeOf 40 = .ok (.iaload, 1) := dk_46 (dk_at dksX7_feeOf_1 16 rfl rfl)
theorem dX7_feeOf_41 : decode cX7_feeOf 41 = .ok (.goto 4, 3) := dk_167 0 4 (dk_at dksX7_feeOf_1 17 rfl rfl)
theorem dX7_feeOf_44 : decode cX7_feeOf 44 = .ok (.iconst 0, 1) := dk_3 (dk_at dksX7_feeOf_1 20 rfl rfl)
theorem dX7_feeOf_45 : decode cX7_feeOf 45 = .ok (.iadd, 1) := dk_96 (dk_at dksX7_feeOf_1 21 rfl rfl)
theorem dX7_feeOf_46 : decode cX7_feeOf 46 = .ok (.istore_n 2, 1) := dk_61 (dk_at dksX7_feeOf_1 22 rfl rfl)
theorem dX7_feeOf_47 : decode cX7_feeOf 47 = .ok (.iinc 3 1, 3) := dk_132 3 1 (dk_at dksX7_feeOf_2 0 rfl rfl)
theorem dX7_feeOf_50 : decode cX7_feeOf 50 = .ok (.goto (-39), 3) := dk_167 255 217 (dk_at dksX7_feeOf_2 3 rfl rfl)
theorem dX7_feeOf_53 : decode cX7_feeOf 53 = .ok (.iload_n 2, 1) := dk_28 (dk_at dksX7_feeOf_2 6 rfl rfl)
theorem dX7_feeOf_54 : decode cX7_feeOf 54 = .ok (.ireturn, 1) := dk_172 (dk_at dksX7_feeOf_2 7 rfl rfl)
abbrev cX7_fareOf : ByteArray := prog_11_method_73_code
def yX7_fareOf : MethodName := ⟨RX7, "fareOf", "(I)I"⟩
def dkwX7_fareOf_7 : List UInt8 := [180, 0, 66, 27, 46, 172]
abbrev dktX7_fareOf_7 : List UInt8 := dkwX7_fareOf_7 ++ []
def dkwX7_fareOf_6 : List UInt8 := [180, 0, 66, 42, 29, 182, 0, 103, 21, 4, 79, 4, 61, 132, 3, 1, 167, 255, 149, 167, 255, 138, 42]
abbrev dktX7_fareOf_6 : List UInt8 := dkwX7_fareOf_6 ++ dktX7_fareOf_7
def dkwX7_fareOf_5 : List UInt8 := [2, 159, 0, 21, 42, 180, 0, 66, 42, 29, 182, 0, 103, 46, 21, 4, 163, 0, 6, 167, 0, 17, 42]
abbrev dktX7_fareOf_5 : List UInt8 := dkwX7_fareOf_5 ++ dktX7_fareOf_6
def dkwX7_fareOf_4 : List UInt8 := [180, 0, 13, 7, 42, 29, 182, 0, 103, 96, 46, 96, 54, 4, 42, 180, 0, 66, 42, 29, 182, 0, 103, 46]
abbrev dktX7_fareOf_4 : List UInt8 := dkwX7_fareOf_4 ++ dktX7_fareOf_5
def dkwX7_fareOf_3 : List UInt8 := [42, 29, 182, 0, 95, 46, 2, 160, 0, 6, 167, 0, 74, 42, 180, 0, 66, 42, 29, 182, 0, 95, 46, 42]
abbrev dktX7_fareOf_3 : List UInt8 := dkwX7_fareOf_3 ++ dktX7_fareOf_4
def dkwX7_fareOf_2 : List UInt8 := [3, 61, 3, 62, 29, 42, 182, 0, 88, 162, 0, 105, 42, 29, 182, 0, 91, 153, 0, 91, 42, 180, 0, 66]
abbrev dktX7_fareOf_2 : List UInt8 := dkwX7_fareOf_2 ++ dktX7_fareOf_3
def dkwX7_fareOf_1 : List UInt8 := [180, 0, 13, 7, 28, 96, 46, 167, 0, 4, 2, 79, 132, 2, 1, 167, 255, 219, 4, 61, 28, 153, 0, 120]
abbrev dktX7_fareOf_1 : List UInt8 := dkwX7_fareOf_1 ++ dktX7_fareOf_2
def dkwX7_fareOf_0 : List UInt8 := [3, 61, 28, 42, 182, 0, 80, 162, 0, 35, 42, 180, 0, 66, 28, 28, 42, 182, 0, 109, 160, 0, 14, 42]
abbrev dktX7_fareOf_0 : List UInt8 := dkwX7_fareOf_0 ++ dktX7_fareOf_1
theorem dksX7_fareOf_0 : cX7_fareOf.data.toList.drop 0 = dktX7_fareOf_0 := by decide +kernel
theorem dksX7_fareOf_1 : cX7_fareOf.data.toList.drop 24 = dktX7_fareOf_1 := dk_seg dksX7_fareOf_0 24 rfl rfl
theorem dksX7_fareOf_2 : cX7_fareOf.data.toList.drop 48 = dktX7_fareOf_2 := dk_seg dksX7_fareOf_1 24 rfl rfl
theorem dksX7_fareOf_3 : cX7_fareOf.data.toList.drop 72 = dktX7_fareOf_3 := dk_seg dksX7_fareOf_2 24 rfl rfl
theorem dksX7_fareOf_4 : cX7_fareOf.data.toList.drop 96 = dktX7_fareOf_4 := dk_seg dksX7_fareOf_3 24 rfl rfl
theorem dksX7_fareOf_5 : cX7_fareOf.data.toList.drop 120 = dktX7_fareOf_5 := dk_seg dksX7_fareOf_4 24 rfl rfl
theorem dksX7_fareOf_6 : cX7_fareOf.data.toList.drop 143 = dktX7_fareOf_6 := dk_seg dksX7_fareOf_5 23 rfl rfl
theorem dksX7_fareOf_7 : cX7_fareOf.data.toList.drop 166 = dktX7_fareOf_7 := dk_seg dksX7_fareOf_6 23 rfl rfl
theorem dX7_fareOf_0 : decode cX7_fareOf 0 = .ok (.iconst 0, 1) := dk_3 (dk_at dksX7_fareOf_0 0 rfl rfl)
theorem dX7_fareOf_1 : decode cX7_fareOf 1 = .ok (.istore_n 2, 1) := dk_61 (dk_at dksX7_fareOf_0 1 rfl rfl)
theorem dX7_fareOf_2 : decode cX7_fareOf 2 = .ok (.iload_n 2, 1) := dk_28 (dk_at dksX7_fareOf_0 2 rfl rfl)
theorem dX7_fareOf_3 : decode cX7_fareOf 3 = .ok (.aload_n 0, 1) := dk_42 (dk_at dksX7_fareOf_0 3 rfl rfl)
theorem dX7_fareOf_4 : decode cX7_fareOf 4 = .ok (.invokevirtual 80, 3) := dk_182 0 80 (dk_at dksX7_fareOf_0 4 rfl rfl)
theorem dX7_fareOf_7 : decode cX7_fareOf 7 = .ok (.if_icmp .ge 35, 3) := dk_162 0 35 (dk_at dksX7_fareOf_0 7 rfl rfl)
theorem dX7_fareOf_10 : decode cX7_fareOf 10 = .ok (.aload_n 0, 1) := dk_42 (dk_at dksX7_fareOf_0 10 rfl rfl)
theorem dX7_fareOf_11 : decode cX7_fareOf 11 = .ok (.getfield 66, 3) := dk_180 0 66 (dk_at dksX7_fareOf_0 11 rfl rfl)
theorem dX7_fareOf_14 : decode cX7_fareOf 14 = .ok (.iload_n 2, 1) := dk_28 (dk_at dksX7_fareOf_0 14 rfl rfl)
theorem dX7_fareOf_15 : decode cX7_fareOf 15 = .ok (.iload_n 2, 1) := dk_28 (dk_at dksX7_fareOf_0 15 rfl rfl)
theorem dX7_fareOf_16 : decode cX7_fareOf 16 = .ok (.aload_n 0, 1) := dk_42 (dk_at dksX7_fareOf_0 16 rfl rfl)
theorem dX7_fareOf_17 : decode cX7_fareOf 17 = .ok (.invokevirtual 109, 3) := dk_182 0 109 (dk_at dksX7_fareOf_0 17 rfl rfl)
theorem dX7_fareOf_20 : decode cX7_fareOf 20 = .ok (.if_icmp .ne 14, 3) := dk_160 0 14 (dk_at dksX7_fareOf_0 20 rfl rfl)
theorem dX7_fareOf_23 : decode cX7_fareOf 23 = .ok (.aload_n 0, 1) := dk_42 (dk_at dksX7_fareOf_0 23 rfl rfl)
theorem dX7_fareOf_24 : decode cX7_fareOf 24 = .ok (.getfield 13, 3) := dk_180 0 13 (dk_at dksX7_fareOf_1 0 rfl rfl)
theorem dX7_fareOf_27 : decode cX7_fareOf 27 = .ok (.iconst 4, 1) := dk_7 (dk_at dksX7_fareOf_1 3 rfl rfl)
theorem dX7_fareOf_28 : decode cX7_fareOf 28 = .ok (.iload_n 2, 1) := dk_28 (dk_at dksX7_fareOf_1 4 rfl rfl)
theorem dX7_fareOf_29 : decode cX7_fareOf 29 = .ok (.iadd, 1) := dk_96 (dk_at dksX7_fareOf_1 5 rfl rfl)
theorem dX7_fareOf_30 : decode cX7_fareOf 30 = .ok (.iaload, 1) := dk_46 (dk_at dksX7_fareOf_1 6 rfl rfl)
theorem dX7_fareOf_31 : decode cX7_fareOf 31 = .ok (.goto 4, 3) := dk_167 0 4 (dk_at dksX7_fareOf_1 7 rfl rfl)
theorem dX7_fareOf_34 : decode cX7_fareOf 34 = .ok (.iconst (-1), 1) := dk_2 (dk_at dksX7_fareOf_1 10 rfl rfl)
theorem dX7_fareOf_35 : decode cX7_fareOf 35 = .ok (.iastore, 1) := dk_79 (dk_at dksX7_fareOf_1 11 rfl rfl)
theorem dX7_fareOf_36 : decode cX7_fareOf 36 = .ok (.iinc 2 1, 3) := dk_132 2 1 (dk_at dksX7_fareOf_1 12 rfl rfl)
theorem dX7_fareOf_39 : decode cX7_fareOf 39 = .ok (.goto (-37), 3) := dk_167 255 219 (dk_at dksX7_fareOf_1 15 rfl rfl)
theorem dX7_fareOf_42 : decode cX7_fareOf 42 = .ok (.iconst 1, 1) := dk_4 (dk_at dksX7_fareOf_1 18 rfl rfl)
theorem dX7_fareOf_43 : decode cX7_fareOf 43 = .ok (.istore_n 2, 1) := dk_61 (dk_at dksX7_fareOf_1 19 rfl rfl)
theorem dX7_fareOf_44 : decode cX7_fareOf 44 = .ok (.iload_n 2, 1) := dk_28 (dk_at dksX7_fareOf_1 20 rfl rfl)
theorem dX7_fareOf_45 : decode cX7_fareOf 45 = .ok (.ifCond .eq 120, 3) := dk_153 0 120 (dk_at dksX7_fareOf_1 21 rfl rfl)
theorem dX7_fareOf_48 : decode cX7_fareOf 48 = .ok (.iconst 0, 1) := dk_3 (dk_at dksX7_fareOf_2 0 rfl rfl)
theorem dX7_fareOf_49 : decode cX7_fareOf 49 = .ok (.istore_n 2, 1) := dk_61 (dk_at dksX7_fareOf_2 1 rfl rfl)
theorem dX7_fareOf_50 : decode cX7_fareOf 50 = .ok (.iconst 0, 1) := dk_3 (dk_at dksX7_fareOf_2 2 rfl rfl)
theorem dX7_fareOf_51 : decode cX7_fareOf 51 = .ok (.istore_n 3, 1) := dk_62 (dk_at dksX7_fareOf_2 3 rfl rfl)
theorem dX7_fareOf_52 : decode cX7_fareOf 52 = .ok (.iload_n 3, 1) := dk_29 (dk_at dksX7_fareOf_2 4 rfl rfl)
theorem dX7_fareOf_53 : decode cX7_fareOf 53 = .ok (.aload_n 0, 1) := dk_42 (dk_at dksX7_fareOf_2 5 rfl rfl)
theorem dX7_fareOf_54 : decode cX7_fareOf 54 = .ok (.invokevirtual 88, 3) := dk_182 0 88 (dk_at dksX7_fareOf_2 6 rfl rfl)
theorem dX7_fareOf_57 : decode cX7_fareOf 57 = .ok (.if_icmp .ge 105, 3) := dk_162 0 105 (dk_at dksX7_fareOf_2 9 rfl rfl)
theorem dX7_fareOf_60 : decode cX7_fareOf 60 = .ok (.aload_n 0, 1) := dk_42 (dk_at dksX7_fareOf_2 12 rfl rfl)
theorem dX7_fareOf_61 : decode cX7_fareOf 61 = .ok (.iload_n 3, 1) := dk_29 (dk_at dksX7_fareOf_2 13 rfl rfl)
theorem dX7_fareOf_62 : decode cX7_fareOf 62 = .ok (.invokevirtual 91, 3) := dk_182 0 91 (dk_at dksX7_fareOf_2 14 rfl rfl)
theorem dX7_fareOf_65 : decode cX7_fareOf 65 = .ok (.ifCond .eq 91, 3) := dk_153 0 91 (dk_at dksX7_fareOf_2 17 rfl rfl)
theorem dX7_fareOf_68 : decode cX7_fareOf 68 = .ok (.aload_n 0, 1) := dk_42 (dk_at dksX7_fareOf_2 20 rfl rfl)
theorem dX7_fareOf_69 : decode cX7_fareOf 69 = .ok (.getfield 66, 3) := dk_180 0 66 (dk_at dksX7_fareOf_2 21 rfl rfl)
theorem dX7_fareOf_72 : decode cX7_fareOf 72 = .ok (.aload_n 0, 1) := dk_42 (dk_at dksX7_fareOf_3 0 rfl rfl)
theorem dX7_fareOf_73 : decode cX7_fareOf 73 = .ok (.iload_n 3, 1) := dk_29 (dk_at dksX7_fareOf_3 1 rfl rfl)
theorem dX7_fareOf_74 : decode cX7_fareOf 74 = .ok (.invokevirtual 95, 3) := dk_182 0 95 (dk_at dksX7_fareOf_3 2 rfl rfl)
theorem dX7_fareOf_77 : decode cX7_fareOf 77 = .ok (.iaload, 1) := dk_46 (dk_at dksX7_fareOf_3 5 rfl rfl)
theorem dX7_fareOf_78 : decode cX7_fareOf 78 = .ok (.iconst (-1), 1) := dk_2 (dk_at dksX7_fareOf_3 6 rfl rfl)
theorem dX7_fareOf_79 : decode cX7_fareOf 79 = .ok (.if_icmp .ne 6, 3) := dk_160 0 6 (dk_at dksX7_fareOf_3 7 rfl rfl)
theorem dX7_fareOf_82 : decode cX7_fareOf 82 = .ok (.goto 74, 3) := dk_167 0 74 (dk_at dksX7_fareOf_3 10 rfl rfl)
theorem dX7_fareOf_85 : decode cX7_fareOf 85 = .ok (.aload_n 0, 1) := dk_42 (dk_at dksX7_fareOf_3 13 rfl rfl)
theorem dX7_fareOf_86 : decode cX7_fareOf 86 = .ok (.getfield 66, 3) := dk_180 0 66 (dk_at dksX7_fareOf_3 14 rfl rfl)
theorem dX7_fareOf_89 : decode cX7_fareOf 89 = .ok (.aload_n 0, 1) := dk_42 (dk_at dksX7_fareOf_3 17 rfl rfl)
theorem dX7_fareOf_90 : decode cX7_fareOf 90 = .ok (.iload_n 3, 1) := dk_29 (dk_at dksX7_fareOf_3 18 rfl rfl)
theorem dX7_fareOf_91 : decode cX7_fareOf 91 = .ok (.invokevirtual 95, 3) := dk_182 0 95 (dk_at dksX7_fareOf_3 19 rfl rfl)
theorem dX7_fareOf_94 : decode cX7_fareOf 94 = .ok (.iaload, 1) := dk_46 (dk_at dksX7_fareOf_3 22 rfl rfl)
theorem dX7_fareOf_95 : decode cX7_fareOf 95 = .ok (.aload_n 0, 1) := dk_42 (dk_at dksX7_fareOf_3 23 rfl rfl)
theorem dX7_fareOf_96 : decode cX7_fareOf 96 = .ok (.getfield 13, 3) := dk_180 0 13 (dk_at dksX7_fareOf_4 0 rfl rfl)
theorem dX7_fareOf_99 : decode cX7_fareOf 99 = .ok (.iconst 4, 1) := dk_7 (dk_at dksX7_fareOf_4 3 rfl rfl)
theorem dX7_fareOf_100 : decode cX7_fareOf 100 = .ok (.aload_n 0, 1) := dk_42 (dk_at dksX7_fareOf_4 4 rfl rfl)
theorem dX7_fareOf_101 : decode cX7_fareOf 101 = .ok (.iload_n 3, 1) := dk_29 (dk_at dksX7_fareOf_4 5 rfl rfl)
theorem dX7_fareOf_102 : decode cX7_fareOf 102 = .ok (.invokevirtual 103, 3) := dk_182 0 103 (dk_at dksX7_fareOf_4 6 rfl rfl)
theorem dX7_fareOf_105 : decode cX7_fareOf 105 = .ok (.iadd, 1) := dk_96 (dk_at dksX7_fareOf_4 9 rfl rfl)
theorem dX7_fareOf_106 : decode cX7_fareOf 106 = .ok (.iaload, 1) := dk_46 (dk_at dksX7_fareOf_4 10 rfl rfl)
theorem dX7_fareOf_107 : decode cX7_fareOf 107 = .ok (.iadd, 1) := dk_96 (dk_at dksX7_fareOf_4 11 rfl rfl)
theorem dX7_fareOf_108 : decode cX7_fareOf 108 = .ok (.istore 4, 2) := dk_54 4 (dk_at dksX7_fareOf_4 12 rfl rfl)
theorem dX7_fareOf_110 : decode cX7_fareOf 110 = .ok (.aload_n 0, 1) := dk_42 (dk_at dksX7_fareOf_4 14 rfl rfl)
theorem dX7_fareOf_111 : decode cX7_fareOf 111 = .ok (.getfield 66, 3) := dk_180 0 66 (dk_at dksX7_fareOf_4 15 rfl rfl)
theorem dX7_fareOf_114 : decode cX7_fareOf 114 = .ok (.aload_n 0, 1) := dk_42 (dk_at dksX7_fareOf_4 18 rfl rfl)
theorem dX7_fareOf_115 : decode cX7_fareOf 115 = .ok (.iload_n 3, 1) := dk_29 (dk_at dksX7_fareOf_4 19 rfl rfl)
theorem dX7_fareOf_116 : decode cX7_fareOf 116 = .ok (.invokevirtual 103, 3) := dk_182 0 103 (dk_at dksX7_fareOf_4 20 rfl rfl)
theorem dX7_fareOf_119 : decode cX7_fareOf 119 = .ok (.iaload, 1) := dk_46 (dk_at dksX7_fareOf_4 23 rfl rfl)
theorem dX7_fareOf_120 : decode cX7_fareOf 120 = .ok (.iconst (-1), 1) := dk_2 (dk_at dksX7_fareOf_5 0 rfl rfl)
theorem dX7_fareOf_121 : decode cX7_fareOf 121 = .ok (.if_icmp .eq 21, 3) := dk_159 0 21 (dk_at dksX7_fareOf_5 1 rfl rfl)
theorem dX7_fareOf_124 : decode cX7_fareOf 124 = .ok (.aload_n 0, 1) := dk_42 (dk_at dksX7_fareOf_5 4 rfl rfl)
theorem dX7_fareOf_125 : decode cX7_fareOf 125 = .ok (.getfield 66, 3) := dk_180 0 66 (dk_at dksX7_fareOf_5 5 rfl rfl)
theorem dX7_fareOf_128 : decode cX7_fareOf 128 = .ok (.aload_n 0, 1) := dk_42 (dk_at dksX7_fareOf_5 8 rfl rfl)
theorem dX7_fareOf_129 : decode cX7_fareOf 129 = .ok (.iload_n 3, 1) := dk_29 (dk_at dksX7_fareOf_5 9 rfl rfl)
theorem dX7_fareOf_130 : decode cX7_fareOf 130 = .ok (.invokevirtual 103, 3) := dk_182 0 103 (dk_at dksX7_fareOf_5 10 rfl rfl)
theorem dX7_fareOf_133 : decode cX7_fareOf 133 = .ok (.iaload, 1) := dk_46 (dk_at dksX7_fareOf_5 13 rfl rfl)
theorem dX7_fareOf_134 : decode cX7_fareOf 134 = .ok (.iload 4, 2) := dk_21 4 (dk_at dksX7_fareOf_5 14 rfl rfl)
theorem dX7_fareOf_136 : decode cX7_fareOf 136 = .ok (.if_icmp .gt 6, 3) := dk_163 0 6 (dk_at dksX7_fareOf_5 16 rfl rfl)
theorem dX7_fareOf_139 : decode cX7_fareOf 139 = .ok (.goto 17, 3) := dk_167 0 17 (dk_at dksX7_fareOf_5 19 rfl rfl)
theorem dX7_fareOf_142 : decode cX7_fareOf 142 = .ok (.aload_n 0, 1) := dk_42 (dk_at dksX7_fareOf_5 22 rfl rfl)
theorem dX7_fareOf_143 : decode cX7_fareOf 143 = .ok (.getfield 66, 3) := dk_180 0 66 (dk_at dksX7_fareOf_6 0 rfl rfl)
theorem dX7_fareOf_146 : decode cX7_fareOf 146 = .ok (.aload_n 0, 1) := dk_42 (dk_at dksX7_fareOf_6 3 rfl rfl)
theorem dX7_fareOf_147 : decode cX7_fareOf 147 = .ok (.iload_n 3, 1) := dk_29 (dk_at dksX7_fareOf_6 4 rfl rfl)
theorem dX7_fareOf_148 : decode cX7_fareOf 148 = .ok (.invokevirtual 103, 3) := dk_182 0 103 (dk_at dksX7_fareOf_6 5 rfl rfl)
theorem dX7_fareOf_151 : decode cX7_fareOf 151 = .ok (.iload 4, 2) := dk_21 4 (dk_at dksX7_fareOf_6 8 rfl rfl)
theorem dX7_fareOf_153 : decode cX7_fareOf 153 = .ok (.iastore, 1) := dk_79 (dk_at dksX7_fareOf_6 10 rfl rfl)
theorem dX7_fareOf_154 : decode cX7_fareOf 154 = .ok (.iconst 1, 1) := dk_4 (dk_at dksX7_fareOf_6 11 rfl rfl)
theorem dX7_fareOf_155 : decode cX7_fareOf 155 = .ok (.istore_n 2, 1) := dk_61 (dk_at dksX7_fareOf_6 12 rfl rfl)
theorem dX7_fareOf_156 : decode cX7_fareOf 156 = .ok (.iinc 3 1, 3) := dk_132 3 1 (dk_at dksX7_fareOf_6 13 rfl rfl)
theorem dX7_fareOf_159 : decode cX7_fareOf 159 = .ok (.goto (-107), 3) := dk_167 255 149 (dk_at dksX7_fareOf_6 16 rfl rfl)
theorem dX7_fareOf_162 : decode cX7_fareOf 162 = .ok (.goto (-118), 3) := dk_167 255 138 (dk_at dksX7_fareOf_6 19 rfl rfl)
theorem dX7_fareOf_165 : decode cX7_fareOf 165 = .ok (.aload_n 0, 1) := dk_42 (dk_at dksX7_fareOf_6 22 rfl rfl)
theorem dX7_fareOf_166 : decode cX7_fareOf 166 = .ok (.getfield 66, 3) := dk_180 0 66 (dk_at dksX7_fareOf_7 0 rfl rfl)
theorem dX7_fareOf_169 : decode cX7_fareOf 169 = .ok (.iload_n 1, 1) := dk_27 (dk_at dksX7_fareOf_7 3 rfl rfl)
theorem dX7_fareOf_170 : decode cX7_fareOf 170 = .ok (.iaload, 1) := dk_46 (dk_at dksX7_fareOf_7 4 rfl rfl)
theorem dX7_fareOf_171 : decode cX7_fareOf 171 = .ok (.ireturn, 1) := dk_172 (dk_at dksX7_fareOf_7 5 rfl rfl)
abbrev cX7_controls : ByteArray := prog_11_method_74_code
def yX7_controls : MethodName := ⟨RX7, "controls", "(I)I"⟩
def dkwX7_controls_3 : List UInt8 := [132, 3, 1, 167, 255, 196, 28, 42, 27, 182, 1, 38, 2, 130, 126, 172]
abbrev dktX7_controls_3 : List UInt8 := dkwX7_controls_3 ++ []
def dkwX7_controls_2 : List UInt8 := [153, 0, 23, 28, 4, 42, 29, 182, 0, 103, 120, 42, 42, 29, 182, 0, 103, 182, 1, 38, 128, 128, 61]
abbrev dktX7_controls_2 : List UInt8 := dkwX7_controls_2 ++ dktX7_controls_3
def dkwX7_controls_1 : List UInt8 := [182, 0, 91, 153, 0, 44, 42, 29, 182, 0, 95, 27, 160, 0, 35, 42, 42, 29, 182, 0, 103, 182, 1, 35]
abbrev dktX7_controls_1 : List UInt8 := dkwX7_controls_1 ++ dktX7_controls_2
def dkwX7_controls_0 : List UInt8 := [42, 27, 182, 1, 35, 154, 0, 5, 3, 172, 3, 61, 3, 62, 29, 42, 182, 0, 88, 162, 0, 58, 42, 29]
abbrev dktX7_controls_0 : List UInt8 := dkwX7_controls_0 ++ dktX7_controls_1
theorem dksX7_controls_0 : cX7_controls.data.toList.drop 0 = dktX7_controls_0 := by decide +kernel
theorem dksX7_controls_1 : cX7_controls.data.toList.drop 24 = dktX7_controls_1 := dk_seg dksX7_controls_0 24 rfl rfl
theorem dksX7_controls_2 : cX7_controls.data.toList.drop 48 = dktX7_controls_2 := dk_seg dksX7_controls_1 24 rfl rfl
theorem dksX7_controls_3 : cX7_controls.data.toList.drop 71 = dktX7_controls_3 := dk_seg dksX7_controls_2 23 rfl rfl
theorem dX7_controls_0 : decode cX7_controls 0 = .ok (.aload_n 0, 1) := dk_42 (dk_at dksX7_controls_0 0 rfl rfl)
theorem dX7_controls_1 : decode cX7_controls 1 = .ok (.iload_n 1, 1) := dk_27 (dk_at dksX7_controls_0 1 rfl rfl)
theorem dX7_controls_2 : decode cX7_controls 2 = .ok (.invokevirtual 291, 3) := dk_182 1 35 (dk_at dksX7_controls_0 2 rfl rfl)
theorem dX7_controls_5 : decode cX7_controls 5 = .ok (.ifCond .ne 5, 3) := dk_154 0 5 (dk_at dksX7_controls_0 5 rfl rfl)
theorem dX7_controls_8 : decode cX7_controls 8 = .ok (.iconst 0, 1) := dk_3 (dk_at dksX7_controls_0 8 rfl rfl)
theorem dX7_controls_9 : decode cX7_controls 9 = .ok (.ireturn, 1) := dk_172 (dk_at dksX7_controls_0 9 rfl rfl)
theorem dX7_controls_10 : decode cX7_controls 10 = .ok (.iconst 0, 1) := dk_3 (dk_at dksX7_controls_0 10 rfl rfl)
theorem dX7_controls_11 : decode cX7_controls 11 = .ok (.istore_n 2, 1) := dk_61 (dk_at dksX7_controls_0 11 rfl rfl)
theorem dX7_controls_12 : decode cX7_controls 12 = .ok (.iconst 0, 1) := dk_3 (dk_at dksX7_controls_0 12 rfl rfl)
theorem dX7_controls_13 : decode cX7_controls 13 = .ok (.istore_n 3, 1) := dk_62 (dk_at dksX7_controls_0 13 rfl rfl)
theorem dX7_controls_14 : decode cX7_controls 14 = .ok (.iload_n 3, 1) := dk_29 (dk_at dksX7_controls_0 14 rfl rfl)
theorem dX7_controls_15 : decode cX7_controls 15 = .ok (.aload_n 0, 1) := dk_42 (dk_at dksX7_controls_0 15 rfl rfl)
theorem dX7_controls_16 : decode cX7_controls 16 = .ok (.invokevirtual 88, 3) := dk_182 0 88 (dk_at dksX7_controls_0 16 rfl rfl)
theorem dX7_controls_19 : decode cX7_controls 19 = .ok (.if_icmp .ge 58, 3) := dk_162 0 58 (dk_at dksX7_controls_0 19 rfl rfl)
theorem dX7_controls_22 : decode cX7_controls 22 = .ok (.aload_n 0, 1) := dk_42 (dk_at dksX7_controls_0 22 rfl rfl)
theorem dX7_controls_23 : decode cX7_controls 23 = .ok (.iload_n 3, 1) := dk_29 (dk_at dksX7_controls_0 23 rfl rfl)
theorem dX7_controls_24 : decode cX7_controls 24 = .ok (.invokevirtual 91, 3) := dk_182 0 91 (dk_at dksX7_controls_1 0 rfl rfl)
theorem dX7_controls_27 : decode cX7_controls 27 = .ok (.ifCond .eq 44, 3) := dk_153 0 44 (dk_at dksX7_controls_1 3 rfl rfl)
theorem dX7_controls_30 : decode cX7_controls 30 = .ok (.aload_n 0, 1) := dk_42 (dk_at dksX7_controls_1 6 rfl rfl)
theorem dX7_controls_31 : decode cX7_controls 31 = .ok (.iload_n 3, 1) := dk_29 (dk_at dksX7_controls_1 7 rfl rfl)
theorem dX7_controls_32 : decode cX7_controls 32 = .ok (.invokevirtual 95, 3) := dk_182 0 95 (dk_at dksX7_controls_1 8 rfl rfl)
theorem dX7_controls_35 : decode cX7_controls 35 = .ok (.iload_n 1, 1) := dk_27 (dk_at dksX7_controls_1 11 rfl rfl)
theorem dX7_controls_36 : decode cX7_controls 36 = .ok (.if_icmp .ne 35, 3) := dk_160 0 35 (dk_at dksX7_controls_1 12 rfl rfl)
theorem dX7_controls_39 : decode cX7_controls 39 = .ok (.aload_n 0, 1) := dk_42 (dk_at dksX7_controls_1 15 rfl rfl)
theorem dX7_controls_40 : decode cX7_controls 40 = .ok (.aload_n 0, 1) := dk_42 (dk_at dksX7_controls_1 16 rfl rfl)
theorem dX7_controls_41 : decode cX7_controls 41 = .ok (.iload_n 3, 1) := dk_29 (dk_at dksX7_controls_1 17 rfl rfl)
theorem dX7_controls_42 : decode cX7_controls 42 = .ok (.invokevirtual 103, 3) := dk_182 0 103 (dk_at dksX7_controls_1 18 rfl rfl)
theorem dX7_controls_45 : decode cX7_controls 45 = .ok (.invokevirtual 291, 3) := dk_182 1 35 (dk_at dksX7_controls_1 21 rfl rfl)
theorem dX7_controls_48 : decode cX7_controls 48 = .ok (.ifCond .eq 23, 3) := dk_153 0 23 (dk_at dksX7_controls_2 0 rfl rfl)
theorem dX7_controls_51 : decode cX7_controls 51 = .ok (.iload_n 2, 1) := dk_28 (dk_at dksX7_controls_2 3 rfl rfl)
theorem dX7_controls_52 : decode cX7_controls 52 = .ok (.iconst 1, 1) := dk_4 (dk_at dksX7_controls_2 4 rfl rfl)
theorem dX7_controls_53 : decode cX7_controls 53 = .ok (.aload_n 0, 1) := dk_42 (dk_at dksX7_controls_2 5 rfl rfl)
theorem dX7_controls_54 : decode cX7_controls 54 = .ok (.iload_n 3, 1) := dk_29 (dk_at dksX7_controls_2 6 rfl rfl)
theorem dX7_controls_55 : decode cX7_controls 55 = .ok (.invokevirtual 103, 3) := dk_182 0 103 (dk_at dksX7_controls_2 7 rfl rfl)
theorem dX7_controls_58 : decode cX7_controls 58 = .ok (.ishl, 1) := dk_120 (dk_at dksX7_controls_2 10 rfl rfl)
theorem dX7_controls_59 : decode cX7_controls 59 = .ok (.aload_n 0, 1) := dk_42 (dk_at dksX7_controls_2 11 rfl rfl)
theorem dX7_controls_60 : decode cX7_controls 60 = .ok (.aload_n 0, 1) := dk_42 (dk_at dksX7_controls_2 12 rfl rfl)
theorem dX7_controls_61 : decode cX7_controls 61 = .ok (.iload_n 3, 1) := dk_29 (dk_at dksX7_controls_2 13 rfl rfl)
theorem dX7_controls_62 : decode cX7_controls 62 = .ok (.invokevirtual 103, 3) := dk_182 0 103 (dk_at dksX7_controls_2 14 rfl rfl)
theorem dX7_controls_65 : decode cX7_controls 65 = .ok (.invokevirtual 294, 3) := dk_182 1 38 (dk_at dksX7_controls_2 17 rfl rfl)
theorem dX7_controls_68 : decode cX7_controls 68 = .ok (.ior, 1) := dk_128 (dk_at dksX7_controls_2 20 rfl rfl)
theorem dX7_controls_69 : decode cX7_controls 69 = .ok (.ior, 1) := dk_128 (dk_at dksX7_controls_2 21 rfl rfl)
theorem dX7_controls_70 : decode cX7_controls 70 = .ok (.istore_n 2, 1) := dk_61 (dk_at dksX7_controls_2 22 rfl rfl)
theorem dX7_controls_71 : decode cX7_controls 71 = .ok (.iinc 3 1, 3) := dk_132 3 1 (dk_at dksX7_controls_3 0 rfl rfl)
theorem dX7_controls_74 : decode cX7_controls 74 = .ok (.goto (-60), 3) := dk_167 255 196 (dk_at dksX7_controls_3 3 rfl rfl)
theorem dX7_controls_77 : decode cX7_controls 77 = .ok (.iload_n 2, 1) := dk_28 (dk_at dksX7_controls_3 6 rfl rfl)
theorem dX7_controls_78 : decode cX7_controls 78 = .ok (.aload_n 0, 1) := dk_42 (dk_at dksX7_controls_3 7 rfl rfl)
theorem dX7_controls_79 : decode cX7_controls 79 = .ok (.iload_n 1, 1) := dk_27 (dk_at dksX7_controls_3 8 rfl rfl)
theorem dX7_controls_80 : decode cX7_controls 80 = .ok (.invokevirtual 294, 3) := dk_182 1 38 (dk_at dksX7_controls_3 9 rfl rfl)
theorem dX7_controls_83 : decode cX7_controls 83 = .ok (.iconst (-1), 1) := dk_2 (dk_at dksX7_controls_3 12 rfl rfl)
theorem dX7_controls_84 : decode cX7_controls 84 = .ok (.ixor, 1) := dk_130 (dk_at dksX7_controls_3 13 rfl rfl)
theorem dX7_controls_85 : decode cX7_controls 85 = .ok (.iand, 1) := dk_126 (dk_at dksX7_controls_3 14 rfl rfl)
theorem dX7_controls_86 : decode cX7_controls 86 = .ok (.ireturn, 1) := dk_172 (dk_at dksX7_controls_3 15 rfl rfl)
abbrev cX7_ringOf : ByteArray := prog_11_method_75_code
def yX7_ringOf : MethodName := ⟨RX7, "ringOf", "(I)I"⟩
def dkwX7_ringOf_1 : List UInt8 := [3, 182, 1, 29, 126, 167, 0, 4, 3, 172]
abbrev dktX7_ringOf_1 : List UInt8 := dkwX7_ringOf_1 ++ []
def dkwX7_ringOf_0 : List UInt8 := [42, 180, 0, 120, 27, 184, 0, 99, 153, 0, 24, 42, 4, 27, 120, 3, 2, 182, 0, 112, 42, 4, 27, 120]
abbrev dktX7_ringOf_0 : List UInt8 := dkwX7_ringOf_0 ++ dktX7_ringOf_1
theorem dksX7_ringOf_0 : cX7_ringOf.data.toList.drop 0 = dktX7_ringOf_0 := by decide +kernel
theorem dksX7_ringOf_1 : cX7_ringOf.data.toList.drop 24 = dktX7_ringOf_1 := dk_seg dksX7_ringOf_0 24 rfl rfl
theorem dX7_ringOf_0 : decode cX7_ringOf 0 = .ok (.aload_n 0, 1) := dk_42 (dk_at dksX7_ringOf_0 0 rfl rfl)
theorem dX7_ringOf_1 : decode cX7_ringOf 1 = .ok (.getfield 120, 3) := dk_180 0 120 (dk_at dksX7_ringOf_0 1 rfl rfl)
theorem dX7_ringOf_4 : decode cX7_ringOf 4 = .ok (.iload_n 1, 1) := dk_27 (dk_at dksX7_ringOf_0 4 rfl rfl)
theorem dX7_ringOf_5 : decode cX7_ringOf 5 = .ok (.invokestatic 99, 3) := dk_184 0 99 (dk_at dksX7_ringOf_0 5 rfl rfl)
theorem dX7_ringOf_8 : decode cX7_ringOf 8 = .ok (.ifCond .eq 24, 3) := dk_153 0 24 (dk_at dksX7_ringOf_0 8 rfl rfl)
theorem dX7_ringOf_11 : decode cX7_ringOf 11 = .ok (.aload_n 0, 1) := dk_42 (dk_at dksX7_ringOf_0 11 rfl rfl)
theorem dX7_ringOf_12 : decode cX7_ringOf 12 = .ok (.iconst 1, 1) := dk_4 (dk_at dksX7_ringOf_0 12 rfl rfl)
theorem dX7_ringOf_13 : decode cX7_ringOf 13 = .ok (.iload_n 1, 1) := dk_27 (dk_at dksX7_ringOf_0 13 rfl rfl)
theorem dX7_ringOf_14 : decode cX7_ringOf 14 = .ok (.ishl, 1) := dk_120 (dk_at dksX7_ringOf_0 14 rfl rfl)
theorem dX7_ringOf_15 : decode cX7_ringOf 15 = .ok (.iconst 0, 1) := dk_3 (dk_at dksX7_ringOf_0 15 rfl rfl)
theorem dX7_ringOf_16 : decode cX7_ringOf 16 = .ok (.iconst (-1), 1) := dk_2 (dk_at dksX7_ringOf_0 16 rfl rfl)
theorem dX7_ringOf_17 : decode cX7_ringOf 17 = .ok (.invokevirtual 112, 3) := dk_182 0 112 (dk_at dksX7_ringOf_0 17 rfl rfl)
theorem dX7_ringOf_20 : decode cX7_ringOf 20 = .ok (.aload_n 0, 1) := dk_42 (dk_at dksX7_ringOf_0 20 rfl rfl)
theorem dX7_ringOf_21 : decode cX7_ringOf 21 = .ok (.iconst 1, 1) := dk_4 (dk_at dksX7_ringOf_0 21 rfl rfl)
theorem dX7_ringOf_22 : decode cX7_ringOf 22 = .ok (.iload_n 1, 1) := dk_27 (dk_at dksX7_ringOf_0 22 rfl rfl)
theorem dX7_ringOf_23 : decode cX7_ringOf 23 = .ok (.ishl, 1) := dk_120 (dk_at dksX7_ringOf_0 23 rfl rfl)
theorem dX7_ringOf_24 : decode cX7_ringOf 24 = .ok (.iconst 0, 1) := dk_3 (dk_at dksX7_ringOf_1 0 rfl rfl)
theorem dX7_ringOf_25 : decode cX7_ringOf 25 = .ok (.invokevirtual 285, 3) := dk_182 1 29 (dk_at dksX7_ringOf_1 1 rfl rfl)
theorem dX7_ringOf_28 : decode cX7_ringOf 28 = .ok (.iand, 1) := dk_126 (dk_at dksX7_ringOf_1 4 rfl rfl)
theorem dX7_ringOf_29 : decode cX7_ringOf 29 = .ok (.goto 4, 3) := dk_167 0 4 (dk_at dksX7_ringOf_1 5 rfl rfl)
theorem dX7_ringOf_32 : decode cX7_ringOf 32 = .ok (.iconst 0, 1) := dk_3 (dk_at dksX7_ringOf_1 8 rfl rfl)
theorem dX7_ringOf_33 : decode cX7_ringOf 33 = .ok (.ireturn, 1) := dk_172 (dk_at dksX7_ringOf_1 9 rfl rfl)
abbrev cX7_innerOf : ByteArray := prog_11_method_77_code
def yX7_innerOf : MethodName := ⟨RX7, "innerOf", "(II)I"⟩
def dkwX7_innerOf_4 : List UInt8 := [167, 0, 13, 21, 6, 62, 21, 7, 184, 0, 123, 54, 4, 132, 6, 1, 167, 255, 194, 29, 172]
abbrev dktX7_innerOf_4 : List UInt8 := dkwX7_innerOf_4 ++ []
def dkwX7_innerOf_3 : List UInt8 := [153, 0, 36, 21, 7, 184, 0, 123, 21, 5, 164, 0, 26, 21, 7, 184, 0, 123, 21, 4, 161, 0, 6]
abbrev dktX7_innerOf_3 : List UInt8 := dkwX7_innerOf_3 ++ dktX7_innerOf_4
def dkwX7_innerOf_2 : List UInt8 := [21, 6, 42, 182, 0, 80, 162, 0, 59, 42, 21, 6, 182, 1, 32, 54, 7, 21, 7, 27, 184, 0, 99]
abbrev dktX7_innerOf_2 : List UInt8 := dkwX7_innerOf_2 ++ dktX7_innerOf_3
def dkwX7_innerOf_1 : List UInt8 := [16, 16, 167, 0, 16, 42, 42, 27, 3, 182, 1, 44, 182, 1, 32, 184, 0, 123, 54, 5, 3, 54, 6]
abbrev dktX7_innerOf_1 : List UInt8 := dkwX7_innerOf_1 ++ dktX7_innerOf_2
def dkwX7_innerOf_0 : List UInt8 := [2, 62, 16, 17, 54, 4, 28, 154, 0, 7, 3, 167, 0, 31, 42, 27, 3, 182, 1, 44, 2, 160, 0, 8]
abbrev dktX7_innerOf_0 : List UInt8 := dkwX7_innerOf_0 ++ dktX7_innerOf_1
theorem dksX7_innerOf_0 : cX7_innerOf.data.toList.drop 0 = dktX7_innerOf_0 := by decide +kernel
theorem dksX7_innerOf_1 : cX7_innerOf.data.toList.drop 24 = dktX7_innerOf_1 := dk_seg dksX7_innerOf_0 24 rfl rfl
theorem dksX7_innerOf_2 : cX7_innerOf.data.toList.drop 47 = dktX7_innerOf_2 := dk_seg dksX7_innerOf_1 23 rfl rfl
theorem dksX7_innerOf_3 : cX7_innerOf.data.toList.drop 70 = dktX7_innerOf_3 := dk_seg dksX7_innerOf_2 23 rfl rfl
theorem dksX7_innerOf_4 : cX7_innerOf.data.toList.drop 93 = dktX7_innerOf_4 := dk_seg dksX7_innerOf_3 23 rfl rfl
theorem dX7_innerOf_0 : decode cX7_innerOf 0 = .ok (.iconst (-1), 1) := dk_2 (dk_at dksX7_innerOf_0 0 rfl rfl)
theorem dX7_innerOf_1 : decode cX7_innerOf 1 = .ok (.istore_n 3, 1) := dk_62 (dk_at dksX7_innerOf_0 1 rfl rfl)
theorem dX7_innerOf_2 : decode cX7_innerOf 2 = .ok (.bipush 17, 2) := dk_16 17 (dk_at dksX7_innerOf_0 2 rfl rfl)
theorem dX7_innerOf_4 : decode cX7_innerOf 4 = .ok (.istore 4, 2) := dk_54 4 (dk_at dksX7_innerOf_0 4 rfl rfl)
theorem dX7_innerOf_6 : decode cX7_innerOf 6 = .ok (.iload_n 2, 1) := dk_28 (dk_at dksX7_innerOf_0 6 rfl rfl)
theorem dX7_innerOf_7 : decode cX7_innerOf 7 = .ok (.ifCond .ne 7, 3) := dk_154 0 7 (dk_at dksX7_innerOf_0 7 rfl rfl)
theorem dX7_innerOf_10 : decode cX7_innerOf 10 = .ok (.iconst 0, 1) := dk_3 (dk_at dksX7_innerOf_0 10 rfl rfl)
theorem dX7_innerOf_11 : decode cX7_innerOf 11 = .ok (.goto 31, 3) := dk_167 0 31 (dk_at dksX7_innerOf_0 11 rfl rfl)
theorem dX7_innerOf_14 : decode cX7_innerOf 14 = .ok (.aload_n 0, 1) := dk_42 (dk_at dksX7_innerOf_0 14 rfl rfl)
theorem dX7_innerOf_15 : decode cX7_innerOf 15 = .ok (.iload_n 1, 1) := dk_27 (dk_at dksX7_innerOf_0 15 rfl rfl)
theorem dX7_innerOf_16 : decode cX7_innerOf 16 = .ok (.iconst 0, 1) := dk_3 (dk_at dksX7_innerOf_0 16 rfl rfl)
theorem dX7_innerOf_17 : decode cX7_innerOf 17 = .ok (.invokevirtual 300, 3) := dk_182 1 44 (dk_at dksX7_innerOf_0 17 rfl rfl)
theorem dX7_innerOf_20 : decode cX7_innerOf 20 = .ok (.iconst (-1), 1) := dk_2 (dk_at dksX7_innerOf_0 20 rfl rfl)
theorem dX7_innerOf_21 : decode cX7_innerOf 21 = .ok (.if_icmp .ne 8, 3) := dk_160 0 8 (dk_at dksX7_innerOf_0 21 rfl rfl)
theorem dX7_innerOf_24 : decode cX7_innerOf 24 = .ok (.bipush 16, 2) := dk_16 16 (dk_at dksX7_innerOf_1 0 rfl rfl)
theorem dX7_innerOf_26 : decode cX7_innerOf 26 = .ok (.goto 16, 3) := dk_167 0 16 (dk_at dksX7_innerOf_1 2 rfl rfl)
theorem dX7_innerOf_29 : decode cX7_innerOf 29 = .ok (.aload_n 0, 1) := dk_42 (dk_at dksX7_innerOf_1 5 rfl rfl)
theorem dX7_innerOf_30 : decode cX7_innerOf 30 = .ok (.aload_n 0, 1) := dk_42 (dk_at dksX7_innerOf_1 6 rfl rfl)
theorem dX7_innerOf_31 : decode cX7_innerOf 31 = .ok (.iload_n 1, 1) := dk_27 (dk_at dksX7_innerOf_1 7 rfl rfl)
theorem dX7_innerOf_32 : decode cX7_innerOf 32 = .ok (.iconst 0, 1) := dk_3 (dk_at dksX7_innerOf_1 8 rfl rfl)
theorem dX7_innerOf_33 : decode cX7_innerOf 33 = .ok (.invokevirtual 300, 3) := dk_182 1 44 (dk_at dksX7_innerOf_1 9 rfl rfl)
theorem dX7_innerOf_36 : decode cX7_innerOf 36 = .ok (.invokevirtual 288, 3) := dk_182 1 32 (dk_at dksX7_innerOf_1 12 rfl rfl)
theorem dX7_innerOf_39 : decode cX7_innerOf 39 = .ok (.invokestatic 123, 3) := dk_184 0 123 (dk_at dksX7_innerOf_1 15 rfl rfl)
theorem dX7_innerOf_42 : decode cX7_innerOf 42 = .ok (.istore 5, 2) := dk_54 5 (dk_at dksX7_innerOf_1 18 rfl rfl)
theorem dX7_innerOf_44 : decode cX7_innerOf 44 = .ok (.iconst 0, 1) := dk_3 (dk_at dksX7_innerOf_1 20 rfl rfl)
theorem dX7_innerOf_45 : decode cX7_innerOf 45 = .ok (.istore 6, 2) := dk_54 6 (dk_at dksX7_innerOf_1 21 rfl rfl)
theorem dX7_innerOf_47 : decode cX7_innerOf 47 = .ok (.iload 6, 2) := dk_21 6 (dk_at dksX7_innerOf_2 0 rfl rfl)
theorem dX7_innerOf_49 : decode cX7_innerOf 49 = .ok (.aload_n 0, 1) := dk_42 (dk_at dksX7_innerOf_2 2 rfl rfl)
theorem dX7_innerOf_50 : decode cX7_innerOf 50 = .ok (.invokevirtual 80, 3) := dk_182 0 80 (dk_at dksX7_innerOf_2 3 rfl rfl)
theorem dX7_innerOf_53 : decode cX7_innerOf 53 = .ok (.if_icmp .ge 59, 3) := dk_162 0 59 (dk_at dksX7_innerOf_2 6 rfl rfl)
theorem dX7_innerOf_56 : decode cX7_innerOf 56 = .ok (.aload_n 0, 1) := dk_42 (dk_at dksX7_innerOf_2 9 rfl rfl)
theorem dX7_innerOf_57 : decode cX7_innerOf 57 = .ok (.iload 6, 2) := dk_21 6 (dk_at dksX7_innerOf_2 10 rfl rfl)
theorem dX7_innerOf_59 : decode cX7_innerOf 59 = .ok (.invokevirtual 288, 3) := dk_182 1 32 (dk_at dksX7_innerOf_2 12 rfl rfl)
theorem dX7_innerOf_62 : decode cX7_innerOf 62 = .ok (.istore 7, 2) := dk_54 7 (dk_at dksX7_innerOf_2 15 rfl rfl)
theorem dX7_innerOf_64 : decode cX7_innerOf 64 = .ok (.iload 7, 2) := dk_21 7 (dk_at dksX7_innerOf_2 17 rfl rfl)
theorem dX7_innerOf_66 : decode cX7_innerOf 66 = .ok (.iload_n 1, 1) := dk_27 (dk_at dksX7_innerOf_2 19 rfl rfl)
theorem dX7_innerOf_67 : decode cX7_innerOf 67 = .ok (.invokestatic 99, 3) := dk_184 0 99 (dk_at dksX7_innerOf_2 20 rfl rfl)
theorem dX7_innerOf_70 : decode cX7_innerOf 70 = .ok (.ifCond .eq 36, 3) := dk_153 0 36 (dk_at dksX7_innerOf_3 0 rfl rfl)
theorem dX7_innerOf_73 : decode cX7_innerOf 73 = .ok (.iload 7, 2) := dk_21 7 (dk_at dksX7_innerOf_3 3 rfl rfl)
theorem dX7_innerOf_75 : decode cX7_innerOf 75 = .ok (.invokestatic 123, 3) := dk_184 0 123 (dk_at dksX7_innerOf_3 5 rfl rfl)
theorem dX7_innerOf_78 : decode cX7_innerOf 78 = .ok (.iload 5, 2) := dk_21 5 (dk_at dksX7_innerOf_3 8 rfl rfl)
theorem dX7_innerOf_80 : decode cX7_innerOf 80 = .ok (.if_icmp .le 26, 3) := dk_164 0 26 (dk_at dksX7_innerOf_3 10 rfl rfl)
theorem dX7_innerOf_83 : decode cX7_innerOf 83 = .ok (.iload 7, 2) := dk_21 7 (dk_at dksX7_innerOf_3 13 rfl rfl)
theorem dX7_innerOf_85 : decode cX7_innerOf 85 = .ok (.invokestatic 123, 3) := dk_184 0 123 (dk_at dksX7_innerOf_3 15 rfl rfl)
theorem dX7_innerOf_88 : decode cX7_innerOf 88 = .ok (.iload 4, 2) := dk_21 4 (dk_at dksX7_innerOf_3 18 rfl rfl)
theorem dX7_innerOf_90 : decode cX7_innerOf 90 = .ok (.if_icmp .lt 6, 3) := dk_161 0 6 (dk_at dksX7_innerOf_3 20 rfl rfl)
theorem dX7_innerOf_93 : decode cX7_innerOf 93 = .ok (.goto 13, 3) := dk_167 0 13 (dk_at dksX7_innerOf_4 0 rfl rfl)
theorem dX7_innerOf_96 : decode cX7_innerOf 96 = .ok (.iload 6, 2) := dk_21 6 (dk_at dksX7_innerOf_4 3 rfl rfl)
theorem dX7_innerOf_98 : decode cX7_innerOf 98 = .ok (.istore_n 3, 1) := dk_62 (dk_at dksX7_innerOf_4 5 rfl rfl)
theorem dX7_innerOf_99 : decode cX7_innerOf 99 = .ok (.iload 7, 2) := dk_21 7 (dk_at dksX7_innerOf_4 6 rfl rfl)
theorem dX7_innerOf_101 : decode cX7_innerOf 101 = .ok (.invokestatic 123, 3) := dk_184 0 123 (dk_at dksX7_innerOf_4 8 rfl rfl)
theorem dX7_innerOf_104 : decode cX7_innerOf 104 = .ok (.istore 4, 2) := dk_54 4 (dk_at dksX7_innerOf_4 11 rfl rfl)
theorem dX7_innerOf_106 : decode cX7_innerOf 106 = .ok (.iinc 6 1, 3) := dk_132 6 1 (dk_at dksX7_innerOf_4 13 rfl rfl)
theorem dX7_innerOf_109 : decode cX7_innerOf 109 = .ok (.goto (-62), 3) := dk_167 255 194 (dk_at dksX7_innerOf_4 16 rfl rfl)
theorem dX7_innerOf_112 : decode cX7_innerOf 112 = .ok (.iload_n 3, 1) := dk_29 (dk_at dksX7_innerOf_4 19 rfl rfl)
theorem dX7_innerOf_113 : decode cX7_innerOf 113 = .ok (.ireturn, 1) := dk_172 (dk_at dksX7_innerOf_4 20 rfl rfl)
abbrev cX7_tiedTo : ByteArray := prog_11_method_78_code
def yX7_tiedTo : MethodName := ⟨RX7, "tiedTo", "(I)I"⟩
def dkwX7_tiedTo_3 : List UInt8 := [126, 61, 132, 3, 1, 167, 255, 201, 28, 172]
abbrev dktX7_tiedTo_3 : List UInt8 := dkwX7_tiedTo_3 ++ []
def dkwX7_tiedTo_2 : List UInt8 := [180, 0, 120, 54, 4, 28, 21, 4, 27, 184, 0, 99, 153, 0, 8, 21, 4, 167, 0, 7, 21, 4, 2, 130]
abbrev dktX7_tiedTo_2 : List UInt8 := dkwX7_tiedTo_2 ++ dktX7_tiedTo_3
def dkwX7_tiedTo_1 : List UInt8 := [182, 0, 88, 162, 0, 53, 42, 29, 182, 0, 91, 153, 0, 12, 42, 3, 29, 182, 0, 116, 167, 0, 7, 42]
abbrev dktX7_tiedTo_1 : List UInt8 := dkwX7_tiedTo_1 ++ dktX7_tiedTo_2
def dkwX7_tiedTo_0 : List UInt8 := [42, 180, 0, 120, 27, 184, 0, 99, 154, 0, 5, 3, 172, 42, 180, 0, 120, 61, 3, 62, 29, 42]
abbrev dktX7_tiedTo_0 : List UInt8 := dkwX7_tiedTo_0 ++ dktX7_tiedTo_1
theorem dksX7_tiedTo_0 : cX7_tiedTo.data.toList.drop 0 = dktX7_tiedTo_0 := by decide +kernel
theorem dksX7_tiedTo_1 : cX7_tiedTo.data.toList.drop 22 = dktX7_tiedTo_1 := dk_seg dksX7_tiedTo_0 22 rfl rfl
theorem dksX7_tiedTo_2 : cX7_tiedTo.data.toList.drop 46 = dktX7_tiedTo_2 := dk_seg dksX7_tiedTo_1 24 rfl rfl
theorem dksX7_tiedTo_3 : cX7_tiedTo.data.toList.drop 70 = dktX7_tiedTo_3 := dk_seg dksX7_tiedTo_2 24 rfl rfl
theorem dX7_tiedTo_0 : decode cX7_tiedTo 0 = .ok (.aload_n 0, 1) := dk_42 (dk_at dksX7_tiedTo_0 0 rfl rfl)
theorem dX7_tiedTo_1 : decode cX7_tiedTo 1 = .ok (.getfield 120, 3) := dk_180 0 120 (dk_at dksX7_tiedTo_0 1 rfl rfl)
theorem dX7_tiedTo_4 : decode cX7_tiedTo 4 = .ok (.iload_n 1, 1) := dk_27 (dk_at dksX7_tiedTo_0 4 rfl rfl)
theorem dX7_tiedTo_5 : decode cX7_tiedTo 5 = .ok (.invokestatic 99, 3) := dk_184 0 99 (dk_at dksX7_tiedTo_0 5 rfl rfl)
theorem dX7_tiedTo_8 : decode cX7_tiedTo 8 = .ok (.ifCond .ne 5, 3) := dk_154 0 5 (dk_at dksX7_tiedTo_0 8 rfl rfl)
theorem dX7_tiedTo_11 : decode cX7_tiedTo 11 = .ok (.iconst 0, 1) := dk_3 (dk_at dksX7_tiedTo_0 11 rfl rfl)
theorem dX7_tiedTo_12 : decode cX7_tiedTo 12 = .ok (.ireturn, 1) := dk_172 (dk_at dksX7_tiedTo_0 12 rfl rfl)
theorem dX7_tiedTo_13 : decode cX7_tiedTo 13 = .ok (.aload_n 0, 1) := dk_42 (dk_at dksX7_tiedTo_0 13 rfl rfl)
theorem dX7_tiedTo_14 : decode cX7_tiedTo 14 = .ok (.getfield 120, 3) := dk_180 0 120 (dk_at dksX7_tiedTo_0 14 rfl rfl)
theorem dX7_tiedTo_17 : decode cX7_tiedTo 17 = .ok (.istore_n 2, 1) := dk_61 (dk_at dksX7_tiedTo_0 17 rfl rfl)
theorem dX7_tiedTo_18 : decode cX7_tiedTo 18 = .ok (.iconst 0, 1) := dk_3 (dk_at dksX7_tiedTo_0 18 rfl rfl)
theorem dX7_tiedTo_19 : decode cX7_tiedTo 19 = .ok (.istore_n 3, 1) := dk_62 (dk_at dksX7_tiedTo_0 19 rfl rfl)
theorem dX7_tiedTo_20 : decode cX7_tiedTo 20 = .ok (.iload_n 3, 1) := dk_29 (dk_at dksX7_tiedTo_0 20 rfl rfl)
theorem dX7_tiedTo_21 : decode cX7_tiedTo 21 = .ok (.aload_n 0, 1) := dk_42 (dk_at dksX7_tiedTo_0 21 rfl rfl)
theorem dX7_tiedTo_22 : decode cX7_tiedTo 22 = .ok (.invokevirtual 88, 3) := dk_182 0 88 (dk_at dksX7_tiedTo_1 0 rfl rfl)
theorem dX7_tiedTo_25 : decode cX7_tiedTo 25 = .ok (.if_icmp .ge 53, 3) := dk_162 0 53 (dk_at dksX7_tiedTo_1 3 rfl rfl)
theorem dX7_tiedTo_28 : decode cX7_tiedTo 28 = .ok (.aload_n 0, 1) := dk_42 (dk_at dksX7_tiedTo_1 6 rfl rfl)
theorem dX7_tiedTo_29 : decode cX7_tiedTo 29 = .ok (.iload_n 3, 1) := dk_29 (dk_at dksX7_tiedTo_1 7 rfl rfl)
theorem dX7_tiedTo_30 : decode cX7_tiedTo 30 = .ok (.invokevirtual 91, 3) := dk_182 0 91 (dk_at dksX7_tiedTo_1 8 rfl rfl)
theorem dX7_tiedTo_33 : decode cX7_tiedTo 33 = .ok (.ifCond .eq 12, 3) := dk_153 0 12 (dk_at dksX7_tiedTo_1 11 rfl rfl)
theorem dX7_tiedTo_36 : decode cX7_tiedTo 36 = .ok (.aload_n 0, 1) := dk_42 (dk_at dksX7_tiedTo_1 14 rfl rfl)
theorem dX7_tiedTo_37 : decode cX7_tiedTo 37 = .ok (.iconst 0, 1) := dk_3 (dk_at dksX7_tiedTo_1 15 rfl rfl)
theorem dX7_tiedTo_38 : decode cX7_tiedTo 38 = .ok (.iload_n 3, 1) := dk_29 (dk_at dksX7_tiedTo_1 16 rfl rfl)
theorem dX7_tiedTo_39 : decode cX7_tiedTo 39 = .ok (.invokevirtual 116, 3) := dk_182 0 116 (dk_at dksX7_tiedTo_1 17 rfl rfl)
theorem dX7_tiedTo_42 : decode cX7_tiedTo 42 = .ok (.goto 7, 3) := dk_167 0 7 (dk_at dksX7_tiedTo_1 20 rfl rfl)
theorem dX7_tiedTo_45 : decode cX7_tiedTo 45 = .ok (.aload_n 0, 1) := dk_42 (dk_at dksX7_tiedTo_1 23 rfl rfl)
theorem dX7_tiedTo_46 : decode cX7_tiedTo 46 = .ok (.getfield 120, 3) := dk_180 0 120 (dk_at dksX7_tiedTo_2 0 rfl rfl)
theorem dX7_tiedTo_49 : decode cX7_tiedTo 49 = .ok (.istore 4, 2) := dk_54 4 (dk_at dksX7_tiedTo_2 3 rfl rfl)
theorem dX7_tiedTo_51 : decode cX7_tiedTo 51 = .ok (.iload_n 2, 1) := dk_28 (dk_at dksX7_tiedTo_2 5 rfl rfl)
theorem dX7_tiedTo_52 : decode cX7_tiedTo 52 = .ok (.iload 4, 2) := dk_21 4 (dk_at dksX7_tiedTo_2 6 rfl rfl)
theorem dX7_tiedTo_54 : decode cX7_tiedTo 54 = .ok (.iload_n 1, 1) := dk_27 (dk_at dksX7_tiedTo_2 8 rfl rfl)
theorem dX7_tiedTo_55 : decode cX7_tiedTo 55 = .ok (.invokestatic 99, 3) := dk_184 0 99 (dk_at dksX7_tiedTo_2 9 rfl rfl)
theorem dX7_tiedTo_58 : decode cX7_tiedTo 58 = .ok (.ifCond .eq 8, 3) := dk_153 0 8 (dk_at dksX7_tiedTo_2 12 rfl rfl)
theorem dX7_tiedTo_61 : decode cX7_tiedTo 61 = .ok (.iload 4, 2) := dk_21 4 (dk_at dksX7_tiedTo_2 15 rfl rfl)
theorem dX7_tiedTo_63 : decode cX7_tiedTo 63 = .ok (.goto 7, 3) := dk_167 0 7 (dk_at dksX7_tiedTo_2 17 rfl rfl)
theorem dX7_tiedTo_66 : decode cX7_tiedTo 66 = .ok (.iload 4, 2) := dk_21 4 (dk_at dksX7_tiedTo_2 20 rfl rfl)
theorem dX7_tiedTo_68 : decode cX7_tiedTo 68 = .ok (.iconst (-1), 1) := dk_2 (dk_at dksX7_tiedTo_2 22 rfl rfl)
theorem dX7_tiedTo_69 : decode cX7_tiedTo 69 = .ok (.ixor, 1) := dk_130 (dk_at dksX7_tiedTo_2 23 rfl rfl)
theorem dX7_tiedTo_70 : decode cX7_tiedTo 70 = .ok (.iand, 1) := dk_126 (dk_at dksX7_tiedTo_3 0 rfl rfl)
theorem dX7_tiedTo_71 : decode cX7_tiedTo 71 = .ok (.istore_n 2, 1) := dk_61 (dk_at dksX7_tiedTo_3 1 rfl rfl)
theorem dX7_tiedTo_72 : decode cX7_tiedTo 72 = .ok (.iinc 3 1, 3) := dk_132 3 1 (dk_at dksX7_tiedTo_3 2 rfl rfl)
theorem dX7_tiedTo_75 : decode cX7_tiedTo 75 = .ok (.goto (-55), 3) := dk_167 255 201 (dk_at dksX7_tiedTo_3 5 rfl rfl)
theorem dX7_tiedTo_78 : decode cX7_tiedTo 78 = .ok (.iload_n 2, 1) := dk_28 (dk_at dksX7_tiedTo_3 8 rfl rfl)
theorem dX7_tiedTo_79 : decode cX7_tiedTo 79 = .ok (.ireturn, 1) := dk_172 (dk_at dksX7_tiedTo_3 9 rfl rfl)
abbrev cX7_keeps : ByteArray := prog_11_method_84_code
def yX7_keeps : MethodName := ⟨RX7, "keeps", "(II)Z"⟩
def dkwX7_keeps_1 : List UInt8 := [153, 0, 7, 4, 167, 0, 4, 3, 172]
abbrev dktX7_keeps_1 : List UInt8 := dkwX7_keeps_1 ++ []
def dkwX7_keeps_0 : List UInt8 := [42, 27, 182, 1, 47, 154, 0, 24, 42, 28, 182, 1, 47, 154, 0, 16, 42, 27, 28, 182, 1, 23]
abbrev dktX7_keeps_0 : List UInt8 := dkwX7_keeps_0 ++ dktX7_keeps_1
theorem dksX7_keeps_0 : cX7_keeps.data.toList.drop 0 = dktX7_keeps_0 := by decide +kernel
theorem dksX7_keeps_1 : cX7_keeps.data.toList.drop 22 = dktX7_keeps_1 := dk_seg dksX7_keeps_0 22 rfl rfl
theorem dX7_keeps_0 : decode cX7_keeps 0 = .ok (.aload_n 0, 1) := dk_42 (dk_at dksX7_keeps_0 0 rfl rfl)
theorem dX7_keeps_1 : decode cX7_keeps 1 = .ok (.iload_n 1, 1) := dk_27 (dk_at dksX7_keeps_0 1 rfl rfl)
theorem dX7_keeps_2 : decode cX7_keeps 2 = .ok (.invokevirtual 303, 3) := dk_182 1 47 (dk_at dksX7_keeps_0 2 rfl rfl)
theorem dX7_keeps_5 : decode cX7_keeps 5 = .ok (.ifCond .ne 24, 3) := dk_154 0 24 (dk_at dksX7_keeps_0 5 rfl rfl)
theorem dX7_keeps_8 : decode cX7_keeps 8 = .ok (.aload_n 0, 1) := dk_42 (dk_at dksX7_keeps_0 8 rfl rfl)
theorem dX7_keeps_9 : decode cX7_keeps 9 = .ok (.iload_n 2, 1) := dk_28 (dk_at dksX7_keeps_0 9 rfl rfl)
theorem dX7_keeps_10 : decode cX7_keeps 10 = .ok (.invokevirtual 303, 3) := dk_182 1 47 (dk_at dksX7_keeps_0 10 rfl rfl)
theorem dX7_keeps_13 : decode cX7_keeps 13 = .ok (.ifCond .ne 16, 3) := dk_154 0 16 (dk_at dksX7_keeps_0 13 rfl rfl)
theorem dX7_keeps_16 : decode cX7_keeps 16 = .ok (.aload_n 0, 1) := dk_42 (dk_at dksX7_keeps_0 16 rfl rfl)
theorem dX7_keeps_17 : decode cX7_keeps 17 = .ok (.iload_n 1, 1) := dk_27 (dk_at dksX7_keeps_0 17 rfl rfl)
theorem dX7_keeps_18 : decode cX7_keeps 18 = .ok (.iload_n 2, 1) := dk_28 (dk_at dksX7_keeps_0 18 rfl rfl)
theorem dX7_keeps_19 : decode cX7_keeps 19 = .ok (.invokevirtual 279, 3) := dk_182 1 23 (dk_at dksX7_keeps_0 19 rfl rfl)
theorem dX7_keeps_22 : decode cX7_keeps 22 = .ok (.ifCond .eq 7, 3) := dk_153 0 7 (dk_at dksX7_keeps_1 0 rfl rfl)
theorem dX7_keeps_25 : decode cX7_keeps 25 = .ok (.iconst 1, 1) := dk_4 (dk_at dksX7_keeps_1 3 rfl rfl)
theorem dX7_keeps_26 : decode cX7_keeps 26 = .ok (.goto 4, 3) := dk_167 0 4 (dk_at dksX7_keeps_1 4 rfl rfl)
theorem dX7_keeps_29 : decode cX7_keeps 29 = .ok (.iconst 0, 1) := dk_3 (dk_at dksX7_keeps_1 7 rfl rfl)
theorem dX7_keeps_30 : decode cX7_keeps 30 = .ok (.ireturn, 1) := dk_172 (dk_at dksX7_keeps_1 8 rfl rfl)
abbrev cX7_common : ByteArray := prog_11_method_85_code
def yX7_common : MethodName := ⟨RX7, "common", "(II)I"⟩
def dkwX7_common_5 : List UInt8 := [164, 0, 7, 21, 5, 54, 4, 132, 5, 1, 167, 255, 208, 21, 4, 172]
abbrev dktX7_common_5 : List UInt8 := dkwX7_common_5 ++ []
def dkwX7_common_4 : List UInt8 := [153, 0, 30, 21, 4, 2, 159, 0, 20, 42, 180, 0, 35, 21, 5, 46, 42, 180, 0, 35, 21, 4, 46]
abbrev dktX7_common_4 : List UInt8 := dkwX7_common_4 ++ dktX7_common_5
def dkwX7_common_3 : List UInt8 := [128, 126, 62, 2, 54, 4, 3, 54, 5, 21, 5, 42, 182, 0, 80, 162, 0, 45, 29, 21, 5, 184, 0, 99]
abbrev dktX7_common_3 : List UInt8 := dkwX7_common_3 ++ dktX7_common_4
def dkwX7_common_2 : List UInt8 := [167, 0, 4, 2, 172, 42, 180, 0, 32, 27, 46, 4, 27, 120, 128, 42, 180, 0, 32, 28, 46, 4, 28, 120]
abbrev dktX7_common_2 : List UInt8 := dkwX7_common_2 ++ dktX7_common_3
def dkwX7_common_1 : List UInt8 := [153, 0, 14, 42, 180, 0, 120, 28, 184, 0, 99, 154, 0, 16, 42, 180, 0, 1, 158, 0, 7, 3]
abbrev dktX7_common_1 : List UInt8 := dkwX7_common_1 ++ dktX7_common_2
def dkwX7_common_0 : List UInt8 := [42, 27, 182, 1, 47, 154, 0, 33, 42, 28, 182, 1, 47, 154, 0, 25, 42, 180, 0, 120, 27, 184, 0, 99]
abbrev dktX7_common_0 : List UInt8 := dkwX7_common_0 ++ dktX7_common_1
theorem dksX7_common_0 : cX7_common.data.toList.drop 0 = dktX7_common_0 := by decide +kernel
theorem dksX7_common_1 : cX7_common.data.toList.drop 24 = dktX7_common_1 := dk_seg dksX7_common_0 24 rfl rfl
theorem dksX7_common_2 : cX7_common.data.toList.drop 46 = dktX7_common_2 := dk_seg dksX7_common_1 22 rfl rfl
theorem dksX7_common_3 : cX7_common.data.toList.drop 70 = dktX7_common_3 := dk_seg dksX7_common_2 24 rfl rfl
theorem dksX7_common_4 : cX7_common.data.toList.drop 94 = dktX7_common_4 := dk_seg dksX7_common_3 24 rfl rfl
theorem dksX7_common_5 : cX7_common.data.toList.drop 117 = dktX7_common_5 := dk_seg dksX7_common_4 23 rfl rfl
theorem dX7_common_0 : decode cX7_common 0 = .ok (.aload_n 0, 1) := dk_42 (dk_at dksX7_common_0 0 rfl rfl)
theorem dX7_common_1 : decode cX7_common 1 = .ok (.iload_n 1, 1) := dk_27 (dk_at dksX7_common_0 1 rfl rfl)
theorem dX7_common_2 : decode cX7_common 2 = .ok (.invokevirtual 303, 3) := dk_182 1 47 (dk_at dksX7_common_0 2 rfl rfl)
theorem dX7_common_5 : decode cX7_common 5 = .ok (.ifCond .ne 33, 3) := dk_154 0 33 (dk_at dksX7_common_0 5 rfl rfl)
theorem dX7_common_8 : decode cX7_common 8 = .ok (.aload_n 0, 1) := dk_42 (dk_at dksX7_common_0 8 rfl rfl)
theorem dX7_common_9 : decode cX7_common 9 = .ok (.iload_n 2, 1) := dk_28 (dk_at dksX7_common_0 9 rfl rfl)
theorem dX7_common_10 : decode cX7_common 10 = .ok (.invokevirtual 303, 3) := dk_182 1 47 (dk_at dksX7_common_0 10 rfl rfl)
theorem dX7_common_13 : decode cX7_common 13 = .ok (.ifCond .ne 25, 3) := dk_154 0 25 (dk_at dksX7_common_0 13 rfl rfl)
theorem dX7_common_16 : decode cX7_common 16 = .ok (.aload_n 0, 1) := dk_42 (dk_at dksX7_common_0 16 rfl rfl)
theorem dX7_common_17 : decode cX7_common 17 = .ok (.getfield 120, 3) := dk_180 0 120 (dk_at dksX7_common_0 17 rfl rfl)
theorem dX7_common_20 : decode cX7_common 20 = .ok (.iload_n 1, 1) := dk_27 (dk_at dksX7_common_0 20 rfl rfl)
theorem dX7_common_21 : decode cX7_common 21 = .ok (.invokestatic 99, 3) := dk_184 0 99 (dk_at dksX7_common_0 21 rfl rfl)
theorem dX7_common_24 : decode cX7_common 24 = .ok (.ifCond .eq 14, 3) := dk_153 0 14 (dk_at dksX7_common_1 0 rfl rfl)
theorem dX7_common_27 : decode cX7_common 27 = .ok (.aload_n 0, 1) := dk_42 (dk_at dksX7_common_1 3 rfl rfl)
theorem dX7_common_28 : decode cX7_common 28 = .ok (.getfield 120, 3) := dk_180 0 120 (dk_at dksX7_common_1 4 rfl rfl)
theorem dX7_common_31 : decode cX7_common 31 = .ok (.iload_n 2, 1) := dk_28 (dk_at dksX7_common_1 7 rfl rfl)
theorem dX7_common_32 : decode cX7_common 32 = .ok (.invokestatic 99, 3) := dk_184 0 99 (dk_at dksX7_common_1 8 rfl rfl)
theorem dX7_common_35 : decode cX7_common 35 = .ok (.ifCond .ne 16, 3) := dk_154 0 16 (dk_at dksX7_common_1 11 rfl rfl)
theorem dX7_common_38 : decode cX7_common 38 = .ok (.aload_n 0, 1) := dk_42 (dk_at dksX7_common_1 14 rfl rfl)
theorem dX7_common_39 : decode cX7_common 39 = .ok (.getfield 1, 3) := dk_180 0 1 (dk_at dksX7_common_1 15 rfl rfl)
theorem dX7_common_42 : decode cX7_common 42 = .ok (.ifCond .le 7, 3) := dk_158 0 7 (dk_at dksX7_common_1 18 rfl rfl)
theorem dX7_common_45 : decode cX7_common 45 = .ok (.iconst 0, 1) := dk_3 (dk_at dksX7_common_1 21 rfl rfl)
theorem dX7_common_46 : decode cX7_common 46 = .ok (.goto 4, 3) := dk_167 0 4 (dk_at dksX7_common_2 0 rfl rfl)
theorem dX7_common_49 : decode cX7_common 49 = .ok (.iconst (-1), 1) := dk_2 (dk_at dksX7_common_2 3 rfl rfl)
theorem dX7_common_50 : decode cX7_common 50 = .ok (.ireturn, 1) := dk_172 (dk_at dksX7_common_2 4 rfl rfl)
theorem dX7_common_51 : decode cX7_common 51 = .ok (.aload_n 0, 1) := dk_42 (dk_at dksX7_common_2 5 rfl rfl)
theorem dX7_common_52 : decode cX7_common 52 = .ok (.getfield 32, 3) := dk_180 0 32 (dk_at dksX7_common_2 6 rfl rfl)
theorem dX7_common_55 : decode cX7_common 55 = .ok (.iload_n 1, 1) := dk_27 (dk_at dksX7_common_2 9 rfl rfl)
theorem dX7_common_56 : decode cX7_common 56 = .ok (.iaload, 1) := dk_46 (dk_at dksX7_common_2 10 rfl rfl)
theorem dX7_common_57 : decode cX7_common 57 = .ok (.iconst 1, 1) := dk_4 (dk_at dksX7_common_2 11 rfl rfl)
theorem dX7_common_58 : decode cX7_common 58 = .ok (.iload_n 1, 1) := dk_27 (dk_at dksX7_common_2 12 rfl rfl)
theorem dX7_common_59 : decode cX7_common 59 = .ok (.ishl, 1) := dk_120 (dk_at dksX7_common_2 13 rfl rfl)
theorem dX7_common_60 : decode cX7_common 60 = .ok (.ior, 1) := dk_128 (dk_at dksX7_common_2 14 rfl rfl)
theorem dX7_common_61 : decode cX7_common 61 = .ok (.aload_n 0, 1) := dk_42 (dk_at dksX7_common_2 15 rfl rfl)
theorem dX7_common_62 : decode cX7_common 62 = .ok (.getfield 32, 3) := dk_180 0 32 (dk_at dksX7_common_2 16 rfl rfl)
theorem dX7_common_65 : decode cX7_common 65 = .ok (.iload_n 2, 1) := dk_28 (dk_at dksX7_common_2 19 rfl rfl)
theorem dX7_common_66 : decode cX7_common 66 = .ok (.iaload, 1) := dk_46 (dk_at dksX7_common_2 20 rfl rfl)
theorem dX7_common_67 : decode cX7_common 67 = .ok (.iconst 1, 1) := dk_4 (dk_at dksX7_common_2 21 rfl rfl)
theorem dX7_common_68 : decode cX7_common 68 = .ok (.iload_n 2, 1) := dk_28 (dk_at dksX7_common_2 22 rfl rfl)
theorem dX7_common_69 : decode cX7_common 69 = .ok (.ishl, 1) := dk_120 (dk_at dksX7_common_2 23 rfl rfl)
theorem dX7_common_70 : decode cX7_common 70 = .ok (.ior, 1) := dk_128 (dk_at dksX7_common_3 0 rfl rfl)
theorem dX7_common_71 : decode cX7_common 71 = .ok (.iand, 1) := dk_126 (dk_at dksX7_common_3 1 rfl rfl)
theorem dX7_common_72 : decode cX7_common 72 = .ok (.istore_n 3, 1) := dk_62 (dk_at dksX7_common_3 2 rfl rfl)
theorem dX7_common_73 : decode cX7_common 73 = .ok (.iconst (-1), 1) := dk_2 (dk_at dksX7_common_3 3 rfl rfl)
theorem dX7_common_74 : decode cX7_common 74 = .ok (.istore 4, 2) := dk_54 4 (dk_at dksX7_common_3 4 rfl rfl)
theorem dX7_common_76 : decode cX7_common 76 = .ok (.iconst 0, 1) := dk_3 (dk_at dksX7_common_3 6 rfl rfl)
theorem dX7_common_77 : decode cX7_common 77 = .ok (.istore 5, 2) := dk_54 5 (dk_at dksX7_common_3 7 rfl rfl)
theorem dX7_common_79 : decode cX7_common 79 = .ok (.iload 5, 2) := dk_21 5 (dk_at dksX7_common_3 9 rfl rfl)
theorem dX7_common_81 : decode cX7_common 81 = .ok (.aload_n 0, 1) := dk_42 (dk_at dksX7_common_3 11 rfl rfl)
theorem dX7_common_82 : decode cX7_common 82 = .ok (.invokevirtual 80, 3) := dk_182 0 80 (dk_at dksX7_common_3 12 rfl rfl)
theorem dX7_common_85 : decode cX7_common 85 = .ok (.if_icmp .ge 45, 3) := dk_162 0 45 (dk_at dksX7_common_3 15 rfl rfl)
theorem dX7_common_88 : decode cX7_common 88 = .ok (.iload_n 3, 1) := dk_29 (dk_at dksX7_common_3 18 rfl rfl)
theorem dX7_common_89 : decode cX7_common 89 = .ok (.iload 5, 2) := dk_21 5 (dk_at dksX7_common_3 19 rfl rfl)
theorem dX7_common_91 : decode cX7_common 91 = .ok (.invokestatic 99, 3) := dk_184 0 99 (dk_at dksX7_common_3 21 rfl rfl)
theorem dX7_common_94 : decode cX7_common 94 = .ok (.ifCond .eq 30, 3) := dk_153 0 30 (dk_at dksX7_common_4 0 rfl rfl)
theorem dX7_common_97 : decode cX7_common 97 = .ok (.iload 4, 2) := dk_21 4 (dk_at dksX7_common_4 3 rfl rfl)
theorem dX7_common_99 : decode cX7_common 99 = .ok (.iconst (-1), 1) := dk_2 (dk_at dksX7_common_4 5 rfl rfl)
theorem dX7_common_100 : decode cX7_common 100 = .ok (.if_icmp .eq 20, 3) := dk_159 0 20 (dk_at dksX7_common_4 6 rfl rfl)
theorem dX7_common_103 : decode cX7_common 103 = .ok (.aload_n 0, 1) := dk_42 (dk_at dksX7_common_4 9 rfl rfl)
theorem dX7_common_104 : decode cX7_common 104 = .ok (.getfield 35, 3) := dk_180 0 35 (dk_at dksX7_common_4 10 rfl rfl)
theorem dX7_common_107 : decode cX7_common 107 = .ok (.iload 5, 2) := dk_21 5 (dk_at dksX7_common_4 13 rfl rfl)
theorem dX7_common_109 : decode cX7_common 109 = .ok (.iaload, 1) := dk_46 (dk_at dksX7_common_4 15 rfl rfl)
theorem dX7_common_110 : decode cX7_common 110 = .ok (.aload_n 0, 1) := dk_42 (dk_at dksX7_common_4 16 rfl rfl)
theorem dX7_common_111 : decode cX7_common 111 = .ok (.getfield 35, 3) := dk_180 0 35 (dk_at dksX7_common_4 17 rfl rfl)
theorem dX7_common_114 : decode cX7_common 114 = .ok (.iload 4, 2) := dk_21 4 (dk_at dksX7_common_4 20 rfl rfl)
theorem dX7_common_116 : decode cX7_common 116 = .ok (.iaload, 1) := dk_46 (dk_at dksX7_common_4 22 rfl rfl)
theorem dX7_common_117 : decode cX7_common 117 = .ok (.if_icmp .le 7, 3) := dk_164 0 7 (dk_at dksX7_common_5 0 rfl rfl)
theorem dX7_common_120 : decode cX7_common 120 = .ok (.iload 5, 2) := dk_21 5 (dk_at dksX7_common_5 3 rfl rfl)
theorem dX7_common_122 : decode cX7_common 122 = .ok (.istore 4, 2) := dk_54 4 (dk_at dksX7_common_5 5 rfl rfl)
theorem dX7_common_124 : decode cX7_common 124 = .ok (.iinc 5 1, 3) := dk_132 5 1 (dk_at dksX7_common_5 7 rfl rfl)
theorem dX7_common_127 : decode cX7_common 127 = .ok (.goto (-48), 3) := dk_167 255 208 (dk_at dksX7_common_5 10 rfl rfl)
theorem dX7_common_130 : decode cX7_common 130 = .ok (.iload 4, 2) := dk_21 4 (dk_at dksX7_common_5 13 rfl rfl)
theorem dX7_common_132 : decode cX7_common 132 = .ok (.ireturn, 1) := dk_172 (dk_at dksX7_common_5 15 rfl rfl)
abbrev cX7_walk : ByteArray := prog_11_method_87_code
def yX7_walk : MethodName := ⟨RX7, "walk", "(I)I"⟩
def dkwX7_walk_1 : List UInt8 := [29, 27, 162, 0, 20, 28, 2, 159, 0, 15, 42, 28, 182, 1, 89, 61, 132, 3, 1, 167, 255, 237, 28, 172]
abbrev dktX7_walk_1 : List UInt8 := dkwX7_walk_1 ++ []
def dkwX7_walk_0 : List UInt8 := [42, 3, 181, 0, 1, 42, 182, 0, 126, 27, 156, 0, 7, 2, 167, 0, 7, 42, 182, 0, 109, 61, 3, 62]
abbrev dktX7_walk_0 : List UInt8 := dkwX7_walk_0 ++ dktX7_walk_1
theorem dksX7_walk_0 : cX7_walk.data.toList.drop 0 = dktX7_walk_0 := by decide +kernel
theorem dksX7_walk_1 : cX7_walk.data.toList.drop 24 = dktX7_walk_1 := dk_seg dksX7_walk_0 24 rfl rfl
theorem dX7_walk_0 : decode cX7_walk 0 = .ok (.aload_n 0, 1) := dk_42 (dk_at dksX7_walk_0 0 rfl rfl)
theorem dX7_walk_1 : decode cX7_walk 1 = .ok (.iconst 0, 1) := dk_3 (dk_at dksX7_walk_0 1 rfl rfl)
theorem dX7_walk_2 : decode cX7_walk 2 = .ok (.putfield 1, 3) := dk_181 0 1 (dk_at dksX7_walk_0 2 rfl rfl)
theorem dX7_walk_5 : decode cX7_walk 5 = .ok (.aload_n 0, 1) := dk_42 (dk_at dksX7_walk_0 5 rfl rfl)
theorem dX7_walk_6 : decode cX7_walk 6 = .ok (.invokevirtual 126, 3) := dk_182 0 126 (dk_at dksX7_walk_0 6 rfl rfl)
theorem dX7_walk_9 : decode cX7_walk 9 = .ok (.iload_n 1, 1) := dk_27 (dk_at dksX7_walk_0 9 rfl rfl)
theorem dX7_walk_10 : decode cX7_walk 10 = .ok (.ifCond .ge 7, 3) := dk_156 0 7 (dk_at dksX7_walk_0 10 rfl rfl)
theorem dX7_walk_13 : decode cX7_walk 13 = .ok (.iconst (-1), 1) := dk_2 (dk_at dksX7_walk_0 13 rfl rfl)
theorem dX7_walk_14 : decode cX7_walk 14 = .ok (.goto 7, 3) := dk_167 0 7 (dk_at dksX7_walk_0 14 rfl rfl)
theorem dX7_walk_17 : decode cX7_walk 17 = .ok (.aload_n 0, 1) := dk_42 (dk_at dksX7_walk_0 17 rfl rfl)
theorem dX7_walk_18 : decode cX7_walk 18 = .ok (.invokevirtual 109, 3) := dk_182 0 109 (dk_at dksX7_walk_0 18 rfl rfl)
theorem dX7_walk_21 : decode cX7_walk 21 = .ok (.istore_n 2, 1) := dk_61 (dk_at dksX7_walk_0 21 rfl rfl)
theorem dX7_walk_22 : decode cX7_walk 22 = .ok (.iconst 0, 1) := dk_3 (dk_at dksX7_walk_0 22 rfl rfl)
theorem dX7_walk_23 : decode cX7_walk 23 = .ok (.istore_n 3, 1) := dk_62 (dk_at dksX7_walk_0 23 rfl rfl)
theorem dX7_walk_24 : decode cX7_walk 24 = .ok (.iload_n 3, 1) := dk_29 (dk_at dksX7_walk_1 0 rfl rfl)
theorem dX7_walk_25 : decode cX7_walk 25 = .ok (.iload_n 1, 1) := dk_27 (dk_at dksX7_walk_1 1 rfl rfl)
theorem dX7_walk_26 : decode cX7_walk 26 = .ok (.if_icmp .ge 20, 3) := dk_162 0 20 (dk_at dksX7_walk_1 2 rfl rfl)
theorem dX7_walk_29 : decode cX7_walk 29 = .ok (.iload_n 2, 1) := dk_28 (dk_at dksX7_walk_1 5 rfl rfl)
theorem dX7_walk_30 : decode cX7_walk 30 = .ok (.iconst (-1), 1) := dk_2 (dk_at dksX7_walk_1 6 rfl rfl)
theorem dX7_walk_31 : decode cX7_walk 31 = .ok (.if_icmp .eq 15, 3) := dk_159 0 15 (dk_at dksX7_walk_1 7 rfl rfl)
theorem dX7_walk_34 : decode cX7_walk 34 = .ok (.aload_n 0, 1) := dk_42 (dk_at dksX7_walk_1 10 rfl rfl)
theorem dX7_walk_35 : decode cX7_walk 35 = .ok (.iload_n 2, 1) := dk_28 (dk_at dksX7_walk_1 11 rfl rfl)
theorem dX7_walk_36 : decode cX7_walk 36 = .ok (.invokevirtual 345, 3) := dk_182 1 89 (dk_at dksX7_walk_1 12 rfl rfl)
theorem dX7_walk_39 : decode cX7_walk 39 = .ok (.istore_n 2, 1) := dk_61 (dk_at dksX7_walk_1 15 rfl rfl)
theorem dX7_walk_40 : decode cX7_walk 40 = .ok (.iinc 3 1, 3) := dk_132 3 1 (dk_at dksX7_walk_1 16 rfl rfl)
theorem dX7_walk_43 : decode cX7_walk 43 = .ok (.goto (-19), 3) := dk_167 255 237 (dk_at dksX7_walk_1 19 rfl rfl)
theorem dX7_walk_46 : decode cX7_walk 46 = .ok (.iload_n 2, 1) := dk_28 (dk_at dksX7_walk_1 22 rfl rfl)
theorem dX7_walk_47 : decode cX7_walk 47 = .ok (.ireturn, 1) := dk_172 (dk_at dksX7_walk_1 23 rfl rfl)
abbrev cX7_nextOf : ByteArray := prog_11_method_86_code
def yX7_nextOf : MethodName := ⟨RX7, "nextOf", "(I)I"⟩
def dkwX7_nextOf_3 : List UInt8 := [160, 0, 6, 21, 4, 172, 132, 4, 1, 167, 255, 225, 42, 180, 0, 38, 29, 46, 62, 167, 255, 200, 2, 172]
abbrev dktX7_nextOf_3 : List UInt8 := dkwX7_nextOf_3 ++ []
def dkwX7_nextOf_2 : List UInt8 := [54, 4, 21, 4, 42, 182, 0, 80, 162, 0, 28, 42, 180, 0, 38, 21, 4, 46, 42, 180, 0, 38, 29, 46]
abbrev dktX7_nextOf_2 : List UInt8 := dkwX7_nextOf_2 ++ dktX7_nextOf_3
def dkwX7_nextOf_1 : List UInt8 := [29, 172, 132, 3, 1, 167, 255, 235, 27, 62, 42, 180, 0, 38, 29, 46, 2, 159, 0, 52, 29, 4, 96]
abbrev dktX7_nextOf_1 : List UInt8 := dkwX7_nextOf_1 ++ dktX7_nextOf_2
def dkwX7_nextOf_0 : List UInt8 := [42, 27, 182, 1, 56, 61, 3, 62, 29, 42, 182, 0, 80, 162, 0, 19, 28, 29, 184, 0, 99, 153, 0, 5]
abbrev dktX7_nextOf_0 : List UInt8 := dkwX7_nextOf_0 ++ dktX7_nextOf_1
theorem dksX7_nextOf_0 : cX7_nextOf.data.toList.drop 0 = dktX7_nextOf_0 := by decide +kernel
theorem dksX7_nextOf_1 : cX7_nextOf.data.toList.drop 24 = dktX7_nextOf_1 := dk_seg dksX7_nextOf_0 24 rfl rfl
theorem dksX7_nextOf_2 : cX7_nextOf.data.toList.drop 47 = dktX7_nextOf_2 := dk_seg dksX7_nextOf_1 23 rfl rfl
theorem dksX7_nextOf_3 : cX7_nextOf.data.toList.drop 71 = dktX7_nextOf_3 := dk_seg dksX7_nextOf_2 24 rfl rfl
theorem dX7_nextOf_0 : decode cX7_nextOf 0 = .ok (.aload_n 0, 1) := dk_42 (dk_at dksX7_nextOf_0 0 rfl rfl)
theorem dX7_nextOf_1 : decode cX7_nextOf 1 = .ok (.iload_n 1, 1) := dk_27 (dk_at dksX7_nextOf_0 1 rfl rfl)
theorem dX7_nextOf_2 : decode cX7_nextOf 2 = .ok (.invokevirtual 312, 3) := dk_182 1 56 (dk_at dksX7_nextOf_0 2 rfl rfl)
theorem dX7_nextOf_5 : decode cX7_nextOf 5 = .ok (.istore_n 2, 1) := dk_61 (dk_at dksX7_nextOf_0 5 rfl rfl)
theorem dX7_nextOf_6 : decode cX7_nextOf 6 = .ok (.iconst 0, 1) := dk_3 (dk_at dksX7_nextOf_0 6 rfl rfl)
theorem dX7_nextOf_7 : decode cX7_nextOf 7 = .ok (.istore_n 3, 1) := dk_62 (dk_at dksX7_nextOf_0 7 rfl rfl)
theorem dX7_nextOf_8 : decode cX7_nextOf 8 = .ok (.iload_n 3, 1) := dk_29 (dk_at dksX7_nextOf_0 8 rfl rfl)
theorem dX7_nextOf_9 : decode cX7_nextOf 9 = .ok (.aload_n 0, 1) := dk_42 (dk_at dksX7_nextOf_0 9 rfl rfl)
theorem dX7_nextOf_10 : decode cX7_nextOf 10 = .ok (.invokevirtual 80, 3) := dk_182 0 80 (dk_at dksX7_nextOf_0 10 rfl rfl)
theorem dX7_nextOf_13 : decode cX7_nextOf 13 = .ok (.if_icmp .ge 19, 3) := dk_162 0 19 (dk_at dksX7_nextOf_0 13 rfl rfl)
theorem dX7_nextOf_16 : decode cX7_nextOf 16 = .ok (.iload_n 2, 1) := dk_28 (dk_at dksX7_nextOf_0 16 rfl rfl)
theorem dX7_nextOf_17 : decode cX7_nextOf 17 = .ok (.iload_n 3, 1) := dk_29 (dk_at dksX7_nextOf_0 17 rfl rfl)
theorem dX7_nextOf_18 : decode cX7_nextOf 18 = .ok (.invokestatic 99, 3) := dk_184 0 99 (dk_at dksX7_nextOf_0 18 rfl rfl)
theorem dX7_nextOf_21 : decode cX7_nextOf 21 = .ok (.ifCond .eq 5, 3) := dk_153 0 5 (dk_at dksX7_nextOf_0 21 rfl rfl)
theorem dX7_nextOf_24 : decode cX7_nextOf 24 = .ok (.iload_n 3, 1) := dk_29 (dk_at dksX7_nextOf_1 0 rfl rfl)
theorem dX7_nextOf_25 : decode cX7_nextOf 25 = .ok (.ireturn, 1) := dk_172 (dk_at dksX7_nextOf_1 1 rfl rfl)
theorem dX7_nextOf_26 : decode cX7_nextOf 26 = .ok (.iinc 3 1, 3) := dk_132 3 1 (dk_at dksX7_nextOf_1 2 rfl rfl)
theorem dX7_nextOf_29 : decode cX7_nextOf 29 = .ok (.goto (-21), 3) := dk_167 255 235 (dk_at dksX7_nextOf_1 5 rfl rfl)
theorem dX7_nextOf_32 : decode cX7_nextOf 32 = .ok (.iload_n 1, 1) := dk_27 (dk_at dksX7_nextOf_1 8 rfl rfl)
theorem dX7_nextOf_33 : decode cX7_nextOf 33 = .ok (.istore_n 3, 1) := dk_62 (dk_at dksX7_nextOf_1 9 rfl rfl)
theorem dX7_nextOf_34 : decode cX7_nextOf 34 = .ok (.aload_n 0, 1) := dk_42 (dk_at dksX7_nextOf_1 10 rfl rfl)
theorem dX7_nextOf_35 : decode cX7_nextOf 35 = .ok (.getfield 38, 3) := dk_180 0 38 (dk_at dksX7_nextOf_1 11 rfl rfl)
theorem dX7_nextOf_38 : decode cX7_nextOf 38 = .ok (.iload_n 3, 1) := dk_29 (dk_at dksX7_nextOf_1 14 rfl rfl)
theorem dX7_nextOf_39 : decode cX7_nextOf 39 = .ok (.iaload, 1) := dk_46 (dk_at dksX7_nextOf_1 15 rfl rfl)
theorem dX7_nextOf_40 : decode cX7_nextOf 40 = .ok (.iconst (-1), 1) := dk_2 (dk_at dksX7_nextOf_1 16 rfl rfl)
theorem dX7_nextOf_41 : decode cX7_nextOf 41 = .ok (.if_icmp .eq 52, 3) := dk_159 0 52 (dk_at dksX7_nextOf_1 17 rfl rfl)
theorem dX7_nextOf_44 : decode cX7_nextOf 44 = .ok (.iload_n 3, 1) := dk_29 (dk_at dksX7_nextOf_1 20 rfl rfl)
theorem dX7_nextOf_45 : decode cX7_nextOf 45 = .ok (.iconst 1, 1) := dk_4 (dk_at dksX7_nextOf_1 21 rfl rfl)
theorem dX7_nextOf_46 : decode cX7_nextOf 46 = .ok (.iadd, 1) := dk_96 (dk_at dksX7_nextOf_1 22 rfl rfl)
theorem dX7_nextOf_47 : decode cX7_nextOf 47 = .ok (.istore 4, 2) := dk_54 4 (dk_at dksX7_nextOf_2 0 rfl rfl)
theorem dX7_nextOf_49 : decode cX7_nextOf 49 = .ok (.iload 4, 2) := dk_21 4 (dk_at dksX7_nextOf_2 2 rfl rfl)
theorem dX7_nextOf_51 : decode cX7_nextOf 51 = .ok (.aload_n 0, 1) := dk_42 (dk_at dksX7_nextOf_2 4 rfl rfl)
theorem dX7_nextOf_52 : decode cX7_nextOf 52 = .ok (.invokevirtual 80, 3) := dk_182 0 80 (dk_at dksX7_nextOf_2 5 rfl rfl)
theorem dX7_nextOf_55 : decode cX7_nextOf 55 = .ok (.if_icmp .ge 28, 3) := dk_162 0 28 (dk_at dksX7_nextOf_2 8 rfl rfl)
theorem dX7_nextOf_58 : decode cX7_nextOf 58 = .ok (.aload_n 0, 1) := dk_42 (dk_at dksX7_nextOf_2 11 rfl rfl)
theorem dX7_nextOf_59 : decode cX7_nextOf 59 = .ok (.getfield 38, 3) := dk_180 0 38 (dk_at dksX7_nextOf_2 12 rfl rfl)
theorem dX7_nextOf_62 : decode cX7_nextOf 62 = .ok (.iload 4, 2) := dk_21 4 (dk_at dksX7_nextOf_2 15 rfl rfl)
theorem dX7_nextOf_64 : decode cX7_nextOf 64 = .ok (.iaload, 1) := dk_46 (dk_at dksX7_nextOf_2 17 rfl rfl)
theorem dX7_nextOf_65 : decode cX7_nextOf 65 = .ok (.aload_n 0, 1) := dk_42 (dk_at dksX7_nextOf_2 18 rfl rfl)
theorem dX7_nextOf_66 : decode cX7_nextOf 66 = .ok (.getfield 38, 3) := dk_180 0 38 (dk_at dksX7_nextOf_2 19 rfl rfl)
theorem dX7_nextOf_69 : decode cX7_nextOf 69 = .ok (.iload_n 3, 1) := dk_29 (dk_at dksX7_nextOf_2 22 rfl rfl)
theorem dX7_nextOf_70 : decode cX7_nextOf 70 = .ok (.iaload, 1) := dk_46 (dk_at dksX7_nextOf_2 23 rfl rfl)
theorem dX7_nextOf_71 : decode cX7_nextOf 71 = .ok (.if_icmp .ne 6, 3) := dk_160 0 6 (dk_at dksX7_nextOf_3 0 rfl rfl)
theorem dX7_nextOf_74 : decode cX7_nextOf 74 = .ok (.iload 4, 2) := dk_21 4 (dk_at dksX7_nextOf_3 3 rfl rfl)
theorem dX7_nextOf_76 : decode cX7_nextOf 76 = .ok (.ireturn, 1) := dk_172 (dk_at dksX7_nextOf_3 5 rfl rfl)
theorem dX7_nextOf_77 : decode cX7_nextOf 77 = .ok (.iinc 4 1, 3) := dk_132 4 1 (dk_at dksX7_nextOf_3 6 rfl rfl)
theorem dX7_nextOf_80 : decode cX7_nextOf 80 = .ok (.goto (-31), 3) := dk_167 255 225 (dk_at dksX7_nextOf_3 9 rfl rfl)
theorem dX7_nextOf_83 : decode cX7_nextOf 83 = .ok (.aload_n 0, 1) := dk_42 (dk_at dksX7_nextOf_3 12 rfl rfl)
theorem dX7_nextOf_84 : decode cX7_nextOf 84 = .ok (.getfield 38, 3) := dk_180 0 38 (dk_at dksX7_nextOf_3 13 rfl rfl)
theorem dX7_nextOf_87 : decode cX7_nextOf 87 = .ok (.iload_n 3, 1) := dk_29 (dk_at dksX7_nextOf_3 16 rfl rfl)
theorem dX7_nextOf_88 : decode cX7_nextOf 88 = .ok (.iaload, 1) := dk_46 (dk_at dksX7_nextOf_3 17 rfl rfl)
theorem dX7_nextOf_89 : decode cX7_nextOf 89 = .ok (.istore_n 3, 1) := dk_62 (dk_at dksX7_nextOf_3 18 rfl rfl)
theorem dX7_nextOf_90 : decode cX7_nextOf 90 = .ok (.goto (-56), 3) := dk_167 255 200 (dk_at dksX7_nextOf_3 19 rfl rfl)
theorem dX7_nextOf_93 : decode cX7_nextOf 93 = .ok (.iconst (-1), 1) := dk_2 (dk_at dksX7_nextOf_3 22 rfl rfl)
theorem dX7_nextOf_94 : decode cX7_nextOf 94 = .ok (.ireturn, 1) := dk_172 (dk_at dksX7_nextOf_3 23 rfl rfl)
abbrev cX7_arc : ByteArray := prog_11_method_90_code
def yX7_arc : MethodName := ⟨RX7, "arc", "(II)I"⟩
def dkwX7_arc_5 : List UInt8 := [27, 182, 1, 92, 172, 42, 27, 182, 1, 95, 153, 0, 7, 4, 167, 0, 4, 3, 172]
abbrev dktX7_arc_5 : List UInt8 := dkwX7_arc_5 ++ []
def dkwX7_arc_4 : List UInt8 := [42, 27, 182, 0, 95, 172, 42, 27, 182, 0, 103, 172, 42, 180, 0, 13, 17, 0, 140, 27, 96, 46, 172, 42]
abbrev dktX7_arc_4 : List UInt8 := dkwX7_arc_4 ++ dktX7_arc_5
def dkwX7_arc_3 : List UInt8 := [170, 0, 0, 0, 58, 0, 0, 0, 0, 0, 0, 0, 3, 0, 0, 0, 29, 0, 0, 0, 35, 0, 0, 0, 41, 0, 0, 0, 52]
abbrev dktX7_arc_3 : List UInt8 := dkwX7_arc_3 ++ dktX7_arc_4
def dkwX7_arc_2 : List UInt8 := [182, 0, 157, 153, 0, 5, 3, 172, 28]
abbrev dktX7_arc_2 : List UInt8 := dkwX7_arc_2 ++ dktX7_arc_3
def dkwX7_arc_1 : List UInt8 := [182, 0, 157, 154, 0, 25, 42, 28, 3, 7, 184, 0, 84, 154, 0, 7, 4, 167, 0, 4, 3, 5]
abbrev dktX7_arc_1 : List UInt8 := dkwX7_arc_1 ++ dktX7_arc_2
def dkwX7_arc_0 : List UInt8 := [42, 3, 181, 0, 1, 42, 182, 0, 126, 42, 42, 27, 182, 0, 174, 154, 0, 7, 4, 167, 0, 4, 3, 4]
abbrev dktX7_arc_0 : List UInt8 := dkwX7_arc_0 ++ dktX7_arc_1
theorem dksX7_arc_0 : cX7_arc.data.toList.drop 0 = dktX7_arc_0 := by decide +kernel
theorem dksX7_arc_1 : cX7_arc.data.toList.drop 24 = dktX7_arc_1 := dk_seg dksX7_arc_0 24 rfl rfl
theorem dksX7_arc_2 : cX7_arc.data.toList.drop 46 = dktX7_arc_2 := dk_seg dksX7_arc_1 22 rfl rfl
theorem dksX7_arc_3 : cX7_arc.data.toList.drop 55 = dktX7_arc_3 := dk_seg dksX7_arc_2 9 rfl rfl
theorem dksX7_arc_4 : cX7_arc.data.toList.drop 84 = dktX7_arc_4 := dk_seg dksX7_arc_3 29 rfl rfl
theorem dksX7_arc_5 : cX7_arc.data.toList.drop 108 = dktX7_arc_5 := dk_seg dksX7_arc_4 24 rfl rfl
theorem dX7_arc_0 : decode cX7_arc 0 = .ok (.aload_n 0, 1) := dk_42 (dk_at dksX7_arc_0 0 rfl rfl)
theorem dX7_arc_1 : decode cX7_arc 1 = .ok (.iconst 0, 1) := dk_3 (dk_at dksX7_arc_0 1 rfl rfl)
theorem dX7_arc_2 : decode cX7_arc 2 = .ok (.putfield 1, 3) := dk_181 0 1 (dk_at dksX7_arc_0 2 rfl rfl)
theorem dX7_arc_5 : decode cX7_arc 5 = .ok (.aload_n 0, 1) := dk_42 (dk_at dksX7_arc_0 5 rfl rfl)
theorem dX7_arc_6 : decode cX7_arc 6 = .ok (.invokevirtual 126, 3) := dk_182 0 126 (dk_at dksX7_arc_0 6 rfl rfl)
theorem dX7_arc_9 : decode cX7_arc 9 = .ok (.aload_n 0, 1) := dk_42 (dk_at dksX7_arc_0 9 rfl rfl)
theorem dX7_arc_10 : decode cX7_arc 10 = .ok (.aload_n 0, 1) := dk_42 (dk_at dksX7_arc_0 10 rfl rfl)
theorem dX7_arc_11 : decode cX7_arc 11 = .ok (.iload_n 1, 1) := dk_27 (dk_at dksX7_arc_0 11 rfl rfl)
theorem dX7_arc_12 : decode cX7_arc 12 = .ok (.invokevirtual 174, 3) := dk_182 0 174 (dk_at dksX7_arc_0 12 rfl rfl)
theorem dX7_arc_15 : decode cX7_arc 15 = .ok (.ifCond .ne 7, 3) := dk_154 0 7 (dk_at dksX7_arc_0 15 rfl rfl)
theorem dX7_arc_18 : decode cX7_arc 18 = .ok (.iconst 1, 1) := dk_4 (dk_at dksX7_arc_0 18 rfl rfl)
theorem dX7_arc_19 : decode cX7_arc 19 = .ok (.goto 4, 3) := dk_167 0 4 (dk_at dksX7_arc_0 19 rfl rfl)
theorem dX7_arc_22 : decode cX7_arc 22 = .ok (.iconst 0, 1) := dk_3 (dk_at dksX7_arc_0 22 rfl rfl)
theorem dX7_arc_23 : decode cX7_arc 23 = .ok (.iconst 1, 1) := dk_4 (dk_at dksX7_arc_0 23 rfl rfl)
theorem dX7_arc_24 : decode cX7_arc 24 = .ok (.invokevirtual 157, 3) := dk_182 0 157 (dk_at dksX7_arc_1 0 rfl rfl)
theorem dX7_arc_27 : decode cX7_arc 27 = .ok (.ifCond .ne 25, 3) := dk_154 0 25 (dk_at dksX7_arc_1 3 rfl rfl)
theorem dX7_arc_30 : decode cX7_arc 30 = .ok (.aload_n 0, 1) := dk_42 (dk_at dksX7_arc_1 6 rfl rfl)
theorem dX7_arc_31 : decode cX7_arc 31 = .ok (.iload_n 2, 1) := dk_28 (dk_at dksX7_arc_1 7 rfl rfl)
theorem dX7_arc_32 : decode cX7_arc 32 = .ok (.iconst 0, 1) := dk_3 (dk_at dksX7_arc_1 8 rfl rfl)
theorem dX7_arc_33 : decode cX7_arc 33 = .ok (.iconst 4, 1) := dk_7 (dk_at dksX7_arc_1 9 rfl rfl)
theorem dX7_arc_34 : decode cX7_arc 34 = .ok (.invokestatic 84, 3) := dk_184 0 84 (dk_at dksX7_arc_1 10 rfl rfl)
theorem dX7_arc_37 : decode cX7_arc 37 = .ok (.ifCond .ne 7, 3) := dk_154 0 7 (dk_at dksX7_arc_1 13 rfl rfl)
theorem dX7_arc_40 : decode cX7_arc 40 = .ok (.iconst 1, 1) := dk_4 (dk_at dksX7_arc_1 16 rfl rfl)
theorem dX7_arc_41 : decode cX7_arc 41 = .ok (.goto 4, 3) := dk_167 0 4 (dk_at dksX7_arc_1 17 rfl rfl)
theorem dX7_arc_44 : decode cX7_arc 44 = .ok (.iconst 0, 1) := dk_3 (dk_at dksX7_arc_1 20 rfl rfl)
theorem dX7_arc_45 : decode cX7_arc 45 = .ok (.iconst 2, 1) := dk_5 (dk_at dksX7_arc_1 21 rfl rfl)
theorem dX7_arc_46 : decode cX7_arc 46 = .ok (.invokevirtual 157, 3) := dk_182 0 157 (dk_at dksX7_arc_2 0 rfl rfl)
theorem dX7_arc_49 : decode cX7_arc 49 = .ok (.ifCond .eq 5, 3) := dk_153 0 5 (dk_at dksX7_arc_2 3 rfl rfl)
theorem dX7_arc_52 : decode cX7_arc 52 = .ok (.iconst 0, 1) := dk_3 (dk_at dksX7_arc_2 6 rfl rfl)
theorem dX7_arc_53 : decode cX7_arc 53 = .ok (.ireturn, 1) := dk_172 (dk_at dksX7_arc_2 7 rfl rfl)
theorem dX7_arc_54 : decode cX7_arc 54 = .ok (.iload_n 2, 1) := dk_28 (dk_at dksX7_arc_2 8 rfl rfl)
theorem dX7_arc_55 : decode cX7_arc 55 = .ok (.tableswitch 58 0 3 #[29, 35, 41, 52], 29) := by decide +kernel
theorem dX7_arc_84 : decode cX7_arc 84 = .ok (.aload_n 0, 1) := dk_42 (dk_at dksX7_arc_4 0 rfl rfl)
theorem dX7_arc_85 : decode cX7_arc 85 = .ok (.iload_n 1, 1) := dk_27 (dk_at dksX7_arc_4 1 rfl rfl)
theorem dX7_arc_86 : decode cX7_arc 86 = .ok (.invokevirtual 95, 3) := dk_182 0 95 (dk_at dksX7_arc_4 2 rfl rfl)
theorem dX7_arc_89 : decode cX7_arc 89 = .ok (.ireturn, 1) := dk_172 (dk_at dksX7_arc_4 5 rfl rfl)
theorem dX7_arc_90 : decode cX7_arc 90 = .ok (.aload_n 0, 1) := dk_42 (dk_at dksX7_arc_4 6 rfl rfl)
theorem dX7_arc_91 : decode cX7_arc 91 = .ok (.iload_n 1, 1) := dk_27 (dk_at dksX7_arc_4 7 rfl rfl)
theorem dX7_arc_92 : decode cX7_arc 92 = .ok (.invokevirtual 103, 3) := dk_182 0 103 (dk_at dksX7_arc_4 8 rfl rfl)
theorem dX7_arc_95 : decode cX7_arc 95 = .ok (.ireturn, 1) := dk_172 (dk_at dksX7_arc_4 11 rfl rfl)
theorem dX7_arc_96 : decode cX7_arc 96 = .ok (.aload_n 0, 1) := dk_42 (dk_at dksX7_arc_4 12 rfl rfl)
theorem dX7_arc_97 : decode cX7_arc 97 = .ok (.getfield 13, 3) := dk_180 0 13 (dk_at dksX7_arc_4 13 rfl rfl)
theorem dX7_arc_100 : decode cX7_arc 100 = .ok (.sipush 140, 3) := dk_17 0 140 (dk_at dksX7_arc_4 16 rfl rfl)
theorem dX7_arc_103 : decode cX7_arc 103 = .ok (.iload_n 1, 1) := dk_27 (dk_at dksX7_arc_4 19 rfl rfl)
theorem dX7_arc_104 : decode cX7_arc 104 = .ok (.iadd, 1) := dk_96 (dk_at dksX7_arc_4 20 rfl rfl)
theorem dX7_arc_105 : decode cX7_arc 105 = .ok (.iaload, 1) := dk_46 (dk_at dksX7_arc_4 21 rfl rfl)
theorem dX7_arc_106 : decode cX7_arc 106 = .ok (.ireturn, 1) := dk_172 (dk_at dksX7_arc_4 22 rfl rfl)
theorem dX7_arc_107 : decode cX7_arc 107 = .ok (.aload_n 0, 1) := dk_42 (dk_at dksX7_arc_4 23 rfl rfl)
theorem dX7_arc_108 : decode cX7_arc 108 = .ok (.iload_n 1, 1) := dk_27 (dk_at dksX7_arc_5 0 rfl rfl)
theorem dX7_arc_109 : decode cX7_arc 109 = .ok (.invokevirtual 348, 3) := dk_182 1 92 (dk_at dksX7_arc_5 1 rfl rfl)
theorem dX7_arc_112 : decode cX7_arc 112 = .ok (.ireturn, 1) := dk_172 (dk_at dksX7_arc_5 4 rfl rfl)
theorem dX7_arc_113 : decode cX7_arc 113 = .ok (.aload_n 0, 1) := dk_42 (dk_at dksX7_arc_5 5 rfl rfl)
theorem dX7_arc_114 : decode cX7_arc 114 = .ok (.iload_n 1, 1) := dk_27 (dk_at dksX7_arc_5 6 rfl rfl)
theorem dX7_arc_115 : decode cX7_arc 115 = .ok (.invokevirtual 351, 3) := dk_182 1 95 (dk_at dksX7_arc_5 7 rfl rfl)
theorem dX7_arc_118 : decode cX7_arc 118 = .ok (.ifCond .eq 7, 3) := dk_153 0 7 (dk_at dksX7_arc_5 10 rfl rfl)
theorem dX7_arc_121 : decode cX7_arc 121 = .ok (.iconst 1, 1) := dk_4 (dk_at dksX7_arc_5 13 rfl rfl)
theorem dX7_arc_122 : decode cX7_arc 122 = .ok (.goto 4, 3) := dk_167 0 4 (dk_at dksX7_arc_5 14 rfl rfl)
theorem dX7_arc_125 : decode cX7_arc 125 = .ok (.iconst 0, 1) := dk_3 (dk_at dksX7_arc_5 17 rfl rfl)
theorem dX7_arc_126 : decode cX7_arc 126 = .ok (.ireturn, 1) := dk_172 (dk_at dksX7_arc_5 18 rfl rfl)
abbrev cX7_kindOf : ByteArray := prog_11_method_88_code
def yX7_kindOf : MethodName := ⟨RX7, "kindOf", "(I)I"⟩
def dkwX7_kindOf_2 : List UInt8 := [182, 0, 103, 46, 42, 27, 182, 0, 95, 160, 0, 7, 6, 167, 0, 4, 7, 172]
abbrev dktX7_kindOf_2 : List UInt8 := dkwX7_kindOf_2 ++ []
def dkwX7_kindOf_1 : List UInt8 := [154, 0, 5, 4, 172, 42, 27, 182, 1, 26, 153, 0, 7, 5, 167, 0, 26, 42, 180, 0, 38, 42, 27]
abbrev dktX7_kindOf_1 : List UInt8 := dkwX7_kindOf_1 ++ dktX7_kindOf_2
def dkwX7_kindOf_0 : List UInt8 := [42, 27, 182, 0, 91, 154, 0, 5, 3, 172, 42, 180, 0, 120, 42, 27, 182, 0, 95, 184, 0, 99]
abbrev dktX7_kindOf_0 : List UInt8 := dkwX7_kindOf_0 ++ dktX7_kindOf_1
theorem dksX7_kindOf_0 : cX7_kindOf.data.toList.drop 0 = dktX7_kindOf_0 := by decide +kernel
theorem dksX7_kindOf_1 : cX7_kindOf.data.toList.drop 22 = dktX7_kindOf_1 := dk_seg dksX7_kindOf_0 22 rfl rfl
theorem dksX7_kindOf_2 : cX7_kindOf.data.toList.drop 45 = dktX7_kindOf_2 := dk_seg dksX7_kindOf_1 23 rfl rfl
theorem dX7_kindOf_0 : decode cX7_kindOf 0 = .ok (.aload_n 0, 1) := dk_42 (dk_at dksX7_kindOf_0 0 rfl rfl)
theorem dX7_kindOf_1 : decode cX7_kindOf 1 = .ok (.iload_n 1, 1) := dk_27 (dk_at dksX7_kindOf_0 1 rfl rfl)
theorem dX7_kindOf_2 : decode cX7_kindOf 2 = .ok (.invokevirtual 91, 3) := dk_182 0 91 (dk_at dksX7_kindOf_0 2 rfl rfl)
theorem dX7_kindOf_5 : decode cX7_kindOf 5 = .ok (.ifCond .ne 5, 3) := dk_154 0 5 (dk_at dksX7_kindOf_0 5 rfl rfl)
theorem dX7_kindOf_8 : decode cX7_kindOf 8 = .ok (.iconst 0, 1) := dk_3 (dk_at dksX7_kindOf_0 8 rfl rfl)
theorem dX7_kindOf_9 : decode cX7_kindOf 9 = .ok (.ireturn, 1) := dk_172 (dk_at dksX7_kindOf_0 9 rfl rfl)
theorem dX7_kindOf_10 : decode cX7_kindOf 10 = .ok (.aload_n 0, 1) := dk_42 (dk_at dksX7_kindOf_0 10 rfl rfl)
theorem dX7_kindOf_11 : decode cX7_kindOf 11 = .ok (.getfield 120, 3) := dk_180 0 120 (dk_at dksX7_kindOf_0 11 rfl rfl)
theorem dX7_kindOf_14 : decode cX7_kindOf 14 = .ok (.aload_n 0, 1) := dk_42 (dk_at dksX7_kindOf_0 14 rfl rfl)
theorem dX7_kindOf_15 : decode cX7_kindOf 15 = .ok (.iload_n 1, 1) := dk_27 (dk_at dksX7_kindOf_0 15 rfl rfl)
theorem dX7_kindOf_16 : decode cX7_kindOf 16 = .ok (.invokevirtual 95, 3) := dk_182 0 95 (dk_at dksX7_kindOf_0 16 rfl rfl)
theorem dX7_kindOf_19 : decode cX7_kindOf 19 = .ok (.invokestatic 99, 3) := dk_184 0 99 (dk_at dksX7_kindOf_0 19 rfl rfl)
theorem dX7_kindOf_22 : decode cX7_kindOf 22 = .ok (.ifCond .ne 5, 3) := dk_154 0 5 (dk_at dksX7_kindOf_1 0 rfl rfl)
theorem dX7_kindOf_25 : decode cX7_kindOf 25 = .ok (.iconst 1, 1) := dk_4 (dk_at dksX7_kindOf_1 3 rfl rfl)
theorem dX7_kindOf_26 : decode cX7_kindOf 26 = .ok (.ireturn, 1) := dk_172 (dk_at dksX7_kindOf_1 4 rfl rfl)
theorem dX7_kindOf_27 : decode cX7_kindOf 27 = .ok (.aload_n 0, 1) := dk_42 (dk_at dksX7_kindOf_1 5 rfl rfl)
theorem dX7_kindOf_28 : decode cX7_kindOf 28 = .ok (.iload_n 1, 1) := dk_27 (dk_at dksX7_kindOf_1 6 rfl rfl)
theorem dX7_kindOf_29 : decode cX7_kindOf 29 = .ok (.invokevirtual 282, 3) := dk_182 1 26 (dk_at dksX7_kindOf_1 7 rfl rfl)
theorem dX7_kindOf_32 : decode cX7_kindOf 32 = .ok (.ifCond .eq 7, 3) := dk_153 0 7 (dk_at dksX7_kindOf_1 10 rfl rfl)
theorem dX7_kindOf_35 : decode cX7_kindOf 35 = .ok (.iconst 2, 1) := dk_5 (dk_at dksX7_kindOf_1 13 rfl rfl)
theorem dX7_kindOf_36 : decode cX7_kindOf 36 = .ok (.goto 26, 3) := dk_167 0 26 (dk_at dksX7_kindOf_1 14 rfl rfl)
theorem dX7_kindOf_39 : decode cX7_kindOf 39 = .ok (.aload_n 0, 1) := dk_42 (dk_at dksX7_kindOf_1 17 rfl rfl)
theorem dX7_kindOf_40 : decode cX7_kindOf 40 = .ok (.getfield 38, 3) := dk_180 0 38 (dk_at dksX7_kindOf_1 18 rfl rfl)
theorem dX7_kindOf_43 : decode cX7_kindOf 43 = .ok (.aload_n 0, 1) := dk_42 (dk_at dksX7_kindOf_1 21 rfl rfl)
theorem dX7_kindOf_44 : decode cX7_kindOf 44 = .ok (.iload_n 1, 1) := dk_27 (dk_at dksX7_kindOf_1 22 rfl rfl)
theorem dX7_kindOf_45 : decode cX7_kindOf 45 = .ok (.invokevirtual 103, 3) := dk_182 0 103 (dk_at dksX7_kindOf_2 0 rfl rfl)
theorem dX7_kindOf_48 : decode cX7_kindOf 48 = .ok (.iaload, 1) := dk_46 (dk_at dksX7_kindOf_2 3 rfl rfl)
theorem dX7_kindOf_49 : decode cX7_kindOf 49 = .ok (.aload_n 0, 1) := dk_42 (dk_at dksX7_kindOf_2 4 rfl rfl)
theorem dX7_kindOf_50 : decode cX7_kindOf 50 = .ok (.iload_n 1, 1) := dk_27 (dk_at dksX7_kindOf_2 5 rfl rfl)
theorem dX7_kindOf_51 : decode cX7_kindOf 51 = .ok (.invokevirtual 95, 3) := dk_182 0 95 (dk_at dksX7_kindOf_2 6 rfl rfl)
theorem dX7_kindOf_54 : decode cX7_kindOf 54 = .ok (.if_icmp .ne 7, 3) := dk_160 0 7 (dk_at dksX7_kindOf_2 9 rfl rfl)
theorem dX7_kindOf_57 : decode cX7_kindOf 57 = .ok (.iconst 3, 1) := dk_6 (dk_at dksX7_kindOf_2 12 rfl rfl)
theorem dX7_kindOf_58 : decode cX7_kindOf 58 = .ok (.goto 4, 3) := dk_167 0 4 (dk_at dksX7_kindOf_2 13 rfl rfl)
theorem dX7_kindOf_61 : decode cX7_kindOf 61 = .ok (.iconst 4, 1) := dk_7 (dk_at dksX7_kindOf_2 16 rfl rfl)
theorem dX7_kindOf_62 : decode cX7_kindOf 62 = .ok (.ireturn, 1) := dk_172 (dk_at dksX7_kindOf_2 17 rfl rfl)
abbrev cX7_isBridge : ByteArray := prog_11_method_89_code
def yX7_isBridge : MethodName := ⟨RX7, "isBridge", "(I)Z"⟩
def dkwX7_isBridge_1 : List UInt8 := [3, 27, 182, 0, 116, 42, 27, 182, 0, 103, 184, 0, 99, 154, 0, 7, 4, 167, 0, 4, 3, 172]
abbrev dktX7_isBridge_1 : List UInt8 := dkwX7_isBridge_1 ++ []
def dkwX7_isBridge_0 : List UInt8 := [42, 27, 182, 0, 91, 153, 0, 39, 42, 180, 0, 120, 42, 27, 182, 0, 95, 184, 0, 99, 153, 0, 24, 42]
abbrev dktX7_isBridge_0 : List UInt8 := dkwX7_isBridge_0 ++ dktX7_isBridge_1
theorem dksX7_isBridge_0 : cX7_isBridge.data.toList.drop 0 = dktX7_isBridge_0 := by decide +kernel
theorem dksX7_isBridge_1 : cX7_isBridge.data.toList.drop 24 = dktX7_isBridge_1 := dk_seg dksX7_isBridge_0 24 rfl rfl
theorem dX7_isBridge_0 : decode cX7_isBridge 0 = .ok (.aload_n 0, 1) := dk_42 (dk_at dksX7_isBridge_0 0 rfl rfl)
theorem dX7_isBridge_1 : decode cX7_isBridge 1 = .ok (.iload_n 1, 1) := dk_27 (dk_at dksX7_isBridge_0 1 rfl rfl)
theorem dX7_isBridge_2 : decode cX7_isBridge 2 = .ok (.invokevirtual 91, 3) := dk_182 0 91 (dk_at dksX7_isBridge_0 2 rfl rfl)
theorem dX7_isBridge_5 : decode cX7_isBridge 5 = .ok (.ifCond .eq 39, 3) := dk_153 0 39 (dk_at dksX7_isBridge_0 5 rfl rfl)
theorem dX7_isBridge_8 : decode cX7_isBridge 8 = .ok (.aload_n 0, 1) := dk_42 (dk_at dksX7_isBridge_0 8 rfl rfl)
theorem dX7_isBridge_9 : decode cX7_isBridge 9 = .ok (.getfield 120, 3) := dk_180 0 120 (dk_at dksX7_isBridge_0 9 rfl rfl)
theorem dX7_isBridge_12 : decode cX7_isBridge 12 = .ok (.aload_n 0, 1) := dk_42 (dk_at dksX7_isBridge_0 12 rfl rfl)
theorem dX7_isBridge_13 : decode cX7_isBridge 13 = .ok (.iload_n 1, 1) := dk_27 (dk_at dksX7_isBridge_0 13 rfl rfl)
theorem dX7_isBridge_14 : decode cX7_isBridge 14 = .ok (.invokevirtual 95, 3) := dk_182 0 95 (dk_at dksX7_isBridge_0 14 rfl rfl)
theorem dX7_isBridge_17 : decode cX7_isBridge 17 = .ok (.invokestatic 99, 3) := dk_184 0 99 (dk_at dksX7_isBridge_0 17 rfl rfl)
theorem dX7_isBridge_20 : decode cX7_isBridge 20 = .ok (.ifCond .eq 24, 3) := dk_153 0 24 (dk_at dksX7_isBridge_0 20 rfl rfl)
theorem dX7_isBridge_23 : decode cX7_isBridge 23 = .ok (.aload_n 0, 1) := dk_42 (dk_at dksX7_isBridge_0 23 rfl rfl)
theorem dX7_isBridge_24 : decode cX7_isBridge 24 = .ok (.iconst 0, 1) := dk_3 (dk_at dksX7_isBridge_1 0 rfl rfl)
theorem dX7_isBridge_25 : decode cX7_isBridge 25 = .ok (.iload_n 1, 1) := dk_27 (dk_at dksX7_isBridge_1 1 rfl rfl)
theorem dX7_isBridge_26 : decode cX7_isBridge 26 = .ok (.invokevirtual 116, 3) := dk_182 0 116 (dk_at dksX7_isBridge_1 2 rfl rfl)
theorem dX7_isBridge_29 : decode cX7_isBridge 29 = .ok (.aload_n 0, 1) := dk_42 (dk_at dksX7_isBridge_1 5 rfl rfl)
theorem dX7_isBridge_30 : decode cX7_isBridge 30 = .ok (.iload_n 1, 1) := dk_27 (dk_at dksX7_isBridge_1 6 rfl rfl)
theorem dX7_isBridge_31 : decode cX7_isBridge 31 = .ok (.invokevirtual 103, 3) := dk_182 0 103 (dk_at dksX7_isBridge_1 7 rfl rfl)
theorem dX7_isBridge_34 : decode cX7_isBridge 34 = .ok (.invokestatic 99, 3) := dk_184 0 99 (dk_at dksX7_isBridge_1 10 rfl rfl)
theorem dX7_isBridge_37 : decode cX7_isBridge 37 = .ok (.ifCond .ne 7, 3) := dk_154 0 7 (dk_at dksX7_isBridge_1 13 rfl rfl)
theorem dX7_isBridge_40 : decode cX7_isBridge 40 = .ok (.iconst 1, 1) := dk_4 (dk_at dksX7_isBridge_1 16 rfl rfl)
theorem dX7_isBridge_41 : decode cX7_isBridge 41 = .ok (.goto 4, 3) := dk_167 0 4 (dk_at dksX7_isBridge_1 17 rfl rfl)
theorem dX7_isBridge_44 : decode cX7_isBridge 44 = .ok (.iconst 0, 1) := dk_3 (dk_at dksX7_isBridge_1 20 rfl rfl)
theorem dX7_isBridge_45 : decode cX7_isBridge 45 = .ok (.ireturn, 1) := dk_172 (dk_at dksX7_isBridge_1 21 rfl rfl)
abbrev cX7_without : ByteArray := prog_11_method_92_code
def yX7_without : MethodName := ⟨RX7, "without", "(I)I"⟩
def dkwX7_without_0 : List UInt8 := [42, 27, 182, 1, 47, 153, 0, 7, 3, 167, 0, 10, 42, 4, 27, 120, 182, 1, 98, 172]
abbrev dktX7_without_0 : List UInt8 := dkwX7_without_0 ++ []
theorem dksX7_without_0 : cX7_without.data.toList.drop 0 = dktX7_without_0 := by decide +kernel
theorem dX7_without_0 : decode cX7_without 0 = .ok (.aload_n 0, 1) := dk_42 (dk_at dksX7_without_0 0 rfl rfl)
theorem dX7_without_1 : decode cX7_without 1 = .ok (.iload_n 1, 1) := dk_27 (dk_at dksX7_without_0 1 rfl rfl)
theorem dX7_without_2 : decode cX7_without 2 = .ok (.invokevirtual 303, 3) := dk_182 1 47 (dk_at dksX7_without_0 2 rfl rfl)
theorem dX7_without_5 : decode cX7_without 5 = .ok (.ifCond .eq 7, 3) := dk_153 0 7 (dk_at dksX7_without_0 5 rfl rfl)
theorem dX7_without_8 : decode cX7_without 8 = .ok (.iconst 0, 1) := dk_3 (dk_at dksX7_without_0 8 rfl rfl)
theorem dX7_without_9 : decode cX7_without 9 = .ok (.goto 10, 3) := dk_167 0 10 (dk_at dksX7_without_0 9 rfl rfl)
theorem dX7_without_12 : decode cX7_without 12 = .ok (.aload_n 0, 1) := dk_42 (dk_at dksX7_without_0 12 rfl rfl)
theorem dX7_without_13 : decode cX7_without 13 = .ok (.iconst 1, 1) := dk_4 (dk_at dksX7_without_0 13 rfl rfl)
theorem dX7_without_14 : decode cX7_without 14 = .ok (.iload_n 1, 1) := dk_27 (dk_at dksX7_without_0 14 rfl rfl)
theorem dX7_without_15 : decode cX7_without 15 = .ok (.ishl, 1) := dk_120 (dk_at dksX7_without_0 15 rfl rfl)
theorem dX7_without_16 : decode cX7_without 16 = .ok (.invokevirtual 354, 3) := dk_182 1 98 (dk_at dksX7_without_0 16 rfl rfl)
theorem dX7_without_19 : decode cX7_without 19 = .ok (.ireturn, 1) := dk_172 (dk_at dksX7_without_0 19 rfl rfl)
abbrev cX7_sealedBy : ByteArray := prog_11_method_91_code
def yX7_sealedBy : MethodName := ⟨RX7, "sealedBy", "(I)I"⟩
def dkwX7_sealedBy_0 : List UInt8 := [42, 180, 0, 120, 42, 27, 2, 182, 0, 116, 2, 130, 126, 27, 2, 130, 126, 172]
abbrev dktX7_sealedBy_0 : List UInt8 := dkwX7_sealedBy_0 ++ []
theorem dksX7_sealedBy_0 : cX7_sealedBy.data.toList.drop 0 = dktX7_sealedBy_0 := by decide +kernel
theorem dX7_sealedBy_0 : decode cX7_sealedBy 0 = .ok (.aload_n 0, 1) := dk_42 (dk_at dksX7_sealedBy_0 0 rfl rfl)
theorem dX7_sealedBy_1 : decode cX7_sealedBy 1 = .ok (.getfield 120, 3) := dk_180 0 120 (dk_at dksX7_sealedBy_0 1 rfl rfl)
theorem dX7_sealedBy_4 : decode cX7_sealedBy 4 = .ok (.aload_n 0, 1) := dk_42 (dk_at dksX7_sealedBy_0 4 rfl rfl)
theorem dX7_sealedBy_5 : decode cX7_sealedBy 5 = .ok (.iload_n 1, 1) := dk_27 (dk_at dksX7_sealedBy_0 5 rfl rfl)
theorem dX7_sealedBy_6 : decode cX7_sealedBy 6 = .ok (.iconst (-1), 1) := dk_2 (dk_at dksX7_sealedBy_0 6 rfl rfl)
theorem dX7_sealedBy_7 : decode cX7_sealedBy 7 = .ok (.invokevirtual 116, 3) := dk_182 0 116 (dk_at dksX7_sealedBy_0 7 rfl rfl)
theorem dX7_sealedBy_10 : decode cX7_sealedBy 10 = .ok (.iconst (-1), 1) := dk_2 (dk_at dksX7_sealedBy_0 10 rfl rfl)
theorem dX7_sealedBy_11 : decode cX7_sealedBy 11 = .ok (.ixor, 1) := dk_130 (dk_at dksX7_sealedBy_0 11 rfl rfl)
theorem dX7_sealedBy_12 : decode cX7_sealedBy 12 = .ok (.iand, 1) := dk_126 (dk_at dksX7_sealedBy_0 12 rfl rfl)
theorem dX7_sealedBy_13 : decode cX7_sealedBy 13 = .ok (.iload_n 1, 1) := dk_27 (dk_at dksX7_sealedBy_0 13 rfl rfl)
theorem dX7_sealedBy_14 : decode cX7_sealedBy 14 = .ok (.iconst (-1), 1) := dk_2 (dk_at dksX7_sealedBy_0 14 rfl rfl)
theorem dX7_sealedBy_15 : decode cX7_sealedBy 15 = .ok (.ixor, 1) := dk_130 (dk_at dksX7_sealedBy_0 15 rfl rfl)
theorem dX7_sealedBy_16 : decode cX7_sealedBy 16 = .ok (.iand, 1) := dk_126 (dk_at dksX7_sealedBy_0 16 rfl rfl)
theorem dX7_sealedBy_17 : decode cX7_sealedBy 17 = .ok (.ireturn, 1) := dk_172 (dk_at dksX7_sealedBy_0 17 rfl rfl)
abbrev cX7_seal : ByteArray := prog_11_method_93_code
def yX7_seal : MethodName := ⟨RX7, "seal", "(I)I"⟩
def dkwX7_seal_1 : List UInt8 := [167, 0, 4, 3, 4, 182, 0, 157, 153, 0, 7, 3, 167, 0, 8, 42, 27, 182, 1, 98, 172]
abbrev dktX7_seal_1 : List UInt8 := dkwX7_seal_1 ++ []
def dkwX7_seal_0 : List UInt8 := [42, 3, 181, 0, 1, 42, 182, 0, 126, 42, 27, 155, 0, 12, 27, 42, 182, 0, 80, 122, 153, 0, 7, 4]
abbrev dktX7_seal_0 : List UInt8 := dkwX7_seal_0 ++ dktX7_seal_1
theorem dksX7_seal_0 : cX7_seal.data.toList.drop 0 = dktX7_seal_0 := by decide +kernel
theorem dksX7_seal_1 : cX7_seal.data.toList.drop 24 = dktX7_seal_1 := dk_seg dksX7_seal_0 24 rfl rfl
theorem dX7_seal_0 : decode cX7_seal 0 = .ok (.aload_n 0, 1) := dk_42 (dk_at dksX7_seal_0 0 rfl rfl)
theorem dX7_seal_1 : decode cX7_seal 1 = .ok (.iconst 0, 1) := dk_3 (dk_at dksX7_seal_0 1 rfl rfl)
theorem dX7_seal_2 : decode cX7_seal 2 = .ok (.putfield 1, 3) := dk_181 0 1 (dk_at dksX7_seal_0 2 rfl rfl)
theorem dX7_seal_5 : decode cX7_seal 5 = .ok (.aload_n 0, 1) := dk_42 (dk_at dksX7_seal_0 5 rfl rfl)
theorem dX7_seal_6 : decode cX7_seal 6 = .ok (.invokevirtual 126, 3) := dk_182 0 126 (dk_at dksX7_seal_0 6 rfl rfl)
theorem dX7_seal_9 : decode cX7_seal 9 = .ok (.aload_n 0, 1) := dk_42 (dk_at dksX7_seal_0 9 rfl rfl)
theorem dX7_seal_10 : decode cX7_seal 10 = .ok (.iload_n 1, 1) := dk_27 (dk_at dksX7_seal_0 10 rfl rfl)
theorem dX7_seal_11 : decode cX7_seal 11 = .ok (.ifCond .lt 12, 3) := dk_155 0 12 (dk_at dksX7_seal_0 11 rfl rfl)
theorem dX7_seal_14 : decode cX7_seal 14 = .ok (.iload_n 1, 1) := dk_27 (dk_at dksX7_seal_0 14 rfl rfl)
theorem dX7_seal_15 : decode cX7_seal 15 = .ok (.aload_n 0, 1) := dk_42 (dk_at dksX7_seal_0 15 rfl rfl)
theorem dX7_seal_16 : decode cX7_seal 16 = .ok (.invokevirtual 80, 3) := dk_182 0 80 (dk_at dksX7_seal_0 16 rfl rfl)
theorem dX7_seal_19 : decode cX7_seal 19 = .ok (.ishr, 1) := dk_122 (dk_at dksX7_seal_0 19 rfl rfl)
theorem dX7_seal_20 : decode cX7_seal 20 = .ok (.ifCond .eq 7, 3) := dk_153 0 7 (dk_at dksX7_seal_0 20 rfl rfl)
theorem dX7_seal_23 : decode cX7_seal 23 = .ok (.iconst 1, 1) := dk_4 (dk_at dksX7_seal_0 23 rfl rfl)
theorem dX7_seal_24 : decode cX7_seal 24 = .ok (.goto 4, 3) := dk_167 0 4 (dk_at dksX7_seal_1 0 rfl rfl)
theorem dX7_seal_27 : decode cX7_seal 27 = .ok (.iconst 0, 1) := dk_3 (dk_at dksX7_seal_1 3 rfl rfl)
theorem dX7_seal_28 : decode cX7_seal 28 = .ok (.iconst 1, 1) := dk_4 (dk_at dksX7_seal_1 4 rfl rfl)
theorem dX7_seal_29 : decode cX7_seal 29 = .ok (.invokevirtual 157, 3) := dk_182 0 157 (dk_at dksX7_seal_1 5 rfl rfl)
theorem dX7_seal_32 : decode cX7_seal 32 = .ok (.ifCond .eq 7, 3) := dk_153 0 7 (dk_at dksX7_seal_1 8 rfl rfl)
theorem dX7_seal_35 : decode cX7_seal 35 = .ok (.iconst 0, 1) := dk_3 (dk_at dksX7_seal_1 11 rfl rfl)
theorem dX7_seal_36 : decode cX7_seal 36 = .ok (.goto 8, 3) := dk_167 0 8 (dk_at dksX7_seal_1 12 rfl rfl)
theorem dX7_seal_39 : decode cX7_seal 39 = .ok (.aload_n 0, 1) := dk_42 (dk_at dksX7_seal_1 15 rfl rfl)
theorem dX7_seal_40 : decode cX7_seal 40 = .ok (.iload_n 1, 1) := dk_27 (dk_at dksX7_seal_1 16 rfl rfl)
theorem dX7_seal_41 : decode cX7_seal 41 = .ok (.invokevirtual 354, 3) := dk_182 1 98 (dk_at dksX7_seal_1 17 rfl rfl)
theorem dX7_seal_44 : decode cX7_seal 44 = .ok (.ireturn, 1) := dk_172 (dk_at dksX7_seal_1 20 rfl rfl)
abbrev cX7_chain : ByteArray := prog_11_method_95_code
def yX7_chain : MethodName := ⟨RX7, "chain", "(II)I"⟩
def dkwX7_chain_0 : List UInt8 := [42, 27, 182, 1, 47, 153, 0, 7, 3, 167, 0, 9, 42, 27, 28, 182, 1, 101, 172]
abbrev dktX7_chain_0 : List UInt8 := dkwX7_chain_0 ++ []
theorem dksX7_chain_0 : cX7_chain.data.toList.drop 0 = dktX7_chain_0 := by decide +kernel
theorem dX7_chain_0 : decode cX7_chain 0 = .ok (.aload_n 0, 1) := dk_42 (dk_at dksX7_chain_0 0 rfl rfl)
theorem dX7_chain_1 : decode cX7_chain 1 = .ok (.iload_n 1, 1) := dk_27 (dk_at dksX7_chain_0 1 rfl rfl)
theorem dX7_chain_2 : decode cX7_chain 2 = .ok (.invokevirtual 303, 3) := dk_182 1 47 (dk_at dksX7_chain_0 2 rfl rfl)
theorem dX7_chain_5 : decode cX7_chain 5 = .ok (.ifCond .eq 7, 3) := dk_153 0 7 (dk_at dksX7_chain_0 5 rfl rfl)
theorem dX7_chain_8 : decode cX7_chain 8 = .ok (.iconst 0, 1) := dk_3 (dk_at dksX7_chain_0 8 rfl rfl)
theorem dX7_chain_9 : decode cX7_chain 9 = .ok (.goto 9, 3) := dk_167 0 9 (dk_at dksX7_chain_0 9 rfl rfl)
theorem dX7_chain_12 : decode cX7_chain 12 = .ok (.aload_n 0, 1) := dk_42 (dk_at dksX7_chain_0 12 rfl rfl)
theorem dX7_chain_13 : decode cX7_chain 13 = .ok (.iload_n 1, 1) := dk_27 (dk_at dksX7_chain_0 13 rfl rfl)
theorem dX7_chain_14 : decode cX7_chain 14 = .ok (.iload_n 2, 1) := dk_28 (dk_at dksX7_chain_0 14 rfl rfl)
theorem dX7_chain_15 : decode cX7_chain 15 = .ok (.invokevirtual 357, 3) := dk_182 1 101 (dk_at dksX7_chain_0 15 rfl rfl)
theorem dX7_chain_18 : decode cX7_chain 18 = .ok (.ireturn, 1) := dk_172 (dk_at dksX7_chain_0 18 rfl rfl)
abbrev cX7_chainOf : ByteArray := prog_11_method_94_code
def yX7_chainOf : MethodName := ⟨RX7, "chainOf", "(II)I"⟩
def dkwX7_chainOf_2 : List UInt8 := [167, 255, 239, 29, 172]
abbrev dktX7_chainOf_2 : List UInt8 := dkwX7_chainOf_2 ++ []
def dkwX7_chainOf_1 : List UInt8 := [154, 0, 5, 2, 172, 27, 62, 42, 180, 0, 35, 29, 46, 28, 164, 0, 13, 42, 180, 0, 38, 29, 46, 62]
abbrev dktX7_chainOf_1 : List UInt8 := dkwX7_chainOf_1 ++ dktX7_chainOf_2
def dkwX7_chainOf_0 : List UInt8 := [42, 180, 0, 120, 27, 184, 0, 99, 153, 0, 17, 28, 3, 42, 180, 0, 35, 27, 46, 184, 0, 84]
abbrev dktX7_chainOf_0 : List UInt8 := dkwX7_chainOf_0 ++ dktX7_chainOf_1
theorem dksX7_chainOf_0 : cX7_chainOf.data.toList.drop 0 = dktX7_chainOf_0 := by decide +kernel
theorem dksX7_chainOf_1 : cX7_chainOf.data.toList.drop 22 = dktX7_chainOf_1 := dk_seg dksX7_chainOf_0 22 rfl rfl
theorem dksX7_chainOf_2 : cX7_chainOf.data.toList.drop 46 = dktX7_chainOf_2 := dk_seg dksX7_chainOf_1 24 rfl rfl
theorem dX7_chainOf_0 : decode cX7_chainOf 0 = .ok (.aload_n 0, 1) := dk_42 (dk_at dksX7_chainOf_0 0 rfl rfl)
theorem dX7_chainOf_1 : decode cX7_chainOf 1 = .ok (.getfield 120, 3) := dk_180 0 120 (dk_at dksX7_chainOf_0 1 rfl rfl)
theorem dX7_chainOf_4 : decode cX7_chainOf 4 = .ok (.iload_n 1, 1) := dk_27 (dk_at dksX7_chainOf_0 4 rfl rfl)
theorem dX7_chainOf_5 : decode cX7_chainOf 5 = .ok (.invokestatic 99, 3) := dk_184 0 99 (dk_at dksX7_chainOf_0 5 rfl rfl)
theorem dX7_chainOf_8 : decode cX7_chainOf 8 = .ok (.ifCond .eq 17, 3) := dk_153 0 17 (dk_at dksX7_chainOf_0 8 rfl rfl)
theorem dX7_chainOf_11 : decode cX7_chainOf 11 = .ok (.iload_n 2, 1) := dk_28 (dk_at dksX7_chainOf_0 11 rfl rfl)
theorem dX7_chainOf_12 : decode cX7_chainOf 12 = .ok (.iconst 0, 1) := dk_3 (dk_at dksX7_chainOf_0 12 rfl rfl)
theorem dX7_chainOf_13 : decode cX7_chainOf 13 = .ok (.aload_n 0, 1) := dk_42 (dk_at dksX7_chainOf_0 13 rfl rfl)
theorem dX7_chainOf_14 : decode cX7_chainOf 14 = .ok (.getfield 35, 3) := dk_180 0 35 (dk_at dksX7_chainOf_0 14 rfl rfl)
theorem dX7_chainOf_17 : decode cX7_chainOf 17 = .ok (.iload_n 1, 1) := dk_27 (dk_at dksX7_chainOf_0 17 rfl rfl)
theorem dX7_chainOf_18 : decode cX7_chainOf 18 = .ok (.iaload, 1) := dk_46 (dk_at dksX7_chainOf_0 18 rfl rfl)
theorem dX7_chainOf_19 : decode cX7_chainOf 19 = .ok (.invokestatic 84, 3) := dk_184 0 84 (dk_at dksX7_chainOf_0 19 rfl rfl)
theorem dX7_chainOf_22 : decode cX7_chainOf 22 = .ok (.ifCond .ne 5, 3) := dk_154 0 5 (dk_at dksX7_chainOf_1 0 rfl rfl)
theorem dX7_chainOf_25 : decode cX7_chainOf 25 = .ok (.iconst (-1), 1) := dk_2 (dk_at dksX7_chainOf_1 3 rfl rfl)
theorem dX7_chainOf_26 : decode cX7_chainOf 26 = .ok (.ireturn, 1) := dk_172 (dk_at dksX7_chainOf_1 4 rfl rfl)
theorem dX7_chainOf_27 : decode cX7_chainOf 27 = .ok (.iload_n 1, 1) := dk_27 (dk_at dksX7_chainOf_1 5 rfl rfl)
theorem dX7_chainOf_28 : decode cX7_chainOf 28 = .ok (.istore_n 3, 1) := dk_62 (dk_at dksX7_chainOf_1 6 rfl rfl)
theorem dX7_chainOf_29 : decode cX7_chainOf 29 = .ok (.aload_n 0, 1) := dk_42 (dk_at dksX7_chainOf_1 7 rfl rfl)
theorem dX7_chainOf_30 : decode cX7_chainOf 30 = .ok (.getfield 35, 3) := dk_180 0 35 (dk_at dksX7_chainOf_1 8 rfl rfl)
theorem dX7_chainOf_33 : decode cX7_chainOf 33 = .ok (.iload_n 3, 1) := dk_29 (dk_at dksX7_chainOf_1 11 rfl rfl)
theorem dX7_chainOf_34 : decode cX7_chainOf 34 = .ok (.iaload, 1) := dk_46 (dk_at dksX7_chainOf_1 12 rfl rfl)
theorem dX7_chainOf_35 : decode cX7_chainOf 35 = .ok (.iload_n 2, 1) := dk_28 (dk_at dksX7_chainOf_1 13 rfl rfl)
theorem dX7_chainOf_36 : decode cX7_chainOf 36 = .ok (.if_icmp .le 13, 3) := dk_164 0 13 (dk_at dksX7_chainOf_1 14 rfl rfl)
theorem dX7_chainOf_39 : decode cX7_chainOf 39 = .ok (.aload_n 0, 1) := dk_42 (dk_at dksX7_chainOf_1 17 rfl rfl)
theorem dX7_chainOf_40 : decode cX7_chainOf 40 = .ok (.getfield 38, 3) := dk_180 0 38 (dk_at dksX7_chainOf_1 18 rfl rfl)
theorem dX7_chainOf_43 : decode cX7_chainOf 43 = .ok (.iload_n 3, 1) := dk_29 (dk_at dksX7_chainOf_1 21 rfl rfl)
theorem dX7_chainOf_44 : decode cX7_chainOf 44 = .ok (.iaload, 1) := dk_46 (dk_at dksX7_chainOf_1 22 rfl rfl)
theorem dX7_chainOf_45 : decode cX7_chainOf 45 = .ok (.istore_n 3, 1) := dk_62 (dk_at dksX7_chainOf_1 23 rfl rfl)
theorem dX7_chainOf_46 : decode cX7_chainOf 46 = .ok (.goto (-17), 3) := dk_167 255 239 (dk_at dksX7_chainOf_2 0 rfl rfl)
theorem dX7_chainOf_49 : decode cX7_chainOf 49 = .ok (.iload_n 3, 1) := dk_29 (dk_at dksX7_chainOf_2 3 rfl rfl)
theorem dX7_chainOf_50 : decode cX7_chainOf 50 = .ok (.ireturn, 1) := dk_172 (dk_at dksX7_chainOf_2 4 rfl rfl)
abbrev cX7_level : ByteArray := prog_11_method_97_code
def yX7_level : MethodName := ⟨RX7, "level", "(I)I"⟩
def dkwX7_level_0 : List UInt8 := [42, 3, 181, 0, 1, 42, 182, 0, 126, 42, 27, 182, 1, 104, 172]
abbrev dktX7_level_0 : List UInt8 := dkwX7_level_0 ++ []
theorem dksX7_level_0 : cX7_level.data.toList.drop 0 = dktX7_level_0 := by decide +kernel
theorem dX7_level_0 : decode cX7_level 0 = .ok (.aload_n 0, 1) := dk_42 (dk_at dksX7_level_0 0 rfl rfl)
theorem dX7_level_1 : decode cX7_level 1 = .ok (.iconst 0, 1) := dk_3 (dk_at dksX7_level_0 1 rfl rfl)
theorem dX7_level_2 : decode cX7_level 2 = .ok (.putfield 1, 3) := dk_181 0 1 (dk_at dksX7_level_0 2 rfl rfl)
theorem dX7_level_5 : decode cX7_level 5 = .ok (.aload_n 0, 1) := dk_42 (dk_at dksX7_level_0 5 rfl rfl)
theorem dX7_level_6 : decode cX7_level 6 = .ok (.invokevirtual 126, 3) := dk_182 0 126 (dk_at dksX7_level_0 6 rfl rfl)
theorem dX7_level_9 : decode cX7_level 9 = .ok (.aload_n 0, 1) := dk_42 (dk_at dksX7_level_0 9 rfl rfl)
theorem dX7_level_10 : decode cX7_level 10 = .ok (.iload_n 1, 1) := dk_27 (dk_at dksX7_level_0 10 rfl rfl)
theorem dX7_level_11 : decode cX7_level 11 = .ok (.invokevirtual 360, 3) := dk_182 1 104 (dk_at dksX7_level_0 11 rfl rfl)
theorem dX7_level_14 : decode cX7_level 14 = .ok (.ireturn, 1) := dk_172 (dk_at dksX7_level_0 14 rfl rfl)
abbrev cX7_levelOf : ByteArray := prog_11_method_96_code
def yX7_levelOf : MethodName := ⟨RX7, "levelOf", "(I)I"⟩
def dkwX7_levelOf_1 : List UInt8 := [160, 0, 9, 4, 29, 120, 167, 0, 4, 3, 128, 61, 132, 3, 1, 167, 255, 221, 28, 172]
abbrev dktX7_levelOf_1 : List UInt8 := dkwX7_levelOf_1 ++ []
def dkwX7_levelOf_0 : List UInt8 := [3, 61, 3, 62, 29, 42, 182, 0, 80, 162, 0, 33, 28, 27, 155, 0, 19, 42, 180, 0, 35, 29, 46, 27]
abbrev dktX7_levelOf_0 : List UInt8 := dkwX7_levelOf_0 ++ dktX7_levelOf_1
theorem dksX7_levelOf_0 : cX7_levelOf.data.toList.drop 0 = dktX7_levelOf_0 := by decide +kernel
theorem dksX7_levelOf_1 : cX7_levelOf.data.toList.drop 24 = dktX7_levelOf_1 := dk_seg dksX7_levelOf_0 24 rfl rfl
theorem dX7_levelOf_0 : decode cX7_levelOf 0 = .ok (.iconst 0, 1) := dk_3 (dk_at dksX7_levelOf_0 0 rfl rfl)
theorem dX7_levelOf_1 : decode cX7_levelOf 1 = .ok (.istore_n 2, 1) := dk_61 (dk_at dksX7_levelOf_0 1 rfl rfl)
theorem dX7_levelOf_2 : decode cX7_levelOf 2 = .ok (.iconst 0, 1) := dk_3 (dk_at dksX7_levelOf_0 2 rfl rfl)
theorem dX7_levelOf_3 : decode cX7_levelOf 3 = .ok (.istore_n 3, 1) := dk_62 (dk_at dksX7_levelOf_0 3 rfl rfl)
theorem dX7_levelOf_4 : decode cX7_levelOf 4 = .ok (.iload_n 3, 1) := dk_29 (dk_at dksX7_levelOf_0 4 rfl rfl)
theorem dX7_levelOf_5 : decode cX7_levelOf 5 = .ok (.aload_n 0, 1) := dk_42 (dk_at dksX7_levelOf_0 5 rfl rfl)
theorem dX7_levelOf_6 : decode cX7_levelOf 6 = .ok (.invokevirtual 80, 3) := dk_182 0 80 (dk_at dksX7_levelOf_0 6 rfl rfl)
theorem dX7_levelOf_9 : decode cX7_levelOf 9 = .ok (.if_icmp .ge 33, 3) := dk_162 0 33 (dk_at dksX7_levelOf_0 9 rfl rfl)
theorem dX7_levelOf_12 : decode cX7_levelOf 12 = .ok (.iload_n 2, 1) := dk_28 (dk_at dksX7_levelOf_0 12 rfl rfl)
theorem dX7_levelOf_13 : decode cX7_levelOf 13 = .ok (.iload_n 1, 1) := dk_27 (dk_at dksX7_levelOf_0 13 rfl rfl)
theorem dX7_levelOf_14 : decode cX7_levelOf 14 = .ok (.ifCond .lt 19, 3) := dk_155 0 19 (dk_at dksX7_levelOf_0 14 rfl rfl)
theorem dX7_levelOf_17 : decode cX7_levelOf 17 = .ok (.aload_n 0, 1) := dk_42 (dk_at dksX7_levelOf_0 17 rfl rfl)
theorem dX7_levelOf_18 : decode cX7_levelOf 18 = .ok (.getfield 35, 3) := dk_180 0 35 (dk_at dksX7_levelOf_0 18 rfl rfl)
theorem dX7_levelOf_21 : decode cX7_levelOf 21 = .ok (.iload_n 3, 1) := dk_29 (dk_at dksX7_levelOf_0 21 rfl rfl)
theorem dX7_levelOf_22 : decode cX7_levelOf 22 = .ok (.iaload, 1) := dk_46 (dk_at dksX7_levelOf_0 22 rfl rfl)
theorem dX7_levelOf_23 : decode cX7_levelOf 23 = .ok (.iload_n 1, 1) := dk_27 (dk_at dksX7_levelOf_0 23 rfl rfl)
theorem dX7_levelOf_24 : decode cX7_levelOf 24 = .ok (.if_icmp .ne 9, 3) := dk_160 0 9 (dk_at dksX7_levelOf_1 0 rfl rfl)
theorem dX7_levelOf_27 : decode cX7_levelOf 27 = .ok (.iconst 1, 1) := dk_4 (dk_at dksX7_levelOf_1 3 rfl rfl)
theorem dX7_levelOf_28 : decode cX7_levelOf 28 = .ok (.iload_n 3, 1) := dk_29 (dk_at dksX7_levelOf_1 4 rfl rfl)
theorem dX7_levelOf_29 : decode cX7_levelOf 29 = .ok (.ishl, 1) := dk_120 (dk_at dksX7_levelOf_1 5 rfl rfl)
theorem dX7_levelOf_30 : decode cX7_levelOf 30 = .ok (.goto 4, 3) := dk_167 0 4 (dk_at dksX7_levelOf_1 6 rfl rfl)
theorem dX7_levelOf_33 : decode cX7_levelOf 33 = .ok (.iconst 0, 1) := dk_3 (dk_at dksX7_levelOf_1 9 rfl rfl)
theorem dX7_levelOf_34 : decode cX7_levelOf 34 = .ok (.ior, 1) := dk_128 (dk_at dksX7_levelOf_1 10 rfl rfl)
theorem dX7_levelOf_35 : decode cX7_levelOf 35 = .ok (.istore_n 2, 1) := dk_61 (dk_at dksX7_levelOf_1 11 rfl rfl)
theorem dX7_levelOf_36 : decode cX7_levelOf 36 = .ok (.iinc 3 1, 3) := dk_132 3 1 (dk_at dksX7_levelOf_1 12 rfl rfl)
theorem dX7_levelOf_39 : decode cX7_levelOf 39 = .ok (.goto (-35), 3) := dk_167 255 221 (dk_at dksX7_levelOf_1 15 rfl rfl)
theorem dX7_levelOf_42 : decode cX7_levelOf 42 = .ok (.iload_n 2, 1) := dk_28 (dk_at dksX7_levelOf_1 18 rfl rfl)
theorem dX7_levelOf_43 : decode cX7_levelOf 43 = .ok (.ireturn, 1) := dk_172 (dk_at dksX7_levelOf_1 19 rfl rfl)
abbrev cX7_worst : ByteArray := prog_11_method_98_code
def yX7_worst : MethodName := ⟨RX7, "worst", "(I)I"⟩
def dkwX7_worst_4 : List UInt8 := [21, 5, 62, 132, 4, 1, 167, 255, 197, 27, 154, 0, 7, 28, 167, 0, 4, 29, 172]
abbrev dktX7_worst_4 : List UInt8 := dkwX7_worst_4 ++ []
def dkwX7_worst_3 : List UInt8 := [130, 126, 184, 0, 123, 167, 0, 4, 3, 54, 5, 21, 5, 29, 163, 0, 6, 167, 0, 9, 21, 4, 61]
abbrev dktX7_worst_3 : List UInt8 := dkwX7_worst_3 ++ dktX7_worst_4
def dkwX7_worst_2 : List UInt8 := [162, 0, 56, 42, 21, 4, 182, 0, 91, 153, 0, 23, 42, 180, 0, 120, 42, 3, 21, 4, 182, 0, 116, 2]
abbrev dktX7_worst_2 : List UInt8 := dkwX7_worst_2 ++ dktX7_worst_3
def dkwX7_worst_1 : List UInt8 := [4, 182, 0, 157, 153, 0, 5, 3, 172, 2, 61, 3, 62, 3, 54, 4, 21, 4, 42, 182, 0, 88]
abbrev dktX7_worst_1 : List UInt8 := dkwX7_worst_1 ++ dktX7_worst_2
def dkwX7_worst_0 : List UInt8 := [42, 3, 181, 0, 1, 42, 182, 0, 126, 42, 27, 3, 4, 184, 0, 84, 154, 0, 7, 4, 167, 0, 4, 3]
abbrev dktX7_worst_0 : List UInt8 := dkwX7_worst_0 ++ dktX7_worst_1
theorem dksX7_worst_0 : cX7_worst.data.toList.drop 0 = dktX7_worst_0 := by decide +kernel
theorem dksX7_worst_1 : cX7_worst.data.toList.drop 24 = dktX7_worst_1 := dk_seg dksX7_worst_0 24 rfl rfl
theorem dksX7_worst_2 : cX7_worst.data.toList.drop 46 = dktX7_worst_2 := dk_seg dksX7_worst_1 22 rfl rfl
theorem dksX7_worst_3 : cX7_worst.data.toList.drop 70 = dktX7_worst_3 := dk_seg dksX7_worst_2 24 rfl rfl
theorem dksX7_worst_4 : cX7_worst.data.toList.drop 93 = dktX7_worst_4 := dk_seg dksX7_worst_3 23 rfl rfl
theorem dX7_worst_0 : decode cX7_worst 0 = .ok (.aload_n 0, 1) := dk_42 (dk_at dksX7_worst_0 0 rfl rfl)
theorem dX7_worst_1 : decode cX7_worst 1 = .ok (.iconst 0, 1) := dk_3 (dk_at dksX7_worst_0 1 rfl rfl)
theorem dX7_worst_2 : decode cX7_worst 2 = .ok (.putfield 1, 3) := dk_181 0 1 (dk_at dksX7_worst_0 2 rfl rfl)
theorem dX7_worst_5 : decode cX7_worst 5 = .ok (.aload_n 0, 1) := dk_42 (dk_at dksX7_worst_0 5 rfl rfl)
theorem dX7_worst_6 : decode cX7_worst 6 = .ok (.invokevirtual 126, 3) := dk_182 0 126 (dk_at dksX7_worst_0 6 rfl rfl)
theorem dX7_worst_9 : decode cX7_worst 9 = .ok (.aload_n 0, 1) := dk_42 (dk_at dksX7_worst_0 9 rfl rfl)
theorem dX7_worst_10 : decode cX7_worst 10 = .ok (.iload_n 1, 1) := dk_27 (dk_at dksX7_worst_0 10 rfl rfl)
theorem dX7_worst_11 : decode cX7_worst 11 = .ok (.iconst 0, 1) := dk_3 (dk_at dksX7_worst_0 11 rfl rfl)
theorem dX7_worst_12 : decode cX7_worst 12 = .ok (.iconst 1, 1) := dk_4 (dk_at dksX7_worst_0 12 rfl rfl)
theorem dX7_worst_13 : decode cX7_worst 13 = .ok (.invokestatic 84, 3) := dk_184 0 84 (dk_at dksX7_worst_0 13 rfl rfl)
theorem dX7_worst_16 : decode cX7_worst 16 = .ok (.ifCond .ne 7, 3) := dk_154 0 7 (dk_at dksX7_worst_0 16 rfl rfl)
theorem dX7_worst_19 : decode cX7_worst 19 = .ok (.iconst 1, 1) := dk_4 (dk_at dksX7_worst_0 19 rfl rfl)
theorem dX7_worst_20 : decode cX7_worst 20 = .ok (.goto 4, 3) := dk_167 0 4 (dk_at dksX7_worst_0 20 rfl rfl)
theorem dX7_worst_23 : decode cX7_worst 23 = .ok (.iconst 0, 1) := dk_3 (dk_at dksX7_worst_0 23 rfl rfl)
theorem dX7_worst_24 : decode cX7_worst 24 = .ok (.iconst 1, 1) := dk_4 (dk_at dksX7_worst_1 0 rfl rfl)
theorem dX7_worst_25 : decode cX7_worst 25 = .ok (.invokevirtual 157, 3) := dk_182 0 157 (dk_at dksX7_worst_1 1 rfl rfl)
theorem dX7_worst_28 : decode cX7_worst 28 = .ok (.ifCond .eq 5, 3) := dk_153 0 5 (dk_at dksX7_worst_1 4 rfl rfl)
theorem dX7_worst_31 : decode cX7_worst 31 = .ok (.iconst 0, 1) := dk_3 (dk_at dksX7_worst_1 7 rfl rfl)
theorem dX7_worst_32 : decode cX7_worst 32 = .ok (.ireturn, 1) := dk_172 (dk_at dksX7_worst_1 8 rfl rfl)
theorem dX7_worst_33 : decode cX7_worst 33 = .ok (.iconst (-1), 1) := dk_2 (dk_at dksX7_worst_1 9 rfl rfl)
theorem dX7_worst_34 : decode cX7_worst 34 = .ok (.istore_n 2, 1) := dk_61 (dk_at dksX7_worst_1 10 rfl rfl)
theorem dX7_worst_35 : decode cX7_worst 35 = .ok (.iconst 0, 1) := dk_3 (dk_at dksX7_worst_1 11 rfl rfl)
theorem dX7_worst_36 : decode cX7_worst 36 = .ok (.istore_n 3, 1) := dk_62 (dk_at dksX7_worst_1 12 rfl rfl)
theorem dX7_worst_37 : decode cX7_worst 37 = .ok (.iconst 0, 1) := dk_3 (dk_at dksX7_worst_1 13 rfl rfl)
theorem dX7_worst_38 : decode cX7_worst 38 = .ok (.istore 4, 2) := dk_54 4 (dk_at dksX7_worst_1 14 rfl rfl)
theorem dX7_worst_40 : decode cX7_worst 40 = .ok (.iload 4, 2) := dk_21 4 (dk_at dksX7_worst_1 16 rfl rfl)
theorem dX7_worst_42 : decode cX7_worst 42 = .ok (.aload_n 0, 1) := dk_42 (dk_at dksX7_worst_1 18 rfl rfl)
theorem dX7_worst_43 : decode cX7_worst 43 = .ok (.invokevirtual 88, 3) := dk_182 0 88 (dk_at dksX7_worst_1 19 rfl rfl)
theorem dX7_worst_46 : decode cX7_worst 46 = .ok (.if_icmp .ge 56, 3) := dk_162 0 56 (dk_at dksX7_worst_2 0 rfl rfl)
theorem dX7_worst_49 : decode cX7_worst 49 = .ok (.aload_n 0, 1) := dk_42 (dk_at dksX7_worst_2 3 rfl rfl)
theorem dX7_worst_50 : decode cX7_worst 50 = .ok (.iload 4, 2) := dk_21 4 (dk_at dksX7_worst_2 4 rfl rfl)
theorem dX7_worst_52 : decode cX7_worst 52 = .ok (.invokevirtual 91, 3) := dk_182 0 91 (dk_at dksX7_worst_2 6 rfl rfl)
theorem dX7_worst_55 : decode cX7_worst 55 = .ok (.ifCond .eq 23, 3) := dk_153 0 23 (dk_at dksX7_worst_2 9 rfl rfl)
theorem dX7_worst_58 : decode cX7_worst 58 = .ok (.aload_n 0, 1) := dk_42 (dk_at dksX7_worst_2 12 rfl rfl)
theorem dX7_worst_59 : decode cX7_worst 59 = .ok (.getfield 120, 3) := dk_180 0 120 (dk_at dksX7_worst_2 13 rfl rfl)
theorem dX7_worst_62 : decode cX7_worst 62 = .ok (.aload_n 0, 1) := dk_42 (dk_at dksX7_worst_2 16 rfl rfl)
theorem dX7_worst_63 : decode cX7_worst 63 = .ok (.iconst 0, 1) := dk_3 (dk_at dksX7_worst_2 17 rfl rfl)
theorem dX7_worst_64 : decode cX7_worst 64 = .ok (.iload 4, 2) := dk_21 4 (dk_at dksX7_worst_2 18 rfl rfl)
theorem dX7_worst_66 : decode cX7_worst 66 = .ok (.invokevirtual 116, 3) := dk_182 0 116 (dk_at dksX7_worst_2 20 rfl rfl)
theorem dX7_worst_69 : decode cX7_worst 69 = .ok (.iconst (-1), 1) := dk_2 (dk_at dksX7_worst_2 23 rfl rfl)
theorem dX7_worst_70 : decode cX7_worst 70 = .ok (.ixor, 1) := dk_130 (dk_at dksX7_worst_3 0 rfl rfl)
theorem dX7_worst_71 : decode cX7_worst 71 = .ok (.iand, 1) := dk_126 (dk_at dksX7_worst_3 1 rfl rfl)
theorem dX7_worst_72 : decode cX7_worst 72 = .ok (.invokestatic 123, 3) := dk_184 0 123 (dk_at dksX7_worst_3 2 rfl rfl)
theorem dX7_worst_75 : decode cX7_worst 75 = .ok (.goto 4, 3) := dk_167 0 4 (dk_at dksX7_worst_3 5 rfl rfl)
theorem dX7_worst_78 : decode cX7_worst 78 = .ok (.iconst 0, 1) := dk_3 (dk_at dksX7_worst_3 8 rfl rfl)
theorem dX7_worst_79 : decode cX7_worst 79 = .ok (.istore 5, 2) := dk_54 5 (dk_at dksX7_worst_3 9 rfl rfl)
theorem dX7_worst_81 : decode cX7_worst 81 = .ok (.iload 5, 2) := dk_21 5 (dk_at dksX7_worst_3 11 rfl rfl)
theorem dX7_worst_83 : decode cX7_worst 83 = .ok (.iload_n 3, 1) := dk_29 (dk_at dksX7_worst_3 13 rfl rfl)
theorem dX7_worst_84 : decode cX7_worst 84 = .ok (.if_icmp .gt 6, 3) := dk_163 0 6 (dk_at dksX7_worst_3 14 rfl rfl)
theorem dX7_worst_87 : decode cX7_worst 87 = .ok (.goto 9, 3) := dk_167 0 9 (dk_at dksX7_worst_3 17 rfl rfl)
theorem dX7_worst_90 : decode cX7_worst 90 = .ok (.iload 4, 2) := dk_21 4 (dk_at dksX7_worst_3 20 rfl rfl)
theorem dX7_worst_92 : decode cX7_worst 92 = .ok (.istore_n 2, 1) := dk_61 (dk_at dksX7_worst_3 22 rfl rfl)
theorem dX7_worst_93 : decode cX7_worst 93 = .ok (.iload 5, 2) := dk_21 5 (dk_at dksX7_worst_4 0 rfl rfl)
theorem dX7_worst_95 : decode cX7_worst 95 = .ok (.istore_n 3, 1) := dk_62 (dk_at dksX7_worst_4 2 rfl rfl)
theorem dX7_worst_96 : decode cX7_worst 96 = .ok (.iinc 4 1, 3) := dk_132 4 1 (dk_at dksX7_worst_4 3 rfl rfl)
theorem dX7_worst_99 : decode cX7_worst 99 = .ok (.goto (-59), 3) := dk_167 255 197 (dk_at dksX7_worst_4 6 rfl rfl)
theorem dX7_worst_102 : decode cX7_worst 102 = .ok (.iload_n 1, 1) := dk_27 (dk_at dksX7_worst_4 9 rfl rfl)
theorem dX7_worst_103 : decode cX7_worst 103 = .ok (.ifCond .ne 7, 3) := dk_154 0 7 (dk_at dksX7_worst_4 10 rfl rfl)
theorem dX7_worst_106 : decode cX7_worst 106 = .ok (.iload_n 2, 1) := dk_28 (dk_at dksX7_worst_4 13 rfl rfl)
theorem dX7_worst_107 : decode cX7_worst 107 = .ok (.goto 4, 3) := dk_167 0 4 (dk_at dksX7_worst_4 14 rfl rfl)
theorem dX7_worst_110 : decode cX7_worst 110 = .ok (.iload_n 3, 1) := dk_29 (dk_at dksX7_worst_4 17 rfl rfl)
theorem dX7_worst_111 : decode cX7_worst 111 = .ok (.ireturn, 1) := dk_172 (dk_at dksX7_worst_4 18 rfl rfl)
abbrev cX7_fall : ByteArray := prog_11_method_102_code
def yX7_fall : MethodName := ⟨RX7, "fall", "(II)I"⟩
def dkwX7_fall_4 : List UInt8 := [180, 1, 116, 167, 0, 7, 42, 180, 1, 119, 172]
abbrev dktX7_fall_4 : List UInt8 := dkwX7_fall_4 ++ []
def dkwX7_fall_3 : List UInt8 := [3, 172, 42, 27, 182, 1, 122, 28, 154, 0, 10, 42, 180, 1, 113, 167, 0, 19, 28, 4, 160, 0, 10, 42]
abbrev dktX7_fall_3 : List UInt8 := dkwX7_fall_3 ++ dktX7_fall_4
def dkwX7_fall_2 : List UInt8 := [154, 0, 24, 42, 42, 27, 182, 0, 91, 154, 0, 7, 4, 167, 0, 4, 3, 6, 182, 0, 157, 153, 0, 5]
abbrev dktX7_fall_2 : List UInt8 := dkwX7_fall_2 ++ dktX7_fall_3
def dkwX7_fall_1 : List UInt8 := [154, 0, 46, 42, 28, 3, 5, 184, 0, 84, 154, 0, 7, 4, 167, 0, 4, 3, 5, 182, 0, 157]
abbrev dktX7_fall_1 : List UInt8 := dkwX7_fall_1 ++ dktX7_fall_2
def dkwX7_fall_0 : List UInt8 := [42, 3, 181, 0, 1, 42, 42, 27, 182, 0, 174, 154, 0, 7, 4, 167, 0, 4, 3, 4, 182, 0, 157]
abbrev dktX7_fall_0 : List UInt8 := dkwX7_fall_0 ++ dktX7_fall_1
theorem dksX7_fall_0 : cX7_fall.data.toList.drop 0 = dktX7_fall_0 := by decide +kernel
theorem dksX7_fall_1 : cX7_fall.data.toList.drop 23 = dktX7_fall_1 := dk_seg dksX7_fall_0 23 rfl rfl
theorem dksX7_fall_2 : cX7_fall.data.toList.drop 45 = dktX7_fall_2 := dk_seg dksX7_fall_1 22 rfl rfl
theorem dksX7_fall_3 : cX7_fall.data.toList.drop 69 = dktX7_fall_3 := dk_seg dksX7_fall_2 24 rfl rfl
theorem dksX7_fall_4 : cX7_fall.data.toList.drop 93 = dktX7_fall_4 := dk_seg dksX7_fall_3 24 rfl rfl
theorem dX7_fall_0 : decode cX7_fall 0 = .ok (.aload_n 0, 1) := dk_42 (dk_at dksX7_fall_0 0 rfl rfl)
theorem dX7_fall_1 : decode cX7_fall 1 = .ok (.iconst 0, 1) := dk_3 (dk_at dksX7_fall_0 1 rfl rfl)
theorem dX7_fall_2 : decode cX7_fall 2 = .ok (.putfield 1, 3) := dk_181 0 1 (dk_at dksX7_fall_0 2 rfl rfl)
theorem dX7_fall_5 : decode cX7_fall 5 = .ok (.aload_n 0, 1) := dk_42 (dk_at dksX7_fall_0 5 rfl rfl)
theorem dX7_fall_6 : decode cX7_fall 6 = .ok (.aload_n 0, 1) := dk_42 (dk_at dksX7_fall_0 6 rfl rfl)
theorem dX7_fall_7 : decode cX7_fall 7 = .ok (.iload_n 1, 1) := dk_27 (dk_at dksX7_fall_0 7 rfl rfl)
theorem dX7_fall_8 : decode cX7_fall 8 = .ok (.invokevirtual 174, 3) := dk_182 0 174 (dk_at dksX7_fall_0 8 rfl rfl)
theorem dX7_fall_11 : decode cX7_fall 11 = .ok (.ifCond .ne 7, 3) := dk_154 0 7 (dk_at dksX7_fall_0 11 rfl rfl)
theorem dX7_fall_14 : decode cX7_fall 14 = .ok (.iconst 1, 1) := dk_4 (dk_at dksX7_fall_0 14 rfl rfl)
theorem dX7_fall_15 : decode cX7_fall 15 = .ok (.goto 4, 3) := dk_167 0 4 (dk_at dksX7_fall_0 15 rfl rfl)
theorem dX7_fall_18 : decode cX7_fall 18 = .ok (.iconst 0, 1) := dk_3 (dk_at dksX7_fall_0 18 rfl rfl)
theorem dX7_fall_19 : decode cX7_fall 19 = .ok (.iconst 1, 1) := dk_4 (dk_at dksX7_fall_0 19 rfl rfl)
theorem dX7_fall_20 : decode cX7_fall 20 = .ok (.invokevirtual 157, 3) := dk_182 0 157 (dk_at dksX7_fall_0 20 rfl rfl)
theorem dX7_fall_23 : decode cX7_fall 23 = .ok (.ifCond .ne 46, 3) := dk_154 0 46 (dk_at dksX7_fall_1 0 rfl rfl)
theorem dX7_fall_26 : decode cX7_fall 26 = .ok (.aload_n 0, 1) := dk_42 (dk_at dksX7_fall_1 3 rfl rfl)
theorem dX7_fall_27 : decode cX7_fall 27 = .ok (.iload_n 2, 1) := dk_28 (dk_at dksX7_fall_1 4 rfl rfl)
theorem dX7_fall_28 : decode cX7_fall 28 = .ok (.iconst 0, 1) := dk_3 (dk_at dksX7_fall_1 5 rfl rfl)
theorem dX7_fall_29 : decode cX7_fall 29 = .ok (.iconst 2, 1) := dk_5 (dk_at dksX7_fall_1 6 rfl rfl)
theorem dX7_fall_30 : decode cX7_fall 30 = .ok (.invokestatic 84, 3) := dk_184 0 84 (dk_at dksX7_fall_1 7 rfl rfl)
theorem dX7_fall_33 : decode cX7_fall 33 = .ok (.ifCond .ne 7, 3) := dk_154 0 7 (dk_at dksX7_fall_1 10 rfl rfl)
theorem dX7_fall_36 : decode cX7_fall 36 = .ok (.iconst 1, 1) := dk_4 (dk_at dksX7_fall_1 13 rfl rfl)
theorem dX7_fall_37 : decode cX7_fall 37 = .ok (.goto 4, 3) := dk_167 0 4 (dk_at dksX7_fall_1 14 rfl rfl)
theorem dX7_fall_40 : decode cX7_fall 40 = .ok (.iconst 0, 1) := dk_3 (dk_at dksX7_fall_1 17 rfl rfl)
theorem dX7_fall_41 : decode cX7_fall 41 = .ok (.iconst 2, 1) := dk_5 (dk_at dksX7_fall_1 18 rfl rfl)
theorem dX7_fall_42 : decode cX7_fall 42 = .ok (.invokevirtual 157, 3) := dk_182 0 157 (dk_at dksX7_fall_1 19 rfl rfl)
theorem dX7_fall_45 : decode cX7_fall 45 = .ok (.ifCond .ne 24, 3) := dk_154 0 24 (dk_at dksX7_fall_2 0 rfl rfl)
theorem dX7_fall_48 : decode cX7_fall 48 = .ok (.aload_n 0, 1) := dk_42 (dk_at dksX7_fall_2 3 rfl rfl)
theorem dX7_fall_49 : decode cX7_fall 49 = .ok (.aload_n 0, 1) := dk_42 (dk_at dksX7_fall_2 4 rfl rfl)
theorem dX7_fall_50 : decode cX7_fall 50 = .ok (.iload_n 1, 1) := dk_27 (dk_at dksX7_fall_2 5 rfl rfl)
theorem dX7_fall_51 : decode cX7_fall 51 = .ok (.invokevirtual 91, 3) := dk_182 0 91 (dk_at dksX7_fall_2 6 rfl rfl)
theorem dX7_fall_54 : decode cX7_fall 54 = .ok (.ifCond .ne 7, 3) := dk_154 0 7 (dk_at dksX7_fall_2 9 rfl rfl)
theorem dX7_fall_57 : decode cX7_fall 57 = .ok (.iconst 1, 1) := dk_4 (dk_at dksX7_fall_2 12 rfl rfl)
theorem dX7_fall_58 : decode cX7_fall 58 = .ok (.goto 4, 3) := dk_167 0 4 (dk_at dksX7_fall_2 13 rfl rfl)
theorem dX7_fall_61 : decode cX7_fall 61 = .ok (.iconst 0, 1) := dk_3 (dk_at dksX7_fall_2 16 rfl rfl)
theorem dX7_fall_62 : decode cX7_fall 62 = .ok (.iconst 3, 1) := dk_6 (dk_at dksX7_fall_2 17 rfl rfl)
theorem dX7_fall_63 : decode cX7_fall 63 = .ok (.invokevirtual 157, 3) := dk_182 0 157 (dk_at dksX7_fall_2 18 rfl rfl)
theorem dX7_fall_66 : decode cX7_fall 66 = .ok (.ifCond .eq 5, 3) := dk_153 0 5 (dk_at dksX7_fall_2 21 rfl rfl)
theorem dX7_fall_69 : decode cX7_fall 69 = .ok (.iconst 0, 1) := dk_3 (dk_at dksX7_fall_3 0 rfl rfl)
theorem dX7_fall_70 : decode cX7_fall 70 = .ok (.ireturn, 1) := dk_172 (dk_at dksX7_fall_3 1 rfl rfl)
theorem dX7_fall_71 : decode cX7_fall 71 = .ok (.aload_n 0, 1) := dk_42 (dk_at dksX7_fall_3 2 rfl rfl)
theorem dX7_fall_72 : decode cX7_fall 72 = .ok (.iload_n 1, 1) := dk_27 (dk_at dksX7_fall_3 3 rfl rfl)
theorem dX7_fall_73 : decode cX7_fall 73 = .ok (.invokevirtual 378, 3) := dk_182 1 122 (dk_at dksX7_fall_3 4 rfl rfl)
theorem dX7_fall_76 : decode cX7_fall 76 = .ok (.iload_n 2, 1) := dk_28 (dk_at dksX7_fall_3 7 rfl rfl)
theorem dX7_fall_77 : decode cX7_fall 77 = .ok (.ifCond .ne 10, 3) := dk_154 0 10 (dk_at dksX7_fall_3 8 rfl rfl)
theorem dX7_fall_80 : decode cX7_fall 80 = .ok (.aload_n 0, 1) := dk_42 (dk_at dksX7_fall_3 11 rfl rfl)
theorem dX7_fall_81 : decode cX7_fall 81 = .ok (.getfield 369, 3) := dk_180 1 113 (dk_at dksX7_fall_3 12 rfl rfl)
theorem dX7_fall_84 : decode cX7_fall 84 = .ok (.goto 19, 3) := dk_167 0 19 (dk_at dksX7_fall_3 15 rfl rfl)
theorem dX7_fall_87 : decode cX7_fall 87 = .ok (.iload_n 2, 1) := dk_28 (dk_at dksX7_fall_3 18 rfl rfl)
theorem dX7_fall_88 : decode cX7_fall 88 = .ok (.iconst 1, 1) := dk_4 (dk_at dksX7_fall_3 19 rfl rfl)
theorem dX7_fall_89 : decode cX7_fall 89 = .ok (.if_icmp .ne 10, 3) := dk_160 0 10 (dk_at dksX7_fall_3 20 rfl rfl)
theorem dX7_fall_92 : decode cX7_fall 92 = .ok (.aload_n 0, 1) := dk_42 (dk_at dksX7_fall_3 23 rfl rfl)
theorem dX7_fall_93 : decode cX7_fall 93 = .ok (.getfield 372, 3) := dk_180 1 116 (dk_at dksX7_fall_4 0 rfl rfl)
theorem dX7_fall_96 : decode cX7_fall 96 = .ok (.goto 7, 3) := dk_167 0 7 (dk_at dksX7_fall_4 3 rfl rfl)
theorem dX7_fall_99 : decode cX7_fall 99 = .ok (.aload_n 0, 1) := dk_42 (dk_at dksX7_fall_4 6 rfl rfl)
theorem dX7_fall_100 : decode cX7_fall 100 = .ok (.getfield 375, 3) := dk_180 1 119 (dk_at dksX7_fall_4 7 rfl rfl)
theorem dX7_fall_103 : decode cX7_fall 103 = .ok (.ireturn, 1) := dk_172 (dk_at dksX7_fall_4 10 rfl rfl)
abbrev cX7_triesWithout : ByteArray := prog_11_method_101_code
def yX7_triesWithout : MethodName := ⟨RX7, "triesWithout", "(I)V"⟩
def dkwX7_triesWithout_0 : List UInt8 := [42, 182, 0, 151, 42, 27, 181, 0, 29, 42, 182, 1, 107, 177]
abbrev dktX7_triesWithout_0 : List UInt8 := dkwX7_triesWithout_0 ++ []
theorem dksX7_triesWithout_0 : cX7_triesWithout.data.toList.drop 0 = dktX7_triesWithout_0 := by decide +kernel
theorem dX7_triesWithout_0 : decode cX7_triesWithout 0 = .ok (.aload_n 0, 1) := dk_42 (dk_at dksX7_triesWithout_0 0 rfl rfl)
theorem dX7_triesWithout_1 : decode cX7_triesWithout 1 = .ok (.invokevirtual 151, 3) := dk_182 0 151 (dk_at dksX7_triesWithout_0 1 rfl rfl)
theorem dX7_triesWithout_4 : decode cX7_triesWithout 4 = .ok (.aload_n 0, 1) := dk_42 (dk_at dksX7_triesWithout_0 4 rfl rfl)
theorem dX7_triesWithout_5 : decode cX7_triesWithout 5 = .ok (.iload_n 1, 1) := dk_27 (dk_at dksX7_triesWithout_0 5 rfl rfl)
theorem dX7_triesWithout_6 : decode cX7_triesWithout 6 = .ok (.putfield 29, 3) := dk_181 0 29 (dk_at dksX7_triesWithout_0 6 rfl rfl)
theorem dX7_triesWithout_9 : decode cX7_triesWithout 9 = .ok (.aload_n 0, 1) := dk_42 (dk_at dksX7_triesWithout_0 9 rfl rfl)
theorem dX7_triesWithout_10 : decode cX7_triesWithout 10 = .ok (.invokevirtual 363, 3) := dk_182 1 107 (dk_at dksX7_triesWithout_0 10 rfl rfl)
theorem dX7_triesWithout_13 : decode cX7_triesWithout 13 = .ok (.return_, 1) := dk_177 (dk_at dksX7_triesWithout_0 13 rfl rfl)
abbrev cX7_differs : ByteArray := prog_11_method_100_code
def yX7_differs : MethodName := ⟨RX7, "differs", "()V"⟩
def dkwX7_differs_6 : List UInt8 := [167, 255, 173, 177]
abbrev dktX7_differs_6 : List UInt8 := dkwX7_differs_6 ++ []
def dkwX7_differs_5 : List UInt8 := [180, 1, 119, 42, 180, 0, 41, 27, 46, 42, 180, 0, 35, 27, 46, 100, 96, 181, 1, 119, 132, 1, 1]
abbrev dktX7_differs_5 : List UInt8 := dkwX7_differs_5 ++ dktX7_differs_6
def dkwX7_differs_4 : List UInt8 := [46, 42, 180, 0, 44, 27, 46, 160, 0, 7, 3, 167, 0, 6, 4, 27, 120, 128, 181, 1, 116, 42, 89]
abbrev dktX7_differs_4 : List UInt8 := dkwX7_differs_4 ++ dktX7_differs_5
def dkwX7_differs_3 : List UInt8 := [180, 0, 129, 126, 27, 184, 0, 99, 154, 0, 6, 167, 0, 56, 42, 89, 180, 1, 116, 42, 180, 0, 38, 27]
abbrev dktX7_differs_3 : List UInt8 := dkwX7_differs_3 ++ dktX7_differs_4
def dkwX7_differs_2 : List UInt8 := [181, 1, 116, 42, 3, 181, 1, 119, 3, 60, 27, 42, 182, 0, 80, 162, 0, 81, 42, 180, 0, 120, 42]
abbrev dktX7_differs_2 : List UInt8 := dkwX7_differs_2 ++ dktX7_differs_3
def dkwX7_differs_1 : List UInt8 := [130, 126, 181, 1, 110, 42, 42, 180, 0, 129, 42, 180, 0, 120, 2, 130, 126, 181, 1, 113, 42, 3]
abbrev dktX7_differs_1 : List UInt8 := dkwX7_differs_1 ++ dktX7_differs_2
def dkwX7_differs_0 : List UInt8 := [42, 182, 0, 126, 42, 2, 181, 0, 26, 42, 2, 181, 0, 29, 42, 42, 180, 0, 120, 42, 180, 0, 129, 2]
abbrev dktX7_differs_0 : List UInt8 := dkwX7_differs_0 ++ dktX7_differs_1
theorem dksX7_differs_0 : cX7_differs.data.toList.drop 0 = dktX7_differs_0 := by decide +kernel
theorem dksX7_differs_1 : cX7_differs.data.toList.drop 24 = dktX7_differs_1 := dk_seg dksX7_differs_0 24 rfl rfl
theorem dksX7_differs_2 : cX7_differs.data.toList.drop 46 = dktX7_differs_2 := dk_seg dksX7_differs_1 22 rfl rfl
theorem dksX7_differs_3 : cX7_differs.data.toList.drop 69 = dktX7_differs_3 := dk_seg dksX7_differs_2 23 rfl rfl
theorem dksX7_differs_4 : cX7_differs.data.toList.drop 93 = dktX7_differs_4 := dk_seg dksX7_differs_3 24 rfl rfl
theorem dksX7_differs_5 : cX7_differs.data.toList.drop 116 = dktX7_differs_5 := dk_seg dksX7_differs_4 23 rfl rfl
theorem dksX7_differs_6 : cX7_differs.data.toList.drop 139 = dktX7_differs_6 := dk_seg dksX7_differs_5 23 rfl rfl
theorem dX7_differs_0 : decode cX7_differs 0 = .ok (.aload_n 0, 1) := dk_42 (dk_at dksX7_differs_0 0 rfl rfl)
theorem dX7_differs_1 : decode cX7_differs 1 = .ok (.invokevirtual 126, 3) := dk_182 0 126 (dk_at dksX7_differs_0 1 rfl rfl)
theorem dX7_differs_4 : decode cX7_differs 4 = .ok (.aload_n 0, 1) := dk_42 (dk_at dksX7_differs_0 4 rfl rfl)
theorem dX7_differs_5 : decode cX7_differs 5 = .ok (.iconst (-1), 1) := dk_2 (dk_at dksX7_differs_0 5 rfl rfl)
theorem dX7_differs_6 : decode cX7_differs 6 = .ok (.putfield 26, 3) := dk_181 0 26 (dk_at dksX7_differs_0 6 rfl rfl)
theorem dX7_differs_9 : decode cX7_differs 9 = .ok (.aload_n 0, 1) := dk_42 (dk_at dksX7_differs_0 9 rfl rfl)
theorem dX7_differs_10 : decode cX7_differs 10 = .ok (.iconst (-1), 1) := dk_2 (dk_at dksX7_differs_0 10 rfl rfl)
theorem dX7_differs_11 : decode cX7_differs 11 = .ok (.putfield 29, 3) := dk_181 0 29 (dk_at dksX7_differs_0 11 rfl rfl)
theorem dX7_differs_14 : decode cX7_differs 14 = .ok (.aload_n 0, 1) := dk_42 (dk_at dksX7_differs_0 14 rfl rfl)
theorem dX7_differs_15 : decode cX7_differs 15 = .ok (.aload_n 0, 1) := dk_42 (dk_at dksX7_differs_0 15 rfl rfl)
theorem dX7_differs_16 : decode cX7_differs 16 = .ok (.getfield 120, 3) := dk_180 0 120 (dk_at dksX7_differs_0 16 rfl rfl)
theorem dX7_differs_19 : decode cX7_differs 19 = .ok (.aload_n 0, 1) := dk_42 (dk_at dksX7_differs_0 19 rfl rfl)
theorem dX7_differs_20 : decode cX7_differs 20 = .ok (.getfield 129, 3) := dk_180 0 129 (dk_at dksX7_differs_0 20 rfl rfl)
theorem dX7_differs_23 : decode cX7_differs 23 = .ok (.iconst (-1), 1) := dk_2 (dk_at dksX7_differs_0 23 rfl rfl)
theorem dX7_differs_24 : decode cX7_differs 24 = .ok (.ixor, 1) := dk_130 (dk_at dksX7_differs_1 0 rfl rfl)
theorem dX7_differs_25 : decode cX7_differs 25 = .ok (.iand, 1) := dk_126 (dk_at dksX7_differs_1 1 rfl rfl)
theorem dX7_differs_26 : decode cX7_differs 26 = .ok (.putfield 366, 3) := dk_181 1 110 (dk_at dksX7_differs_1 2 rfl rfl)
theorem dX7_differs_29 : decode cX7_differs 29 = .ok (.aload_n 0, 1) := dk_42 (dk_at dksX7_differs_1 5 rfl rfl)
theorem dX7_differs_30 : decode cX7_differs 30 = .ok (.aload_n 0, 1) := dk_42 (dk_at dksX7_differs_1 6 rfl rfl)
theorem dX7_differs_31 : decode cX7_differs 31 = .ok (.getfield 129, 3) := dk_180 0 129 (dk_at dksX7_differs_1 7 rfl rfl)
theorem dX7_differs_34 : decode cX7_differs 34 = .ok (.aload_n 0, 1) := dk_42 (dk_at dksX7_differs_1 10 rfl rfl)
theorem dX7_differs_35 : decode cX7_differs 35 = .ok (.getfield 120, 3) := dk_180 0 120 (dk_at dksX7_differs_1 11 rfl rfl)
theorem dX7_differs_38 : decode cX7_differs 38 = .ok (.iconst (-1), 1) := dk_2 (dk_at dksX7_differs_1 14 rfl rfl)
theorem dX7_differs_39 : decode cX7_differs 39 = .ok (.ixor, 1) := dk_130 (dk_at dksX7_differs_1 15 rfl rfl)
theorem dX7_differs_40 : decode cX7_differs 40 = .ok (.iand, 1) := dk_126 (dk_at dksX7_differs_1 16 rfl rfl)
theorem dX7_differs_41 : decode cX7_differs 41 = .ok (.putfield 369, 3) := dk_181 1 113 (dk_at dksX7_differs_1 17 rfl rfl)
theorem dX7_differs_44 : decode cX7_differs 44 = .ok (.aload_n 0, 1) := dk_42 (dk_at dksX7_differs_1 20 rfl rfl)
theorem dX7_differs_45 : decode cX7_differs 45 = .ok (.iconst 0, 1) := dk_3 (dk_at dksX7_differs_1 21 rfl rfl)
theorem dX7_differs_46 : decode cX7_differs 46 = .ok (.putfield 372, 3) := dk_181 1 116 (dk_at dksX7_differs_2 0 rfl rfl)
theorem dX7_differs_49 : decode cX7_differs 49 = .ok (.aload_n 0, 1) := dk_42 (dk_at dksX7_differs_2 3 rfl rfl)
theorem dX7_differs_50 : decode cX7_differs 50 = .ok (.iconst 0, 1) := dk_3 (dk_at dksX7_differs_2 4 rfl rfl)
theorem dX7_differs_51 : decode cX7_differs 51 = .ok (.putfield 375, 3) := dk_181 1 119 (dk_at dksX7_differs_2 5 rfl rfl)
theorem dX7_differs_54 : decode cX7_differs 54 = .ok (.iconst 0, 1) := dk_3 (dk_at dksX7_differs_2 8 rfl rfl)
theorem dX7_differs_55 : decode cX7_differs 55 = .ok (.istore_n 1, 1) := dk_60 (dk_at dksX7_differs_2 9 rfl rfl)
theorem dX7_differs_56 : decode cX7_differs 56 = .ok (.iload_n 1, 1) := dk_27 (dk_at dksX7_differs_2 10 rfl rfl)
theorem dX7_differs_57 : decode cX7_differs 57 = .ok (.aload_n 0, 1) := dk_42 (dk_at dksX7_differs_2 11 rfl rfl)
theorem dX7_differs_58 : decode cX7_differs 58 = .ok (.invokevirtual 80, 3) := dk_182 0 80 (dk_at dksX7_differs_2 12 rfl rfl)
theorem dX7_differs_61 : decode cX7_differs 61 = .ok (.if_icmp .ge 81, 3) := dk_162 0 81 (dk_at dksX7_differs_2 15 rfl rfl)
theorem dX7_differs_64 : decode cX7_differs 64 = .ok (.aload_n 0, 1) := dk_42 (dk_at dksX7_differs_2 18 rfl rfl)
theorem dX7_differs_65 : decode cX7_differs 65 = .ok (.getfield 120, 3) := dk_180 0 120 (dk_at dksX7_differs_2 19 rfl rfl)
theorem dX7_differs_68 : decode cX7_differs 68 = .ok (.aload_n 0, 1) := dk_42 (dk_at dksX7_differs_2 22 rfl rfl)
theorem dX7_differs_69 : decode cX7_differs 69 = .ok (.getfield 129, 3) := dk_180 0 129 (dk_at dksX7_differs_3 0 rfl rfl)
theorem dX7_differs_72 : decode cX7_differs 72 = .ok (.iand, 1) := dk_126 (dk_at dksX7_differs_3 3 rfl rfl)
theorem dX7_differs_73 : decode cX7_differs 73 = .ok (.iload_n 1, 1) := dk_27 (dk_at dksX7_differs_3 4 rfl rfl)
theorem dX7_differs_74 : decode cX7_differs 74 = .ok (.invokestatic 99, 3) := dk_184 0 99 (dk_at dksX7_differs_3 5 rfl rfl)
theorem dX7_differs_77 : decode cX7_differs 77 = .ok (.ifCond .ne 6, 3) := dk_154 0 6 (dk_at dksX7_differs_3 8 rfl rfl)
theorem dX7_differs_80 : decode cX7_differs 80 = .ok (.goto 56, 3) := dk_167 0 56 (dk_at dksX7_differs_3 11 rfl rfl)
theorem dX7_differs_83 : decode cX7_differs 83 = .ok (.aload_n 0, 1) := dk_42 (dk_at dksX7_differs_3 14 rfl rfl)
theorem dX7_differs_84 : decode cX7_differs 84 = .ok (.dup, 1) := dk_89 (dk_at dksX7_differs_3 15 rfl rfl)
theorem dX7_differs_85 : decode cX7_differs 85 = .ok (.getfield 372, 3) := dk_180 1 116 (dk_at dksX7_differs_3 16 rfl rfl)
theorem dX7_differs_88 : decode cX7_differs 88 = .ok (.aload_n 0, 1) := dk_42 (dk_at dksX7_differs_3 19 rfl rfl)
theorem dX7_differs_89 : decode cX7_differs 89 = .ok (.getfield 38, 3) := dk_180 0 38 (dk_at dksX7_differs_3 20 rfl rfl)
theorem dX7_differs_92 : decode cX7_differs 92 = .ok (.iload_n 1, 1) := dk_27 (dk_at dksX7_differs_3 23 rfl rfl)
theorem dX7_differs_93 : decode cX7_differs 93 = .ok (.iaload, 1) := dk_46 (dk_at dksX7_differs_4 0 rfl rfl)
theorem dX7_differs_94 : decode cX7_differs 94 = .ok (.aload_n 0, 1) := dk_42 (dk_at dksX7_differs_4 1 rfl rfl)
theorem dX7_differs_95 : decode cX7_differs 95 = .ok (.getfield 44, 3) := dk_180 0 44 (dk_at dksX7_differs_4 2 rfl rfl)
theorem dX7_differs_98 : decode cX7_differs 98 = .ok (.iload_n 1, 1) := dk_27 (dk_at dksX7_differs_4 5 rfl rfl)
theorem dX7_differs_99 : decode cX7_differs 99 = .ok (.iaload, 1) := dk_46 (dk_at dksX7_differs_4 6 rfl rfl)
theorem dX7_differs_100 : decode cX7_differs 100 = .ok (.if_icmp .ne 7, 3) := dk_160 0 7 (dk_at dksX7_differs_4 7 rfl rfl)
theorem dX7_differs_103 : decode cX7_differs 103 = .ok (.iconst 0, 1) := dk_3 (dk_at dksX7_differs_4 10 rfl rfl)
theorem dX7_differs_104 : decode cX7_differs 104 = .ok (.goto 6, 3) := dk_167 0 6 (dk_at dksX7_differs_4 11 rfl rfl)
theorem dX7_differs_107 : decode cX7_differs 107 = .ok (.iconst 1, 1) := dk_4 (dk_at dksX7_differs_4 14 rfl rfl)
theorem dX7_differs_108 : decode cX7_differs 108 = .ok (.iload_n 1, 1) := dk_27 (dk_at dksX7_differs_4 15 rfl rfl)
theorem dX7_differs_109 : decode cX7_differs 109 = .ok (.ishl, 1) := dk_120 (dk_at dksX7_differs_4 16 rfl rfl)
theorem dX7_differs_110 : decode cX7_differs 110 = .ok (.ior, 1) := dk_128 (dk_at dksX7_differs_4 17 rfl rfl)
theorem dX7_differs_111 : decode cX7_differs 111 = .ok (.putfield 372, 3) := dk_181 1 116 (dk_at dksX7_differs_4 18 rfl rfl)
theorem dX7_differs_114 : decode cX7_differs 114 = .ok (.aload_n 0, 1) := dk_42 (dk_at dksX7_differs_4 21 rfl rfl)
theorem dX7_differs_115 : decode cX7_differs 115 = .ok (.dup, 1) := dk_89 (dk_at dksX7_differs_4 22 rfl rfl)
theorem dX7_differs_116 : decode cX7_differs 116 = .ok (.getfield 375, 3) := dk_180 1 119 (dk_at dksX7_differs_5 0 rfl rfl)
theorem dX7_differs_119 : decode cX7_differs 119 = .ok (.aload_n 0, 1) := dk_42 (dk_at dksX7_differs_5 3 rfl rfl)
theorem dX7_differs_120 : decode cX7_differs 120 = .ok (.getfield 41, 3) := dk_180 0 41 (dk_at dksX7_differs_5 4 rfl rfl)
theorem dX7_differs_123 : decode cX7_differs 123 = .ok (.iload_n 1, 1) := dk_27 (dk_at dksX7_differs_5 7 rfl rfl)
theorem dX7_differs_124 : decode cX7_differs 124 = .ok (.iaload, 1) := dk_46 (dk_at dksX7_differs_5 8 rfl rfl)
theorem dX7_differs_125 : decode cX7_differs 125 = .ok (.aload_n 0, 1) := dk_42 (dk_at dksX7_differs_5 9 rfl rfl)
theorem dX7_differs_126 : decode cX7_differs 126 = .ok (.getfield 35, 3) := dk_180 0 35 (dk_at dksX7_differs_5 10 rfl rfl)
theorem dX7_differs_129 : decode cX7_differs 129 = .ok (.iload_n 1, 1) := dk_27 (dk_at dksX7_differs_5 13 rfl rfl)
theorem dX7_differs_130 : decode cX7_differs 130 = .ok (.iaload, 1) := dk_46 (dk_at dksX7_differs_5 14 rfl rfl)
theorem dX7_differs_131 : decode cX7_differs 131 = .ok (.isub, 1) := dk_100 (dk_at dksX7_differs_5 15 rfl rfl)
theorem dX7_differs_132 : decode cX7_differs 132 = .ok (.iadd, 1) := dk_96 (dk_at dksX7_differs_5 16 rfl rfl)
theorem dX7_differs_133 : decode cX7_differs 133 = .ok (.putfield 375, 3) := dk_181 1 119 (dk_at dksX7_differs_5 17 rfl rfl)
theorem dX7_differs_136 : decode cX7_differs 136 = .ok (.iinc 1 1, 3) := dk_132 1 1 (dk_at dksX7_differs_5 20 rfl rfl)
theorem dX7_differs_139 : decode cX7_differs 139 = .ok (.goto (-83), 3) := dk_167 255 173 (dk_at dksX7_differs_6 0 rfl rfl)
theorem dX7_differs_142 : decode cX7_differs 142 = .ok (.return_, 1) := dk_177 (dk_at dksX7_differs_6 3 rfl rfl)
abbrev cX7_would : ByteArray := prog_11_method_104_code
def yX7_would : MethodName := ⟨RX7, "would", "(III)I"⟩
def dkwX7_would_3 : List UInt8 := [180, 1, 119, 172]
abbrev dktX7_would_3 : List UInt8 := dkwX7_would_3 ++ []
def dkwX7_would_2 : List UInt8 := [154, 0, 10, 42, 180, 1, 110, 167, 0, 19, 29, 4, 160, 0, 10, 42, 180, 1, 116, 167, 0, 7, 42]
abbrev dktX7_would_2 : List UInt8 := dkwX7_would_2 ++ dktX7_would_3
def dkwX7_would_1 : List UInt8 := [154, 0, 7, 4, 167, 0, 4, 3, 5, 182, 0, 157, 153, 0, 5, 3, 172, 42, 27, 28, 182, 1, 125, 29]
abbrev dktX7_would_1 : List UInt8 := dkwX7_would_1 ++ dktX7_would_2
def dkwX7_would_0 : List UInt8 := [42, 27, 182, 1, 47, 154, 0, 33, 42, 28, 182, 1, 47, 154, 0, 25, 42, 29, 3, 5, 184, 0, 84]
abbrev dktX7_would_0 : List UInt8 := dkwX7_would_0 ++ dktX7_would_1
theorem dksX7_would_0 : cX7_would.data.toList.drop 0 = dktX7_would_0 := by decide +kernel
theorem dksX7_would_1 : cX7_would.data.toList.drop 23 = dktX7_would_1 := dk_seg dksX7_would_0 23 rfl rfl
theorem dksX7_would_2 : cX7_would.data.toList.drop 47 = dktX7_would_2 := dk_seg dksX7_would_1 24 rfl rfl
theorem dksX7_would_3 : cX7_would.data.toList.drop 70 = dktX7_would_3 := dk_seg dksX7_would_2 23 rfl rfl
theorem dX7_would_0 : decode cX7_would 0 = .ok (.aload_n 0, 1) := dk_42 (dk_at dksX7_would_0 0 rfl rfl)
theorem dX7_would_1 : decode cX7_would 1 = .ok (.iload_n 1, 1) := dk_27 (dk_at dksX7_would_0 1 rfl rfl)
theorem dX7_would_2 : decode cX7_would 2 = .ok (.invokevirtual 303, 3) := dk_182 1 47 (dk_at dksX7_would_0 2 rfl rfl)
theorem dX7_would_5 : decode cX7_would 5 = .ok (.ifCond .ne 33, 3) := dk_154 0 33 (dk_at dksX7_would_0 5 rfl rfl)
theorem dX7_would_8 : decode cX7_would 8 = .ok (.aload_n 0, 1) := dk_42 (dk_at dksX7_would_0 8 rfl rfl)
theorem dX7_would_9 : decode cX7_would 9 = .ok (.iload_n 2, 1) := dk_28 (dk_at dksX7_would_0 9 rfl rfl)
theorem dX7_would_10 : decode cX7_would 10 = .ok (.invokevirtual 303, 3) := dk_182 1 47 (dk_at dksX7_would_0 10 rfl rfl)
theorem dX7_would_13 : decode cX7_would 13 = .ok (.ifCond .ne 25, 3) := dk_154 0 25 (dk_at dksX7_would_0 13 rfl rfl)
theorem dX7_would_16 : decode cX7_would 16 = .ok (.aload_n 0, 1) := dk_42 (dk_at dksX7_would_0 16 rfl rfl)
theorem dX7_would_17 : decode cX7_would 17 = .ok (.iload_n 3, 1) := dk_29 (dk_at dksX7_would_0 17 rfl rfl)
theorem dX7_would_18 : decode cX7_would 18 = .ok (.iconst 0, 1) := dk_3 (dk_at dksX7_would_0 18 rfl rfl)
theorem dX7_would_19 : decode cX7_would 19 = .ok (.iconst 2, 1) := dk_5 (dk_at dksX7_would_0 19 rfl rfl)
theorem dX7_would_20 : decode cX7_would 20 = .ok (.invokestatic 84, 3) := dk_184 0 84 (dk_at dksX7_would_0 20 rfl rfl)
theorem dX7_would_23 : decode cX7_would 23 = .ok (.ifCond .ne 7, 3) := dk_154 0 7 (dk_at dksX7_would_1 0 rfl rfl)
theorem dX7_would_26 : decode cX7_would 26 = .ok (.iconst 1, 1) := dk_4 (dk_at dksX7_would_1 3 rfl rfl)
theorem dX7_would_27 : decode cX7_would 27 = .ok (.goto 4, 3) := dk_167 0 4 (dk_at dksX7_would_1 4 rfl rfl)
theorem dX7_would_30 : decode cX7_would 30 = .ok (.iconst 0, 1) := dk_3 (dk_at dksX7_would_1 7 rfl rfl)
theorem dX7_would_31 : decode cX7_would 31 = .ok (.iconst 2, 1) := dk_5 (dk_at dksX7_would_1 8 rfl rfl)
theorem dX7_would_32 : decode cX7_would 32 = .ok (.invokevirtual 157, 3) := dk_182 0 157 (dk_at dksX7_would_1 9 rfl rfl)
theorem dX7_would_35 : decode cX7_would 35 = .ok (.ifCond .eq 5, 3) := dk_153 0 5 (dk_at dksX7_would_1 12 rfl rfl)
theorem dX7_would_38 : decode cX7_would 38 = .ok (.iconst 0, 1) := dk_3 (dk_at dksX7_would_1 15 rfl rfl)
theorem dX7_would_39 : decode cX7_would 39 = .ok (.ireturn, 1) := dk_172 (dk_at dksX7_would_1 16 rfl rfl)
theorem dX7_would_40 : decode cX7_would 40 = .ok (.aload_n 0, 1) := dk_42 (dk_at dksX7_would_1 17 rfl rfl)
theorem dX7_would_41 : decode cX7_would 41 = .ok (.iload_n 1, 1) := dk_27 (dk_at dksX7_would_1 18 rfl rfl)
theorem dX7_would_42 : decode cX7_would 42 = .ok (.iload_n 2, 1) := dk_28 (dk_at dksX7_would_1 19 rfl rfl)
theorem dX7_would_43 : decode cX7_would 43 = .ok (.invokevirtual 381, 3) := dk_182 1 125 (dk_at dksX7_would_1 20 rfl rfl)
theorem dX7_would_46 : decode cX7_would 46 = .ok (.iload_n 3, 1) := dk_29 (dk_at dksX7_would_1 23 rfl rfl)
theorem dX7_would_47 : decode cX7_would 47 = .ok (.ifCond .ne 10, 3) := dk_154 0 10 (dk_at dksX7_would_2 0 rfl rfl)
theorem dX7_would_50 : decode cX7_would 50 = .ok (.aload_n 0, 1) := dk_42 (dk_at dksX7_would_2 3 rfl rfl)
theorem dX7_would_51 : decode cX7_would 51 = .ok (.getfield 366, 3) := dk_180 1 110 (dk_at dksX7_would_2 4 rfl rfl)
theorem dX7_would_54 : decode cX7_would 54 = .ok (.goto 19, 3) := dk_167 0 19 (dk_at dksX7_would_2 7 rfl rfl)
theorem dX7_would_57 : decode cX7_would 57 = .ok (.iload_n 3, 1) := dk_29 (dk_at dksX7_would_2 10 rfl rfl)
theorem dX7_would_58 : decode cX7_would 58 = .ok (.iconst 1, 1) := dk_4 (dk_at dksX7_would_2 11 rfl rfl)
theorem dX7_would_59 : decode cX7_would 59 = .ok (.if_icmp .ne 10, 3) := dk_160 0 10 (dk_at dksX7_would_2 12 rfl rfl)
theorem dX7_would_62 : decode cX7_would 62 = .ok (.aload_n 0, 1) := dk_42 (dk_at dksX7_would_2 15 rfl rfl)
theorem dX7_would_63 : decode cX7_would 63 = .ok (.getfield 372, 3) := dk_180 1 116 (dk_at dksX7_would_2 16 rfl rfl)
theorem dX7_would_66 : decode cX7_would 66 = .ok (.goto 7, 3) := dk_167 0 7 (dk_at dksX7_would_2 19 rfl rfl)
theorem dX7_would_69 : decode cX7_would 69 = .ok (.aload_n 0, 1) := dk_42 (dk_at dksX7_would_2 22 rfl rfl)
theorem dX7_would_70 : decode cX7_would 70 = .ok (.getfield 375, 3) := dk_180 1 119 (dk_at dksX7_would_3 0 rfl rfl)
theorem dX7_would_73 : decode cX7_would 73 = .ok (.ireturn, 1) := dk_172 (dk_at dksX7_would_3 3 rfl rfl)
abbrev cX7_tries : ByteArray := prog_11_method_99_code
def yX7_tries : MethodName := ⟨RX7, "tries", "(II)V"⟩
def dkwX7_tries_0 : List UInt8 := [42, 182, 0, 151, 42, 27, 181, 0, 26, 42, 28, 181, 0, 106, 42, 182, 1, 107, 177]
abbrev dktX7_tries_0 : List UInt8 := dkwX7_tries_0 ++ []
theorem dksX7_tries_0 : cX7_tries.data.toList.drop 0 = dktX7_tries_0 := by decide +kernel
theorem dX7_tries_0 : decode cX7_tries 0 = .ok (.aload_n 0, 1) := dk_42 (dk_at dksX7_tries_0 0 rfl rfl)
theorem dX7_tries_1 : decode cX7_tries 1 = .ok (.invokevirtual 151, 3) := dk_182 0 151 (dk_at dksX7_tries_0 1 rfl rfl)
theorem dX7_tries_4 : decode cX7_tries 4 = .ok (.aload_n 0, 1) := dk_42 (dk_at dksX7_tries_0 4 rfl rfl)
theorem dX7_tries_5 : decode cX7_tries 5 = .ok (.iload_n 1, 1) := dk_27 (dk_at dksX7_tries_0 5 rfl rfl)
theorem dX7_tries_6 : decode cX7_tries 6 = .ok (.putfield 26, 3) := dk_181 0 26 (dk_at dksX7_tries_0 6 rfl rfl)
theorem dX7_tries_9 : decode cX7_tries 9 = .ok (.aload_n 0, 1) := dk_42 (dk_at dksX7_tries_0 9 rfl rfl)
theorem dX7_tries_10 : decode cX7_tries 10 = .ok (.iload_n 2, 1) := dk_28 (dk_at dksX7_tries_0 10 rfl rfl)
theorem dX7_tries_11 : decode cX7_tries 11 = .ok (.putfield 106, 3) := dk_181 0 106 (dk_at dksX7_tries_0 11 rfl rfl)
theorem dX7_tries_14 : decode cX7_tries 14 = .ok (.aload_n 0, 1) := dk_42 (dk_at dksX7_tries_0 14 rfl rfl)
theorem dX7_tries_15 : decode cX7_tries 15 = .ok (.invokevirtual 363, 3) := dk_182 1 107 (dk_at dksX7_tries_0 15 rfl rfl)
theorem dX7_tries_18 : decode cX7_tries 18 = .ok (.return_, 1) := dk_177 (dk_at dksX7_tries_0 18 rfl rfl)
abbrev cX7_best : ByteArray := prog_11_method_105_code
def yX7_best : MethodName := ⟨RX7, "best", "(I)I"⟩
def dkwX7_best_5 : List UInt8 := [167, 0, 5, 21, 4, 172]
abbrev dktX7_best_5 : List UInt8 := dkwX7_best_5 ++ []
def dkwX7_best_4 : List UInt8 := [167, 255, 212, 132, 5, 1, 167, 255, 194, 27, 154, 0, 7, 28, 167, 0, 14, 27, 4, 160, 0, 7, 29]
abbrev dktX7_best_4 : List UInt8 := dkwX7_best_4 ++ dktX7_best_5
def dkwX7_best_3 : List UInt8 := [21, 4, 163, 0, 6, 167, 0, 15, 21, 5, 61, 21, 6, 62, 42, 180, 1, 119, 54, 4, 132, 6, 1]
abbrev dktX7_best_3 : List UInt8 := dkwX7_best_3 ++ dktX7_best_4
def dkwX7_best_2 : List UInt8 := [3, 54, 6, 21, 6, 42, 182, 0, 80, 162, 0, 41, 42, 21, 5, 21, 6, 182, 1, 125, 42, 180, 1, 119]
abbrev dktX7_best_2 : List UInt8 := dkwX7_best_2 ++ dktX7_best_3
def dkwX7_best_1 : List UInt8 := [153, 0, 5, 3, 172, 2, 61, 2, 62, 3, 54, 4, 3, 54, 5, 21, 5, 42, 182, 0, 80, 162, 0, 59]
abbrev dktX7_best_1 : List UInt8 := dkwX7_best_1 ++ dktX7_best_2
def dkwX7_best_0 : List UInt8 := [42, 3, 181, 0, 1, 42, 27, 3, 5, 184, 0, 84, 154, 0, 7, 4, 167, 0, 4, 3, 4, 182, 0, 157]
abbrev dktX7_best_0 : List UInt8 := dkwX7_best_0 ++ dktX7_best_1
theorem dksX7_best_0 : cX7_best.data.toList.drop 0 = dktX7_best_0 := by decide +kernel
theorem dksX7_best_1 : cX7_best.data.toList.drop 24 = dktX7_best_1 := dk_seg dksX7_best_0 24 rfl rfl
theorem dksX7_best_2 : cX7_best.data.toList.drop 48 = dktX7_best_2 := dk_seg dksX7_best_1 24 rfl rfl
theorem dksX7_best_3 : cX7_best.data.toList.drop 72 = dktX7_best_3 := dk_seg dksX7_best_2 24 rfl rfl
theorem dksX7_best_4 : cX7_best.data.toList.drop 95 = dktX7_best_4 := dk_seg dksX7_best_3 23 rfl rfl
theorem dksX7_best_5 : cX7_best.data.toList.drop 118 = dktX7_best_5 := dk_seg dksX7_best_4 23 rfl rfl
theorem dX7_best_0 : decode cX7_best 0 = .ok (.aload_n 0, 1) := dk_42 (dk_at dksX7_best_0 0 rfl rfl)
theorem dX7_best_1 : decode cX7_best 1 = .ok (.iconst 0, 1) := dk_3 (dk_at dksX7_best_0 1 rfl rfl)
theorem dX7_best_2 : decode cX7_best 2 = .ok (.putfield 1, 3) := dk_181 0 1 (dk_at dksX7_best_0 2 rfl rfl)
theorem dX7_best_5 : decode cX7_best 5 = .ok (.aload_n 0, 1) := dk_42 (dk_at dksX7_best_0 5 rfl rfl)
theorem dX7_best_6 : decode cX7_best 6 = .ok (.iload_n 1, 1) := dk_27 (dk_at dksX7_best_0 6 rfl rfl)
theorem dX7_best_7 : decode cX7_best 7 = .ok (.iconst 0, 1) := dk_3 (dk_at dksX7_best_0 7 rfl rfl)
theorem dX7_best_8 : decode cX7_best 8 = .ok (.iconst 2, 1) := dk_5 (dk_at dksX7_best_0 8 rfl rfl)
theorem dX7_best_9 : decode cX7_best 9 = .ok (.invokestatic 84, 3) := dk_184 0 84 (dk_at dksX7_best_0 9 rfl rfl)
theorem dX7_best_12 : decode cX7_best 12 = .ok (.ifCond .ne 7, 3) := dk_154 0 7 (dk_at dksX7_best_0 12 rfl rfl)
theorem dX7_best_15 : decode cX7_best 15 = .ok (.iconst 1, 1) := dk_4 (dk_at dksX7_best_0 15 rfl rfl)
theorem dX7_best_16 : decode cX7_best 16 = .ok (.goto 4, 3) := dk_167 0 4 (dk_at dksX7_best_0 16 rfl rfl)
theorem dX7_best_19 : decode cX7_best 19 = .ok (.iconst 0, 1) := dk_3 (dk_at dksX7_best_0 19 rfl rfl)
theorem dX7_best_20 : decode cX7_best 20 = .ok (.iconst 1, 1) := dk_4 (dk_at dksX7_best_0 20 rfl rfl)
theorem dX7_best_21 : decode cX7_best 21 = .ok (.invokevirtual 157, 3) := dk_182 0 157 (dk_at dksX7_best_0 21 rfl rfl)
theorem dX7_best_24 : decode cX7_best 24 = .ok (.ifCond .eq 5, 3) := dk_153 0 5 (dk_at dksX7_best_1 0 rfl rfl)
theorem dX7_best_27 : decode cX7_best 27 = .ok (.iconst 0, 1) := dk_3 (dk_at dksX7_best_1 3 rfl rfl)
theorem dX7_best_28 : decode cX7_best 28 = .ok (.ireturn, 1) := dk_172 (dk_at dksX7_best_1 4 rfl rfl)
theorem dX7_best_29 : decode cX7_best 29 = .ok (.iconst (-1), 1) := dk_2 (dk_at dksX7_best_1 5 rfl rfl)
theorem dX7_best_30 : decode cX7_best 30 = .ok (.istore_n 2, 1) := dk_61 (dk_at dksX7_best_1 6 rfl rfl)
theorem dX7_best_31 : decode cX7_best 31 = .ok (.iconst (-1), 1) := dk_2 (dk_at dksX7_best_1 7 rfl rfl)
theorem dX7_best_32 : decode cX7_best 32 = .ok (.istore_n 3, 1) := dk_62 (dk_at dksX7_best_1 8 rfl rfl)
theorem dX7_best_33 : decode cX7_best 33 = .ok (.iconst 0, 1) := dk_3 (dk_at dksX7_best_1 9 rfl rfl)
theorem dX7_best_34 : decode cX7_best 34 = .ok (.istore 4, 2) := dk_54 4 (dk_at dksX7_best_1 10 rfl rfl)
theorem dX7_best_36 : decode cX7_best 36 = .ok (.iconst 0, 1) := dk_3 (dk_at dksX7_best_1 12 rfl rfl)
theorem dX7_best_37 : decode cX7_best 37 = .ok (.istore 5, 2) := dk_54 5 (dk_at dksX7_best_1 13 rfl rfl)
theorem dX7_best_39 : decode cX7_best 39 = .ok (.iload 5, 2) := dk_21 5 (dk_at dksX7_best_1 15 rfl rfl)
theorem dX7_best_41 : decode cX7_best 41 = .ok (.aload_n 0, 1) := dk_42 (dk_at dksX7_best_1 17 rfl rfl)
theorem dX7_best_42 : decode cX7_best 42 = .ok (.invokevirtual 80, 3) := dk_182 0 80 (dk_at dksX7_best_1 18 rfl rfl)
theorem dX7_best_45 : decode cX7_best 45 = .ok (.if_icmp .ge 59, 3) := dk_162 0 59 (dk_at dksX7_best_1 21 rfl rfl)
theorem dX7_best_48 : decode cX7_best 48 = .ok (.iconst 0, 1) := dk_3 (dk_at dksX7_best_2 0 rfl rfl)
theorem dX7_best_49 : decode cX7_best 49 = .ok (.istore 6, 2) := dk_54 6 (dk_at dksX7_best_2 1 rfl rfl)
theorem dX7_best_51 : decode cX7_best 51 = .ok (.iload 6, 2) := dk_21 6 (dk_at dksX7_best_2 3 rfl rfl)
theorem dX7_best_53 : decode cX7_best 53 = .ok (.aload_n 0, 1) := dk_42 (dk_at dksX7_best_2 5 rfl rfl)
theorem dX7_best_54 : decode cX7_best 54 = .ok (.invokevirtual 80, 3) := dk_182 0 80 (dk_at dksX7_best_2 6 rfl rfl)
theorem dX7_best_57 : decode cX7_best 57 = .ok (.if_icmp .ge 41, 3) := dk_162 0 41 (dk_at dksX7_best_2 9 rfl rfl)
theorem dX7_best_60 : decode cX7_best 60 = .ok (.aload_n 0, 1) := dk_42 (dk_at dksX7_best_2 12 rfl rfl)
theorem dX7_best_61 : decode cX7_best 61 = .ok (.iload 5, 2) := dk_21 5 (dk_at dksX7_best_2 13 rfl rfl)
theorem dX7_best_63 : decode cX7_best 63 = .ok (.iload 6, 2) := dk_21 6 (dk_at dksX7_best_2 15 rfl rfl)
theorem dX7_best_65 : decode cX7_best 65 = .ok (.invokevirtual 381, 3) := dk_182 1 125 (dk_at dksX7_best_2 17 rfl rfl)
theorem dX7_best_68 : decode cX7_best 68 = .ok (.aload_n 0, 1) := dk_42 (dk_at dksX7_best_2 20 rfl rfl)
theorem dX7_best_69 : decode cX7_best 69 = .ok (.getfield 375, 3) := dk_180 1 119 (dk_at dksX7_best_2 21 rfl rfl)
theorem dX7_best_72 : decode cX7_best 72 = .ok (.iload 4, 2) := dk_21 4 (dk_at dksX7_best_3 0 rfl rfl)
theorem dX7_best_74 : decode cX7_best 74 = .ok (.if_icmp .gt 6, 3) := dk_163 0 6 (dk_at dksX7_best_3 2 rfl rfl)
theorem dX7_best_77 : decode cX7_best 77 = .ok (.goto 15, 3) := dk_167 0 15 (dk_at dksX7_best_3 5 rfl rfl)
theorem dX7_best_80 : decode cX7_best 80 = .ok (.iload 5, 2) := dk_21 5 (dk_at dksX7_best_3 8 rfl rfl)
theorem dX7_best_82 : decode cX7_best 82 = .ok (.istore_n 2, 1) := dk_61 (dk_at dksX7_best_3 10 rfl rfl)
theorem dX7_best_83 : decode cX7_best 83 = .ok (.iload 6, 2) := dk_21 6 (dk_at dksX7_best_3 11 rfl rfl)
theorem dX7_best_85 : decode cX7_best 85 = .ok (.istore_n 3, 1) := dk_62 (dk_at dksX7_best_3 13 rfl rfl)
theorem dX7_best_86 : decode cX7_best 86 = .ok (.aload_n 0, 1) := dk_42 (dk_at dksX7_best_3 14 rfl rfl)
theorem dX7_best_87 : decode cX7_best 87 = .ok (.getfield 375, 3) := dk_180 1 119 (dk_at dksX7_best_3 15 rfl rfl)
theorem dX7_best_90 : decode cX7_best 90 = .ok (.istore 4, 2) := dk_54 4 (dk_at dksX7_best_3 18 rfl rfl)
theorem dX7_best_92 : decode cX7_best 92 = .ok (.iinc 6 1, 3) := dk_132 6 1 (dk_at dksX7_best_3 20 rfl rfl)
theorem dX7_best_95 : decode cX7_best 95 = .ok (.goto (-44), 3) := dk_167 255 212 (dk_at dksX7_best_4 0 rfl rfl)
theorem dX7_best_98 : decode cX7_best 98 = .ok (.iinc 5 1, 3) := dk_132 5 1 (dk_at dksX7_best_4 3 rfl rfl)
theorem dX7_best_101 : decode cX7_best 101 = .ok (.goto (-62), 3) := dk_167 255 194 (dk_at dksX7_best_4 6 rfl rfl)
theorem dX7_best_104 : decode cX7_best 104 = .ok (.iload_n 1, 1) := dk_27 (dk_at dksX7_best_4 9 rfl rfl)
theorem dX7_best_105 : decode cX7_best 105 = .ok (.ifCond .ne 7, 3) := dk_154 0 7 (dk_at dksX7_best_4 10 rfl rfl)
theorem dX7_best_108 : decode cX7_best 108 = .ok (.iload_n 2, 1) := dk_28 (dk_at dksX7_best_4 13 rfl rfl)
theorem dX7_best_109 : decode cX7_best 109 = .ok (.goto 14, 3) := dk_167 0 14 (dk_at dksX7_best_4 14 rfl rfl)
theorem dX7_best_112 : decode cX7_best 112 = .ok (.iload_n 1, 1) := dk_27 (dk_at dksX7_best_4 17 rfl rfl)
theorem dX7_best_113 : decode cX7_best 113 = .ok (.iconst 1, 1) := dk_4 (dk_at dksX7_best_4 18 rfl rfl)
theorem dX7_best_114 : decode cX7_best 114 = .ok (.if_icmp .ne 7, 3) := dk_160 0 7 (dk_at dksX7_best_4 19 rfl rfl)
theorem dX7_best_117 : decode cX7_best 117 = .ok (.iload_n 3, 1) := dk_29 (dk_at dksX7_best_4 22 rfl rfl)
theorem dX7_best_118 : decode cX7_best 118 = .ok (.goto 5, 3) := dk_167 0 5 (dk_at dksX7_best_5 0 rfl rfl)
theorem dX7_best_121 : decode cX7_best 121 = .ok (.iload 4, 2) := dk_21 4 (dk_at dksX7_best_5 3 rfl rfl)
theorem dX7_best_123 : decode cX7_best 123 = .ok (.ireturn, 1) := dk_172 (dk_at dksX7_best_5 5 rfl rfl)
abbrev cX7_text : ByteArray := prog_11_method_107_code
def yX7_text : MethodName := ⟨RX7, "text", "(I)I"⟩
def dkwX7_text_3 : List UInt8 := [29, 16, 10, 112, 96, 182, 1, 132, 132, 2, 1, 167, 255, 192, 42, 180, 1, 129, 172]
abbrev dktX7_text_3 : List UInt8 := dkwX7_text_3 ++ []
def dkwX7_text_2 : List UInt8 := [158, 0, 9, 42, 16, 32, 182, 1, 132, 29, 16, 9, 164, 0, 9, 42, 16, 49, 182, 1, 132, 42, 16, 48]
abbrev dktX7_text_2 : List UInt8 := dkwX7_text_2 ++ dktX7_text_3
def dkwX7_text_1 : List UInt8 := [184, 0, 99, 153, 0, 59, 28, 42, 180, 0, 35, 27, 46, 163, 0, 49, 42, 27, 28, 182, 1, 101, 62, 28]
abbrev dktX7_text_1 : List UInt8 := dkwX7_text_1 ++ dktX7_text_2
def dkwX7_text_0 : List UInt8 := [42, 27, 182, 1, 47, 153, 0, 5, 3, 172, 42, 3, 181, 1, 129, 3, 61, 42, 180, 0, 120, 27]
abbrev dktX7_text_0 : List UInt8 := dkwX7_text_0 ++ dktX7_text_1
theorem dksX7_text_0 : cX7_text.data.toList.drop 0 = dktX7_text_0 := by decide +kernel
theorem dksX7_text_1 : cX7_text.data.toList.drop 22 = dktX7_text_1 := dk_seg dksX7_text_0 22 rfl rfl
theorem dksX7_text_2 : cX7_text.data.toList.drop 46 = dktX7_text_2 := dk_seg dksX7_text_1 24 rfl rfl
theorem dksX7_text_3 : cX7_text.data.toList.drop 70 = dktX7_text_3 := dk_seg dksX7_text_2 24 rfl rfl
theorem dX7_text_0 : decode cX7_text 0 = .ok (.aload_n 0, 1) := dk_42 (dk_at dksX7_text_0 0 rfl rfl)
theorem dX7_text_1 : decode cX7_text 1 = .ok (.iload_n 1, 1) := dk_27 (dk_at dksX7_text_0 1 rfl rfl)
theorem dX7_text_2 : decode cX7_text 2 = .ok (.invokevirtual 303, 3) := dk_182 1 47 (dk_at dksX7_text_0 2 rfl rfl)
theorem dX7_text_5 : decode cX7_text 5 = .ok (.ifCond .eq 5, 3) := dk_153 0 5 (dk_at dksX7_text_0 5 rfl rfl)
theorem dX7_text_8 : decode cX7_text 8 = .ok (.iconst 0, 1) := dk_3 (dk_at dksX7_text_0 8 rfl rfl)
theorem dX7_text_9 : decode cX7_text 9 = .ok (.ireturn, 1) := dk_172 (dk_at dksX7_text_0 9 rfl rfl)
theorem dX7_text_10 : decode cX7_text 10 = .ok (.aload_n 0, 1) := dk_42 (dk_at dksX7_text_0 10 rfl rfl)
theorem dX7_text_11 : decode cX7_text 11 = .ok (.iconst 0, 1) := dk_3 (dk_at dksX7_text_0 11 rfl rfl)
theorem dX7_text_12 : decode cX7_text 12 = .ok (.putfield 385, 3) := dk_181 1 129 (dk_at dksX7_text_0 12 rfl rfl)
theorem dX7_text_15 : decode cX7_text 15 = .ok (.iconst 0, 1) := dk_3 (dk_at dksX7_text_0 15 rfl rfl)
theorem dX7_text_16 : decode cX7_text 16 = .ok (.istore_n 2, 1) := dk_61 (dk_at dksX7_text_0 16 rfl rfl)
theorem dX7_text_17 : decode cX7_text 17 = .ok (.aload_n 0, 1) := dk_42 (dk_at dksX7_text_0 17 rfl rfl)
theorem dX7_text_18 : decode cX7_text 18 = .ok (.getfield 120, 3) := dk_180 0 120 (dk_at dksX7_text_0 18 rfl rfl)
theorem dX7_text_21 : decode cX7_text 21 = .ok (.iload_n 1, 1) := dk_27 (dk_at dksX7_text_0 21 rfl rfl)
theorem dX7_text_22 : decode cX7_text 22 = .ok (.invokestatic 99, 3) := dk_184 0 99 (dk_at dksX7_text_1 0 rfl rfl)
theorem dX7_text_25 : decode cX7_text 25 = .ok (.ifCond .eq 59, 3) := dk_153 0 59 (dk_at dksX7_text_1 3 rfl rfl)
theorem dX7_text_28 : decode cX7_text 28 = .ok (.iload_n 2, 1) := dk_28 (dk_at dksX7_text_1 6 rfl rfl)
theorem dX7_text_29 : decode cX7_text 29 = .ok (.aload_n 0, 1) := dk_42 (dk_at dksX7_text_1 7 rfl rfl)
theorem dX7_text_30 : decode cX7_text 30 = .ok (.getfield 35, 3) := dk_180 0 35 (dk_at dksX7_text_1 8 rfl rfl)
theorem dX7_text_33 : decode cX7_text 33 = .ok (.iload_n 1, 1) := dk_27 (dk_at dksX7_text_1 11 rfl rfl)
theorem dX7_text_34 : decode cX7_text 34 = .ok (.iaload, 1) := dk_46 (dk_at dksX7_text_1 12 rfl rfl)
theorem dX7_text_35 : decode cX7_text 35 = .ok (.if_icmp .gt 49, 3) := dk_163 0 49 (dk_at dksX7_text_1 13 rfl rfl)
theorem dX7_text_38 : decode cX7_text 38 = .ok (.aload_n 0, 1) := dk_42 (dk_at dksX7_text_1 16 rfl rfl)
theorem dX7_text_39 : decode cX7_text 39 = .ok (.iload_n 1, 1) := dk_27 (dk_at dksX7_text_1 17 rfl rfl)
theorem dX7_text_40 : decode cX7_text 40 = .ok (.iload_n 2, 1) := dk_28 (dk_at dksX7_text_1 18 rfl rfl)
theorem dX7_text_41 : decode cX7_text 41 = .ok (.invokevirtual 357, 3) := dk_182 1 101 (dk_at dksX7_text_1 19 rfl rfl)
theorem dX7_text_44 : decode cX7_text 44 = .ok (.istore_n 3, 1) := dk_62 (dk_at dksX7_text_1 22 rfl rfl)
theorem dX7_text_45 : decode cX7_text 45 = .ok (.iload_n 2, 1) := dk_28 (dk_at dksX7_text_1 23 rfl rfl)
theorem dX7_text_46 : decode cX7_text 46 = .ok (.ifCond .le 9, 3) := dk_158 0 9 (dk_at dksX7_text_2 0 rfl rfl)
theorem dX7_text_49 : decode cX7_text 49 = .ok (.aload_n 0, 1) := dk_42 (dk_at dksX7_text_2 3 rfl rfl)
theorem dX7_text_50 : decode cX7_text 50 = .ok (.bipush 32, 2) := dk_16 32 (dk_at dksX7_text_2 4 rfl rfl)
theorem dX7_text_52 : decode cX7_text 52 = .ok (.invokevirtual 388, 3) := dk_182 1 132 (dk_at dksX7_text_2 6 rfl rfl)
theorem dX7_text_55 : decode cX7_text 55 = .ok (.iload_n 3, 1) := dk_29 (dk_at dksX7_text_2 9 rfl rfl)
theorem dX7_text_56 : decode cX7_text 56 = .ok (.bipush 9, 2) := dk_16 9 (dk_at dksX7_text_2 10 rfl rfl)
theorem dX7_text_58 : decode cX7_text 58 = .ok (.if_icmp .le 9, 3) := dk_164 0 9 (dk_at dksX7_text_2 12 rfl rfl)
theorem dX7_text_61 : decode cX7_text 61 = .ok (.aload_n 0, 1) := dk_42 (dk_at dksX7_text_2 15 rfl rfl)
theorem dX7_text_62 : decode cX7_text 62 = .ok (.bipush 49, 2) := dk_16 49 (dk_at dksX7_text_2 16 rfl rfl)
theorem dX7_text_64 : decode cX7_text 64 = .ok (.invokevirtual 388, 3) := dk_182 1 132 (dk_at dksX7_text_2 18 rfl rfl)
theorem dX7_text_67 : decode cX7_text 67 = .ok (.aload_n 0, 1) := dk_42 (dk_at dksX7_text_2 21 rfl rfl)
theorem dX7_text_68 : decode cX7_text 68 = .ok (.bipush 48, 2) := dk_16 48 (dk_at dksX7_text_2 22 rfl rfl)
theorem dX7_text_70 : decode cX7_text 70 = .ok (.iload_n 3, 1) := dk_29 (dk_at dksX7_text_3 0 rfl rfl)
theorem dX7_text_71 : decode cX7_text 71 = .ok (.bipush 10, 2) := dk_16 10 (dk_at dksX7_text_3 1 rfl rfl)
theorem dX7_text_73 : decode cX7_text 73 = .ok (.irem, 1) := dk_112 (dk_at dksX7_text_3 3 rfl rfl)
theorem dX7_text_74 : decode cX7_text 74 = .ok (.iadd, 1) := dk_96 (dk_at dksX7_text_3 4 rfl rfl)
theorem dX7_text_75 : decode cX7_text 75 = .ok (.invokevirtual 388, 3) := dk_182 1 132 (dk_at dksX7_text_3 5 rfl rfl)
theorem dX7_text_78 : decode cX7_text 78 = .ok (.iinc 2 1, 3) := dk_132 2 1 (dk_at dksX7_text_3 8 rfl rfl)
theorem dX7_text_81 : decode cX7_text 81 = .ok (.goto (-64), 3) := dk_167 255 192 (dk_at dksX7_text_3 11 rfl rfl)
theorem dX7_text_84 : decode cX7_text 84 = .ok (.aload_n 0, 1) := dk_42 (dk_at dksX7_text_3 14 rfl rfl)
theorem dX7_text_85 : decode cX7_text 85 = .ok (.getfield 385, 3) := dk_180 1 129 (dk_at dksX7_text_3 15 rfl rfl)
theorem dX7_text_88 : decode cX7_text 88 = .ok (.ireturn, 1) := dk_172 (dk_at dksX7_text_3 18 rfl rfl)
abbrev cX7_writes : ByteArray := prog_11_method_106_code
def yX7_writes : MethodName := ⟨RX7, "writes", "(I)V"⟩
def dkwX7_writes_0 : List UInt8 := [42, 180, 0, 73, 42, 180, 1, 129, 27, 145, 84, 42, 89, 180, 1, 129, 4, 96, 181, 1, 129, 177]
abbrev dktX7_writes_0 : List UInt8 := dkwX7_writes_0 ++ []
theorem dksX7_writes_0 : cX7_writes.data.toList.drop 0 = dktX7_writes_0 := by decide +kernel
theorem dX7_writes_0 : decode cX7_writes 0 = .ok (.aload_n 0, 1) := dk_42 (dk_at dksX7_writes_0 0 rfl rfl)
theorem dX7_writes_1 : decode cX7_writes 1 = .ok (.getfield 73, 3) := dk_180 0 73 (dk_at dksX7_writes_0 1 rfl rfl)
theorem dX7_writes_4 : decode cX7_writes 4 = .ok (.aload_n 0, 1) := dk_42 (dk_at dksX7_writes_0 4 rfl rfl)
theorem dX7_writes_5 : decode cX7_writes 5 = .ok (.getfield 385, 3) := dk_180 1 129 (dk_at dksX7_writes_0 5 rfl rfl)
theorem dX7_writes_8 : decode cX7_writes 8 = .ok (.iload_n 1, 1) := dk_27 (dk_at dksX7_writes_0 8 rfl rfl)
theorem dX7_writes_9 : decode cX7_writes 9 = .ok (.i2b, 1) := dk_145 (dk_at dksX7_writes_0 9 rfl rfl)
theorem dX7_writes_10 : decode cX7_writes 10 = .ok (.bastore, 1) := dk_84 (dk_at dksX7_writes_0 10 rfl rfl)
theorem dX7_writes_11 : decode cX7_writes 11 = .ok (.aload_n 0, 1) := dk_42 (dk_at dksX7_writes_0 11 rfl rfl)
theorem dX7_writes_12 : decode cX7_writes 12 = .ok (.dup, 1) := dk_89 (dk_at dksX7_writes_0 12 rfl rfl)
theorem dX7_writes_13 : decode cX7_writes 13 = .ok (.getfield 385, 3) := dk_180 1 129 (dk_at dksX7_writes_0 13 rfl rfl)
theorem dX7_writes_16 : decode cX7_writes 16 = .ok (.iconst 1, 1) := dk_4 (dk_at dksX7_writes_0 16 rfl rfl)
theorem dX7_writes_17 : decode cX7_writes 17 = .ok (.iadd, 1) := dk_96 (dk_at dksX7_writes_0 17 rfl rfl)
theorem dX7_writes_18 : decode cX7_writes 18 = .ok (.putfield 385, 3) := dk_181 1 129 (dk_at dksX7_writes_0 18 rfl rfl)
theorem dX7_writes_21 : decode cX7_writes 21 = .ok (.return_, 1) := dk_177 (dk_at dksX7_writes_0 21 rfl rfl)
abbrev cX7_octet : ByteArray := prog_11_method_108_code
def yX7_octet : MethodName := ⟨RX7, "octet", "(I)I"⟩
def dkwX7_octet_1 : List UInt8 := [51, 167, 0, 4, 2, 172]
abbrev dktX7_octet_1 : List UInt8 := dkwX7_octet_1 ++ []
def dkwX7_octet_0 : List UInt8 := [42, 3, 181, 0, 1, 27, 3, 42, 180, 1, 129, 4, 100, 184, 0, 84, 153, 0, 12, 42, 180, 0, 73, 27]
abbrev dktX7_octet_0 : List UInt8 := dkwX7_octet_0 ++ dktX7_octet_1
theorem dksX7_octet_0 : cX7_octet.data.toList.drop 0 = dktX7_octet_0 := by decide +kernel
theorem dksX7_octet_1 : cX7_octet.data.toList.drop 24 = dktX7_octet_1 := dk_seg dksX7_octet_0 24 rfl rfl
theorem dX7_octet_0 : decode cX7_octet 0 = .ok (.aload_n 0, 1) := dk_42 (dk_at dksX7_octet_0 0 rfl rfl)
theorem dX7_octet_1 : decode cX7_octet 1 = .ok (.iconst 0, 1) := dk_3 (dk_at dksX7_octet_0 1 rfl rfl)
theorem dX7_octet_2 : decode cX7_octet 2 = .ok (.putfield 1, 3) := dk_181 0 1 (dk_at dksX7_octet_0 2 rfl rfl)
theorem dX7_octet_5 : decode cX7_octet 5 = .ok (.iload_n 1, 1) := dk_27 (dk_at dksX7_octet_0 5 rfl rfl)
theorem dX7_octet_6 : decode cX7_octet 6 = .ok (.iconst 0, 1) := dk_3 (dk_at dksX7_octet_0 6 rfl rfl)
theorem dX7_octet_7 : decode cX7_octet 7 = .ok (.aload_n 0, 1) := dk_42 (dk_at dksX7_octet_0 7 rfl rfl)
theorem dX7_octet_8 : decode cX7_octet 8 = .ok (.getfield 385, 3) := dk_180 1 129 (dk_at dksX7_octet_0 8 rfl rfl)
theorem dX7_octet_11 : decode cX7_octet 11 = .ok (.iconst 1, 1) := dk_4 (dk_at dksX7_octet_0 11 rfl rfl)
theorem dX7_octet_12 : decode cX7_octet 12 = .ok (.isub, 1) := dk_100 (dk_at dksX7_octet_0 12 rfl rfl)
theorem dX7_octet_13 : decode cX7_octet 13 = .ok (.invokestatic 84, 3) := dk_184 0 84 (dk_at dksX7_octet_0 13 rfl rfl)
theorem dX7_octet_16 : decode cX7_octet 16 = .ok (.ifCond .eq 12, 3) := dk_153 0 12 (dk_at dksX7_octet_0 16 rfl rfl)
theorem dX7_octet_19 : decode cX7_octet 19 = .ok (.aload_n 0, 1) := dk_42 (dk_at dksX7_octet_0 19 rfl rfl)
theorem dX7_octet_20 : decode cX7_octet 20 = .ok (.getfield 73, 3) := dk_180 0 73 (dk_at dksX7_octet_0 20 rfl rfl)
theorem dX7_octet_23 : decode cX7_octet 23 = .ok (.iload_n 1, 1) := dk_27 (dk_at dksX7_octet_0 23 rfl rfl)
theorem dX7_octet_24 : decode cX7_octet 24 = .ok (.baload, 1) := dk_51 (dk_at dksX7_octet_1 0 rfl rfl)
theorem dX7_octet_25 : decode cX7_octet 25 = .ok (.goto 4, 3) := dk_167 0 4 (dk_at dksX7_octet_1 1 rfl rfl)
theorem dX7_octet_28 : decode cX7_octet 28 = .ok (.iconst (-1), 1) := dk_2 (dk_at dksX7_octet_1 4 rfl rfl)
theorem dX7_octet_29 : decode cX7_octet 29 = .ok (.ireturn, 1) := dk_172 (dk_at dksX7_octet_1 5 rfl rfl)
abbrev cX7_count : ByteArray := prog_11_method_120_code
def yX7_count : MethodName := ⟨RX7, "count", "(I)I"⟩
def dkwX7_count_6 : List UInt8 := [172, 42, 182, 1, 168, 172, 42, 182, 1, 171, 172, 42, 182, 1, 174, 172, 2, 172]
abbrev dktX7_count_6 : List UInt8 := dkwX7_count_6 ++ []
def dkwX7_count_5 : List UInt8 := [4, 182, 1, 146, 172, 42, 182, 1, 159, 172, 42, 182, 1, 162, 172, 42, 180, 0, 144, 172, 42, 182, 1, 165]
abbrev dktX7_count_5 : List UInt8 := dkwX7_count_5 ++ dktX7_count_6
def dkwX7_count_4 : List UInt8 := [182, 1, 153, 172, 42, 3, 182, 1, 153, 172, 42, 182, 1, 156, 153, 0, 7, 4, 167, 0, 4, 3, 172, 42]
abbrev dktX7_count_4 : List UInt8 := dkwX7_count_4 ++ dktX7_count_5
def dkwX7_count_3 : List UInt8 := [182, 1, 143, 172, 42, 180, 0, 120, 172, 42, 3, 182, 1, 146, 172, 42, 182, 1, 150, 172, 42, 4]
abbrev dktX7_count_3 : List UInt8 := dkwX7_count_3 ++ dktX7_count_4
def dkwX7_count_2 : List UInt8 := [42, 182, 0, 80, 172, 42, 182, 0, 109, 172, 42, 180, 0, 13, 5, 46, 172, 42, 182, 0, 88, 172, 42]
abbrev dktX7_count_2 : List UInt8 := dkwX7_count_2 ++ dktX7_count_3
def dkwX7_count_1 : List UInt8 := [170, 0, 0, 0, 0, 199, 0, 0, 0, 0, 0, 0, 0, 18, 0, 0, 0, 90, 0, 0, 0, 95, 0, 0, 0, 100, 0, 0, 0, 107, 0, 0, 0, 112, 0, 0, 0, 117, 0, 0, 0, 122, 0, 0, 0, 128, 0, 0, 0, 133, 0, 0, 0, 139, 0, 0, 0, 145, 0, 0, 0, 158, 0, 0, 0, 164, 0, 0, 0, 169, 0, 0, 0, 174, 0, 0, 0, 179, 0, 0, 0, 184, 0, 0, 0, 189, 0, 0, 0, 194]
abbrev dktX7_count_1 : List UInt8 := dkwX7_count_1 ++ dktX7_count_2
def dkwX7_count_0 : List UInt8 := [42, 3, 181, 0, 1, 42, 182, 0, 126, 27]
abbrev dktX7_count_0 : List UInt8 := dkwX7_count_0 ++ dktX7_count_1
theorem dksX7_count_0 : cX7_count.data.toList.drop 0 = dktX7_count_0 := by decide +kernel
theorem dksX7_count_1 : cX7_count.data.toList.drop 10 = dktX7_count_1 := dk_seg dksX7_count_0 10 rfl rfl
theorem dksX7_count_2 : cX7_count.data.toList.drop 100 = dktX7_count_2 := dk_seg dksX7_count_1 90 rfl rfl
theorem dksX7_count_3 : cX7_count.data.toList.drop 123 = dktX7_count_3 := dk_seg dksX7_count_2 23 rfl rfl
theorem dksX7_count_4 : cX7_count.data.toList.drop 145 = dktX7_count_4 := dk_seg dksX7_count_3 22 rfl rfl
theorem dksX7_count_5 : cX7_count.data.toList.drop 169 = dktX7_count_5 := dk_seg dksX7_count_4 24 rfl rfl
theorem dksX7_count_6 : cX7_count.data.toList.drop 193 = dktX7_count_6 := dk_seg dksX7_count_5 24 rfl rfl
theorem dX7_count_0 : decode cX7_count 0 = .ok (.aload_n 0, 1) := dk_42 (dk_at dksX7_count_0 0 rfl rfl)
theorem dX7_count_1 : decode cX7_count 1 = .ok (.iconst 0, 1) := dk_3 (dk_at dksX7_count_0 1 rfl rfl)
theorem dX7_count_2 : decode cX7_count 2 = .ok (.putfield 1, 3) := dk_181 0 1 (dk_at dksX7_count_0 2 rfl rfl)
theorem dX7_count_5 : decode cX7_count 5 = .ok (.aload_n 0, 1) := dk_42 (dk_at dksX7_count_0 5 rfl rfl)
theorem dX7_count_6 : decode cX7_count 6 = .ok (.invokevirtual 126, 3) := dk_182 0 126 (dk_at dksX7_count_0 6 rfl rfl)
theorem dX7_count_9 : decode cX7_count 9 = .ok (.iload_n 1, 1) := dk_27 (dk_at dksX7_count_0 9 rfl rfl)
theorem dX7_count_10 : decode cX7_count 10 = .ok (.tableswitch 199 0 18 #[90, 95, 100, 107, 112, 117, 122, 128, 133, 139, 145, 158, 164, 169, 174, 179, 184, 189, 194], 90) := by decide +kernel
theorem dX7_count_100 : decode cX7_count 100 = .ok (.aload_n 0, 1) := dk_42 (dk_at dksX7_count_2 0 rfl rfl)
theorem dX7_count_101 : decode cX7_count 101 = .ok (.invokevirtual 80, 3) := dk_182 0 80 (dk_at dksX7_count_2 1 rfl rfl)
theorem dX7_count_104 : decode cX7_count 104 = .ok (.ireturn, 1) := dk_172 (dk_at dksX7_count_2 4 rfl rfl)
theorem dX7_count_105 : decode cX7_count 105 = .ok (.aload_n 0, 1) := dk_42 (dk_at dksX7_count_2 5 rfl rfl)
theorem dX7_count_106 : decode cX7_count 106 = .ok (.invokevirtual 109, 3) := dk_182 0 109 (dk_at dksX7_count_2 6 rfl rfl)
theorem dX7_count_109 : decode cX7_count 109 = .ok (.ireturn, 1) := dk_172 (dk_at dksX7_count_2 9 rfl rfl)
theorem dX7_count_110 : decode cX7_count 110 = .ok (.aload_n 0, 1) := dk_42 (dk_at dksX7_count_2 10 rfl rfl)
theorem dX7_count_111 : decode cX7_count 111 = .ok (.getfield 13, 3) := dk_180 0 13 (dk_at dksX7_count_2 11 rfl rfl)
theorem dX7_count_114 : decode cX7_count 114 = .ok (.iconst 2, 1) := dk_5 (dk_at dksX7_count_2 14 rfl rfl)
theorem dX7_count_115 : decode cX7_count 115 = .ok (.iaload, 1) := dk_46 (dk_at dksX7_count_2 15 rfl rfl)
theorem dX7_count_116 : decode cX7_count 116 = .ok (.ireturn, 1) := dk_172 (dk_at dksX7_count_2 16 rfl rfl)
theorem dX7_count_117 : decode cX7_count 117 = .ok (.aload_n 0, 1) := dk_42 (dk_at dksX7_count_2 17 rfl rfl)
theorem dX7_count_118 : decode cX7_count 118 = .ok (.invokevirtual 88, 3) := dk_182 0 88 (dk_at dksX7_count_2 18 rfl rfl)
theorem dX7_count_121 : decode cX7_count 121 = .ok (.ireturn, 1) := dk_172 (dk_at dksX7_count_2 21 rfl rfl)
theorem dX7_count_122 : decode cX7_count 122 = .ok (.aload_n 0, 1) := dk_42 (dk_at dksX7_count_2 22 rfl rfl)
theorem dX7_count_123 : decode cX7_count 123 = .ok (.invokevirtual 399, 3) := dk_182 1 143 (dk_at dksX7_count_3 0 rfl rfl)
theorem dX7_count_126 : decode cX7_count 126 = .ok (.ireturn, 1) := dk_172 (dk_at dksX7_count_3 3 rfl rfl)
theorem dX7_count_127 : decode cX7_count 127 = .ok (.aload_n 0, 1) := dk_42 (dk_at dksX7_count_3 4 rfl rfl)
theorem dX7_count_128 : decode cX7_count 128 = .ok (.getfield 120, 3) := dk_180 0 120 (dk_at dksX7_count_3 5 rfl rfl)
theorem dX7_count_131 : decode cX7_count 131 = .ok (.ireturn, 1) := dk_172 (dk_at dksX7_count_3 8 rfl rfl)
theorem dX7_count_132 : decode cX7_count 132 = .ok (.aload_n 0, 1) := dk_42 (dk_at dksX7_count_3 9 rfl rfl)
theorem dX7_count_133 : decode cX7_count 133 = .ok (.iconst 0, 1) := dk_3 (dk_at dksX7_count_3 10 rfl rfl)
theorem dX7_count_134 : decode cX7_count 134 = .ok (.invokevirtual 402, 3) := dk_182 1 146 (dk_at dksX7_count_3 11 rfl rfl)
theorem dX7_count_137 : decode cX7_count 137 = .ok (.ireturn, 1) := dk_172 (dk_at dksX7_count_3 14 rfl rfl)
theorem dX7_count_138 : decode cX7_count 138 = .ok (.aload_n 0, 1) := dk_42 (dk_at dksX7_count_3 15 rfl rfl)
theorem dX7_count_139 : decode cX7_count 139 = .ok (.invokevirtual 406, 3) := dk_182 1 150 (dk_at dksX7_count_3 16 rfl rfl)
theorem dX7_count_142 : decode cX7_count 142 = .ok (.ireturn, 1) := dk_172 (dk_at dksX7_count_3 19 rfl rfl)
theorem dX7_count_143 : decode cX7_count 143 = .ok (.aload_n 0, 1) := dk_42 (dk_at dksX7_count_3 20 rfl rfl)
theorem dX7_count_144 : decode cX7_count 144 = .ok (.iconst 1, 1) := dk_4 (dk_at dksX7_count_3 21 rfl rfl)
theorem dX7_count_145 : decode cX7_count 145 = .ok (.invokevirtual 409, 3) := dk_182 1 153 (dk_at dksX7_count_4 0 rfl rfl)
theorem dX7_count_148 : decode cX7_count 148 = .ok (.ireturn, 1) := dk_172 (dk_at dksX7_count_4 3 rfl rfl)
theorem dX7_count_149 : decode cX7_count 149 = .ok (.aload_n 0, 1) := dk_42 (dk_at dksX7_count_4 4 rfl rfl)
theorem dX7_count_150 : decode cX7_count 150 = .ok (.iconst 0, 1) := dk_3 (dk_at dksX7_count_4 5 rfl rfl)
theorem dX7_count_151 : decode cX7_count 151 = .ok (.invokevirtual 409, 3) := dk_182 1 153 (dk_at dksX7_count_4 6 rfl rfl)
theorem dX7_count_154 : decode cX7_count 154 = .ok (.ireturn, 1) := dk_172 (dk_at dksX7_count_4 9 rfl rfl)
theorem dX7_count_155 : decode cX7_count 155 = .ok (.aload_n 0, 1) := dk_42 (dk_at dksX7_count_4 10 rfl rfl)
theorem dX7_count_156 : decode cX7_count 156 = .ok (.invokevirtual 412, 3) := dk_182 1 156 (dk_at dksX7_count_4 11 rfl rfl)
theorem dX7_count_159 : decode cX7_count 159 = .ok (.ifCond .eq 7, 3) := dk_153 0 7 (dk_at dksX7_count_4 14 rfl rfl)
theorem dX7_count_162 : decode cX7_count 162 = .ok (.iconst 1, 1) := dk_4 (dk_at dksX7_count_4 17 rfl rfl)
theorem dX7_count_163 : decode cX7_count 163 = .ok (.goto 4, 3) := dk_167 0 4 (dk_at dksX7_count_4 18 rfl rfl)
theorem dX7_count_166 : decode cX7_count 166 = .ok (.iconst 0, 1) := dk_3 (dk_at dksX7_count_4 21 rfl rfl)
theorem dX7_count_167 : decode cX7_count 167 = .ok (.ireturn, 1) := dk_172 (dk_at dksX7_count_4 22 rfl rfl)
theorem dX7_count_168 : decode cX7_count 168 = .ok (.aload_n 0, 1) := dk_42 (dk_at dksX7_count_4 23 rfl rfl)
theorem dX7_count_169 : decode cX7_count 169 = .ok (.iconst 1, 1) := dk_4 (dk_at dksX7_count_5 0 rfl rfl)
theorem dX7_count_170 : decode cX7_count 170 = .ok (.invokevirtual 402, 3) := dk_182 1 146 (dk_at dksX7_count_5 1 rfl rfl)
theorem dX7_count_173 : decode cX7_count 173 = .ok (.ireturn, 1) := dk_172 (dk_at dksX7_count_5 4 rfl rfl)
theorem dX7_count_174 : decode cX7_count 174 = .ok (.aload_n 0, 1) := dk_42 (dk_at dksX7_count_5 5 rfl rfl)
theorem dX7_count_175 : decode cX7_count 175 = .ok (.invokevirtual 415, 3) := dk_182 1 159 (dk_at dksX7_count_5 6 rfl rfl)
theorem dX7_count_178 : decode cX7_count 178 = .ok (.ireturn, 1) := dk_172 (dk_at dksX7_count_5 9 rfl rfl)
theorem dX7_count_179 : decode cX7_count 179 = .ok (.aload_n 0, 1) := dk_42 (dk_at dksX7_count_5 10 rfl rfl)
theorem dX7_count_180 : decode cX7_count 180 = .ok (.invokevirtual 418, 3) := dk_182 1 162 (dk_at dksX7_count_5 11 rfl rfl)
theorem dX7_count_183 : decode cX7_count 183 = .ok (.ireturn, 1) := dk_172 (dk_at dksX7_count_5 14 rfl rfl)
theorem dX7_count_184 : decode cX7_count 184 = .ok (.aload_n 0, 1) := dk_42 (dk_at dksX7_count_5 15 rfl rfl)
theorem dX7_count_185 : decode cX7_count 185 = .ok (.getfield 144, 3) := dk_180 0 144 (dk_at dksX7_count_5 16 rfl rfl)
theorem dX7_count_188 : decode cX7_count 188 = .ok (.ireturn, 1) := dk_172 (dk_at dksX7_count_5 19 rfl rfl)
theorem dX7_count_189 : decode cX7_count 189 = .ok (.aload_n 0, 1) := dk_42 (dk_at dksX7_count_5 20 rfl rfl)
theorem dX7_count_190 : decode cX7_count 190 = .ok (.invokevirtual 421, 3) := dk_182 1 165 (dk_at dksX7_count_5 21 rfl rfl)
theorem dX7_count_193 : decode cX7_count 193 = .ok (.ireturn, 1) := dk_172 (dk_at dksX7_count_6 0 rfl rfl)
theorem dX7_count_194 : decode cX7_count 194 = .ok (.aload_n 0, 1) := dk_42 (dk_at dksX7_count_6 1 rfl rfl)
theorem dX7_count_195 : decode cX7_count 195 = .ok (.invokevirtual 424, 3) := dk_182 1 168 (dk_at dksX7_count_6 2 rfl rfl)
theorem dX7_count_198 : decode cX7_count 198 = .ok (.ireturn, 1) := dk_172 (dk_at dksX7_count_6 5 rfl rfl)
theorem dX7_count_199 : decode cX7_count 199 = .ok (.aload_n 0, 1) := dk_42 (dk_at dksX7_count_6 6 rfl rfl)
theorem dX7_count_200 : decode cX7_count 200 = .ok (.invokevirtual 427, 3) := dk_182 1 171 (dk_at dksX7_count_6 7 rfl rfl)
theorem dX7_count_203 : decode cX7_count 203 = .ok (.ireturn, 1) := dk_172 (dk_at dksX7_count_6 10 rfl rfl)
theorem dX7_count_204 : decode cX7_count 204 = .ok (.aload_n 0, 1) := dk_42 (dk_at dksX7_count_6 11 rfl rfl)
theorem dX7_count_205 : decode cX7_count 205 = .ok (.invokevirtual 430, 3) := dk_182 1 174 (dk_at dksX7_count_6 12 rfl rfl)
theorem dX7_count_208 : decode cX7_count 208 = .ok (.ireturn, 1) := dk_172 (dk_at dksX7_count_6 15 rfl rfl)
theorem dX7_count_209 : decode cX7_count 209 = .ok (.iconst (-1), 1) := dk_2 (dk_at dksX7_count_6 16 rfl rfl)
theorem dX7_count_210 : decode cX7_count 210 = .ok (.ireturn, 1) := dk_172 (dk_at dksX7_count_6 17 rfl rfl)
abbrev cX7_openOnes : ByteArray := prog_11_method_109_code
def yX7_openOnes : MethodName := ⟨RX7, "openOnes", "()I"⟩
def dkwX7_openOnes_1 : List UInt8 := [60, 132, 2, 1, 167, 255, 232, 27, 172]
abbrev dktX7_openOnes_1 : List UInt8 := dkwX7_openOnes_1 ++ []
def dkwX7_openOnes_0 : List UInt8 := [3, 60, 3, 61, 28, 42, 182, 0, 88, 162, 0, 22, 27, 42, 180, 0, 13, 17, 0, 140, 28, 96, 46, 96]
abbrev dktX7_openOnes_0 : List UInt8 := dkwX7_openOnes_0 ++ dktX7_openOnes_1
theorem dksX7_openOnes_0 : cX7_openOnes.data.toList.drop 0 = dktX7_openOnes_0 := by decide +kernel
theorem dksX7_openOnes_1 : cX7_openOnes.data.toList.drop 24 = dktX7_openOnes_1 := dk_seg dksX7_openOnes_0 24 rfl rfl
theorem dX7_openOnes_0 : decode cX7_openOnes 0 = .ok (.iconst 0, 1) := dk_3 (dk_at dksX7_openOnes_0 0 rfl rfl)
theorem dX7_openOnes_1 : decode cX7_openOnes 1 = .ok (.istore_n 1, 1) := dk_60 (dk_at dksX7_openOnes_0 1 rfl rfl)
theorem dX7_openOnes_2 : decode cX7_openOnes 2 = .ok (.iconst 0, 1) := dk_3 (dk_at dksX7_openOnes_0 2 rfl rfl)
theorem dX7_openOnes_3 : decode cX7_openOnes 3 = .ok (.istore_n 2, 1) := dk_61 (dk_at dksX7_openOnes_0 3 rfl rfl)
theorem dX7_openOnes_4 : decode cX7_openOnes 4 = .ok (.iload_n 2, 1) := dk_28 (dk_at dksX7_openOnes_0 4 rfl rfl)
theorem dX7_openOnes_5 : decode cX7_openOnes 5 = .ok (.aload_n 0, 1) := dk_42 (dk_at dksX7_openOnes_0 5 rfl rfl)
theorem dX7_openOnes_6 : decode cX7_openOnes 6 = .ok (.invokevirtual 88, 3) := dk_182 0 88 (dk_at dksX7_openOnes_0 6 rfl rfl)
theorem dX7_openOnes_9 : decode cX7_openOnes 9 = .ok (.if_icmp .ge 22, 3) := dk_162 0 22 (dk_at dksX7_openOnes_0 9 rfl rfl)
theorem dX7_openOnes_12 : decode cX7_openOnes 12 = .ok (.iload_n 1, 1) := dk_27 (dk_at dksX7_openOnes_0 12 rfl rfl)
theorem dX7_openOnes_13 : decode cX7_openOnes 13 = .ok (.aload_n 0, 1) := dk_42 (dk_at dksX7_openOnes_0 13 rfl rfl)
theorem dX7_openOnes_14 : decode cX7_openOnes 14 = .ok (.getfield 13, 3) := dk_180 0 13 (dk_at dksX7_openOnes_0 14 rfl rfl)
theorem dX7_openOnes_17 : decode cX7_openOnes 17 = .ok (.sipush 140, 3) := dk_17 0 140 (dk_at dksX7_openOnes_0 17 rfl rfl)
theorem dX7_openOnes_20 : decode cX7_openOnes 20 = .ok (.iload_n 2, 1) := dk_28 (dk_at dksX7_openOnes_0 20 rfl rfl)
theorem dX7_openOnes_21 : decode cX7_openOnes 21 = .ok (.iadd, 1) := dk_96 (dk_at dksX7_openOnes_0 21 rfl rfl)
theorem dX7_openOnes_22 : decode cX7_openOnes 22 = .ok (.iaload, 1) := dk_46 (dk_at dksX7_openOnes_0 22 rfl rfl)
theorem dX7_openOnes_23 : decode cX7_openOnes 23 = .ok (.iadd, 1) := dk_96 (dk_at dksX7_openOnes_0 23 rfl rfl)
theorem dX7_openOnes_24 : decode cX7_openOnes 24 = .ok (.istore_n 1, 1) := dk_60 (dk_at dksX7_openOnes_1 0 rfl rfl)
theorem dX7_openOnes_25 : decode cX7_openOnes 25 = .ok (.iinc 2 1, 3) := dk_132 2 1 (dk_at dksX7_openOnes_1 1 rfl rfl)
theorem dX7_openOnes_28 : decode cX7_openOnes 28 = .ok (.goto (-24), 3) := dk_167 255 232 (dk_at dksX7_openOnes_1 4 rfl rfl)
theorem dX7_openOnes_31 : decode cX7_openOnes 31 = .ok (.iload_n 1, 1) := dk_27 (dk_at dksX7_openOnes_1 7 rfl rfl)
theorem dX7_openOnes_32 : decode cX7_openOnes 32 = .ok (.ireturn, 1) := dk_172 (dk_at dksX7_openOnes_1 8 rfl rfl)
abbrev cX7_depths : ByteArray := prog_11_method_113_code
def yX7_depths : MethodName := ⟨RX7, "depths", "(Z)I"⟩
def dkwX7_depths_2 : List UInt8 := [28, 172]
abbrev dktX7_depths_2 : List UInt8 := dkwX7_depths_2 ++ []
def dkwX7_depths_1 : List UInt8 := [184, 1, 135, 96, 167, 0, 13, 28, 42, 180, 0, 35, 29, 46, 184, 1, 135, 61, 132, 3, 1, 167, 255, 215]
abbrev dktX7_depths_1 : List UInt8 := dkwX7_depths_1 ++ dktX7_depths_2
def dkwX7_depths_0 : List UInt8 := [3, 61, 3, 62, 29, 42, 182, 0, 80, 162, 0, 39, 27, 153, 0, 18, 28, 3, 42, 180, 0, 35, 29, 46]
abbrev dktX7_depths_0 : List UInt8 := dkwX7_depths_0 ++ dktX7_depths_1
theorem dksX7_depths_0 : cX7_depths.data.toList.drop 0 = dktX7_depths_0 := by decide +kernel
theorem dksX7_depths_1 : cX7_depths.data.toList.drop 24 = dktX7_depths_1 := dk_seg dksX7_depths_0 24 rfl rfl
theorem dksX7_depths_2 : cX7_depths.data.toList.drop 48 = dktX7_depths_2 := dk_seg dksX7_depths_1 24 rfl rfl
theorem dX7_depths_0 : decode cX7_depths 0 = .ok (.iconst 0, 1) := dk_3 (dk_at dksX7_depths_0 0 rfl rfl)
theorem dX7_depths_1 : decode cX7_depths 1 = .ok (.istore_n 2, 1) := dk_61 (dk_at dksX7_depths_0 1 rfl rfl)
theorem dX7_depths_2 : decode cX7_depths 2 = .ok (.iconst 0, 1) := dk_3 (dk_at dksX7_depths_0 2 rfl rfl)
theorem dX7_depths_3 : decode cX7_depths 3 = .ok (.istore_n 3, 1) := dk_62 (dk_at dksX7_depths_0 3 rfl rfl)
theorem dX7_depths_4 : decode cX7_depths 4 = .ok (.iload_n 3, 1) := dk_29 (dk_at dksX7_depths_0 4 rfl rfl)
theorem dX7_depths_5 : decode cX7_depths 5 = .ok (.aload_n 0, 1) := dk_42 (dk_at dksX7_depths_0 5 rfl rfl)
theorem dX7_depths_6 : decode cX7_depths 6 = .ok (.invokevirtual 80, 3) := dk_182 0 80 (dk_at dksX7_depths_0 6 rfl rfl)
theorem dX7_depths_9 : decode cX7_depths 9 = .ok (.if_icmp .ge 39, 3) := dk_162 0 39 (dk_at dksX7_depths_0 9 rfl rfl)
theorem dX7_depths_12 : decode cX7_depths 12 = .ok (.iload_n 1, 1) := dk_27 (dk_at dksX7_depths_0 12 rfl rfl)
theorem dX7_depths_13 : decode cX7_depths 13 = .ok (.ifCond .eq 18, 3) := dk_153 0 18 (dk_at dksX7_depths_0 13 rfl rfl)
theorem dX7_depths_16 : decode cX7_depths 16 = .ok (.iload_n 2, 1) := dk_28 (dk_at dksX7_depths_0 16 rfl rfl)
theorem dX7_depths_17 : decode cX7_depths 17 = .ok (.iconst 0, 1) := dk_3 (dk_at dksX7_depths_0 17 rfl rfl)
theorem dX7_depths_18 : decode cX7_depths 18 = .ok (.aload_n 0, 1) := dk_42 (dk_at dksX7_depths_0 18 rfl rfl)
theorem dX7_depths_19 : decode cX7_depths 19 = .ok (.getfield 35, 3) := dk_180 0 35 (dk_at dksX7_depths_0 19 rfl rfl)
theorem dX7_depths_22 : decode cX7_depths 22 = .ok (.iload_n 3, 1) := dk_29 (dk_at dksX7_depths_0 22 rfl rfl)
theorem dX7_depths_23 : decode cX7_depths 23 = .ok (.iaload, 1) := dk_46 (dk_at dksX7_depths_0 23 rfl rfl)
theorem dX7_depths_24 : decode cX7_depths 24 = .ok (.invokestatic 391, 3) := dk_184 1 135 (dk_at dksX7_depths_1 0 rfl rfl)
theorem dX7_depths_27 : decode cX7_depths 27 = .ok (.iadd, 1) := dk_96 (dk_at dksX7_depths_1 3 rfl rfl)
theorem dX7_depths_28 : decode cX7_depths 28 = .ok (.goto 13, 3) := dk_167 0 13 (dk_at dksX7_depths_1 4 rfl rfl)
theorem dX7_depths_31 : decode cX7_depths 31 = .ok (.iload_n 2, 1) := dk_28 (dk_at dksX7_depths_1 7 rfl rfl)
theorem dX7_depths_32 : decode cX7_depths 32 = .ok (.aload_n 0, 1) := dk_42 (dk_at dksX7_depths_1 8 rfl rfl)
theorem dX7_depths_33 : decode cX7_depths 33 = .ok (.getfield 35, 3) := dk_180 0 35 (dk_at dksX7_depths_1 9 rfl rfl)
theorem dX7_depths_36 : decode cX7_depths 36 = .ok (.iload_n 3, 1) := dk_29 (dk_at dksX7_depths_1 12 rfl rfl)
theorem dX7_depths_37 : decode cX7_depths 37 = .ok (.iaload, 1) := dk_46 (dk_at dksX7_depths_1 13 rfl rfl)
theorem dX7_depths_38 : decode cX7_depths 38 = .ok (.invokestatic 391, 3) := dk_184 1 135 (dk_at dksX7_depths_1 14 rfl rfl)
theorem dX7_depths_41 : decode cX7_depths 41 = .ok (.istore_n 2, 1) := dk_61 (dk_at dksX7_depths_1 17 rfl rfl)
theorem dX7_depths_42 : decode cX7_depths 42 = .ok (.iinc 3 1, 3) := dk_132 3 1 (dk_at dksX7_depths_1 18 rfl rfl)
theorem dX7_depths_45 : decode cX7_depths 45 = .ok (.goto (-41), 3) := dk_167 255 215 (dk_at dksX7_depths_1 21 rfl rfl)
theorem dX7_depths_48 : decode cX7_depths 48 = .ok (.iload_n 2, 1) := dk_28 (dk_at dksX7_depths_2 0 rfl rfl)
theorem dX7_depths_49 : decode cX7_depths 49 = .ok (.ireturn, 1) := dk_172 (dk_at dksX7_depths_2 1 rfl rfl)
abbrev cX7_heads : ByteArray := prog_11_method_110_code
def yX7_heads : MethodName := ⟨RX7, "heads", "()I"⟩
def dkwX7_heads_1 : List UInt8 := [182, 0, 103, 120, 167, 0, 4, 3, 128, 60, 132, 2, 1, 167, 255, 223, 27, 172]
abbrev dktX7_heads_1 : List UInt8 := dkwX7_heads_1 ++ []
def dkwX7_heads_0 : List UInt8 := [3, 60, 3, 61, 28, 42, 182, 0, 88, 162, 0, 31, 27, 42, 28, 182, 1, 26, 153, 0, 13, 4, 42, 28]
abbrev dktX7_heads_0 : List UInt8 := dkwX7_heads_0 ++ dktX7_heads_1
theorem dksX7_heads_0 : cX7_heads.data.toList.drop 0 = dktX7_heads_0 := by decide +kernel
theorem dksX7_heads_1 : cX7_heads.data.toList.drop 24 = dktX7_heads_1 := dk_seg dksX7_heads_0 24 rfl rfl
theorem dX7_heads_0 : decode cX7_heads 0 = .ok (.iconst 0, 1) := dk_3 (dk_at dksX7_heads_0 0 rfl rfl)
theorem dX7_heads_1 : decode cX7_heads 1 = .ok (.istore_n 1, 1) := dk_60 (dk_at dksX7_heads_0 1 rfl rfl)
theorem dX7_heads_2 : decode cX7_heads 2 = .ok (.iconst 0, 1) := dk_3 (dk_at dksX7_heads_0 2 rfl rfl)
theorem dX7_heads_3 : decode cX7_heads 3 = .ok (.istore_n 2, 1) := dk_61 (dk_at dksX7_heads_0 3 rfl rfl)
theorem dX7_heads_4 : decode cX7_heads 4 = .ok (.iload_n 2, 1) := dk_28 (dk_at dksX7_heads_0 4 rfl rfl)
theorem dX7_heads_5 : decode cX7_heads 5 = .ok (.aload_n 0, 1) := dk_42 (dk_at dksX7_heads_0 5 rfl rfl)
theorem dX7_heads_6 : decode cX7_heads 6 = .ok (.invokevirtual 88, 3) := dk_182 0 88 (dk_at dksX7_heads_0 6 rfl rfl)
theorem dX7_heads_9 : decode cX7_heads 9 = .ok (.if_icmp .ge 31, 3) := dk_162 0 31 (dk_at dksX7_heads_0 9 rfl rfl)
theorem dX7_heads_12 : decode cX7_heads 12 = .ok (.iload_n 1, 1) := dk_27 (dk_at dksX7_heads_0 12 rfl rfl)
theorem dX7_heads_13 : decode cX7_heads 13 = .ok (.aload_n 0, 1) := dk_42 (dk_at dksX7_heads_0 13 rfl rfl)
theorem dX7_heads_14 : decode cX7_heads 14 = .ok (.iload_n 2, 1) := dk_28 (dk_at dksX7_heads_0 14 rfl rfl)
theorem dX7_heads_15 : decode cX7_heads 15 = .ok (.invokevirtual 282, 3) := dk_182 1 26 (dk_at dksX7_heads_0 15 rfl rfl)
theorem dX7_heads_18 : decode cX7_heads 18 = .ok (.ifCond .eq 13, 3) := dk_153 0 13 (dk_at dksX7_heads_0 18 rfl rfl)
theorem dX7_heads_21 : decode cX7_heads 21 = .ok (.iconst 1, 1) := dk_4 (dk_at dksX7_heads_0 21 rfl rfl)
theorem dX7_heads_22 : decode cX7_heads 22 = .ok (.aload_n 0, 1) := dk_42 (dk_at dksX7_heads_0 22 rfl rfl)
theorem dX7_heads_23 : decode cX7_heads 23 = .ok (.iload_n 2, 1) := dk_28 (dk_at dksX7_heads_0 23 rfl rfl)
theorem dX7_heads_24 : decode cX7_heads 24 = .ok (.invokevirtual 103, 3) := dk_182 0 103 (dk_at dksX7_heads_1 0 rfl rfl)
theorem dX7_heads_27 : decode cX7_heads 27 = .ok (.ishl, 1) := dk_120 (dk_at dksX7_heads_1 3 rfl rfl)
theorem dX7_heads_28 : decode cX7_heads 28 = .ok (.goto 4, 3) := dk_167 0 4 (dk_at dksX7_heads_1 4 rfl rfl)
theorem dX7_heads_31 : decode cX7_heads 31 = .ok (.iconst 0, 1) := dk_3 (dk_at dksX7_heads_1 7 rfl rfl)
theorem dX7_heads_32 : decode cX7_heads 32 = .ok (.ior, 1) := dk_128 (dk_at dksX7_heads_1 8 rfl rfl)
theorem dX7_heads_33 : decode cX7_heads 33 = .ok (.istore_n 1, 1) := dk_60 (dk_at dksX7_heads_1 9 rfl rfl)
theorem dX7_heads_34 : decode cX7_heads 34 = .ok (.iinc 2 1, 3) := dk_132 2 1 (dk_at dksX7_heads_1 10 rfl rfl)
theorem dX7_heads_37 : decode cX7_heads 37 = .ok (.goto (-33), 3) := dk_167 255 223 (dk_at dksX7_heads_1 13 rfl rfl)
theorem dX7_heads_40 : decode cX7_heads 40 = .ok (.iload_n 1, 1) := dk_27 (dk_at dksX7_heads_1 16 rfl rfl)
theorem dX7_heads_41 : decode cX7_heads 41 = .ok (.ireturn, 1) := dk_172 (dk_at dksX7_heads_1 17 rfl rfl)
abbrev cX7_manyArcs : ByteArray := prog_11_method_111_code
def yX7_manyArcs : MethodName := ⟨RX7, "manyArcs", "(Z)I"⟩
def dkwX7_manyArcs_2 : List UInt8 := [167, 255, 214, 28, 172]
abbrev dktX7_manyArcs_2 : List UInt8 := dkwX7_manyArcs_2 ++ []
def dkwX7_manyArcs_1 : List UInt8 := [153, 0, 18, 167, 0, 11, 42, 29, 182, 1, 95, 153, 0, 7, 4, 167, 0, 4, 3, 96, 61, 132, 3, 1]
abbrev dktX7_manyArcs_1 : List UInt8 := dkwX7_manyArcs_1 ++ dktX7_manyArcs_2
def dkwX7_manyArcs_0 : List UInt8 := [3, 61, 3, 62, 29, 42, 182, 0, 88, 162, 0, 40, 28, 27, 153, 0, 14, 42, 29, 182, 1, 26]
abbrev dktX7_manyArcs_0 : List UInt8 := dkwX7_manyArcs_0 ++ dktX7_manyArcs_1
theorem dksX7_manyArcs_0 : cX7_manyArcs.data.toList.drop 0 = dktX7_manyArcs_0 := by decide +kernel
theorem dksX7_manyArcs_1 : cX7_manyArcs.data.toList.drop 22 = dktX7_manyArcs_1 := dk_seg dksX7_manyArcs_0 22 rfl rfl
theorem dksX7_manyArcs_2 : cX7_manyArcs.data.toList.drop 46 = dktX7_manyArcs_2 := dk_seg dksX7_manyArcs_1 24 rfl rfl
theorem dX7_manyArcs_0 : decode cX7_manyArcs 0 = .ok (.iconst 0, 1) := dk_3 (dk_at dksX7_manyArcs_0 0 rfl rfl)
theorem dX7_manyArcs_1 : decode cX7_manyArcs 1 = .ok (.istore_n 2, 1) := dk_61 (dk_at dksX7_manyArcs_0 1 rfl rfl)
theorem dX7_manyArcs_2 : decode cX7_manyArcs 2 = .ok (.iconst 0, 1) := dk_3 (dk_at dksX7_manyArcs_0 2 rfl rfl)
theorem dX7_manyArcs_3 : decode cX7_manyArcs 3 = .ok (.istore_n 3, 1) := dk_62 (dk_at dksX7_manyArcs_0 3 rfl rfl)
theorem dX7_manyArcs_4 : decode cX7_manyArcs 4 = .ok (.iload_n 3, 1) := dk_29 (dk_at dksX7_manyArcs_0 4 rfl rfl)
theorem dX7_manyArcs_5 : decode cX7_manyArcs 5 = .ok (.aload_n 0, 1) := dk_42 (dk_at dksX7_manyArcs_0 5 rfl rfl)
theorem dX7_manyArcs_6 : decode cX7_manyArcs 6 = .ok (.invokevirtual 88, 3) := dk_182 0 88 (dk_at dksX7_manyArcs_0 6 rfl rfl)
theorem dX7_manyArcs_9 : decode cX7_manyArcs 9 = .ok (.if_icmp .ge 40, 3) := dk_162 0 40 (dk_at dksX7_manyArcs_0 9 rfl rfl)
theorem dX7_manyArcs_12 : decode cX7_manyArcs 12 = .ok (.iload_n 2, 1) := dk_28 (dk_at dksX7_manyArcs_0 12 rfl rfl)
theorem dX7_manyArcs_13 : decode cX7_manyArcs 13 = .ok (.iload_n 1, 1) := dk_27 (dk_at dksX7_manyArcs_0 13 rfl rfl)
theorem dX7_manyArcs_14 : decode cX7_manyArcs 14 = .ok (.ifCond .eq 14, 3) := dk_153 0 14 (dk_at dksX7_manyArcs_0 14 rfl rfl)
theorem dX7_manyArcs_17 : decode cX7_manyArcs 17 = .ok (.aload_n 0, 1) := dk_42 (dk_at dksX7_manyArcs_0 17 rfl rfl)
theorem dX7_manyArcs_18 : decode cX7_manyArcs 18 = .ok (.iload_n 3, 1) := dk_29 (dk_at dksX7_manyArcs_0 18 rfl rfl)
theorem dX7_manyArcs_19 : decode cX7_manyArcs 19 = .ok (.invokevirtual 282, 3) := dk_182 1 26 (dk_at dksX7_manyArcs_0 19 rfl rfl)
theorem dX7_manyArcs_22 : decode cX7_manyArcs 22 = .ok (.ifCond .eq 18, 3) := dk_153 0 18 (dk_at dksX7_manyArcs_1 0 rfl rfl)
theorem dX7_manyArcs_25 : decode cX7_manyArcs 25 = .ok (.goto 11, 3) := dk_167 0 11 (dk_at dksX7_manyArcs_1 3 rfl rfl)
theorem dX7_manyArcs_28 : decode cX7_manyArcs 28 = .ok (.aload_n 0, 1) := dk_42 (dk_at dksX7_manyArcs_1 6 rfl rfl)
theorem dX7_manyArcs_29 : decode cX7_manyArcs 29 = .ok (.iload_n 3, 1) := dk_29 (dk_at dksX7_manyArcs_1 7 rfl rfl)
theorem dX7_manyArcs_30 : decode cX7_manyArcs 30 = .ok (.invokevirtual 351, 3) := dk_182 1 95 (dk_at dksX7_manyArcs_1 8 rfl rfl)
theorem dX7_manyArcs_33 : decode cX7_manyArcs 33 = .ok (.ifCond .eq 7, 3) := dk_153 0 7 (dk_at dksX7_manyArcs_1 11 rfl rfl)
theorem dX7_manyArcs_36 : decode cX7_manyArcs 36 = .ok (.iconst 1, 1) := dk_4 (dk_at dksX7_manyArcs_1 14 rfl rfl)
theorem dX7_manyArcs_37 : decode cX7_manyArcs 37 = .ok (.goto 4, 3) := dk_167 0 4 (dk_at dksX7_manyArcs_1 15 rfl rfl)
theorem dX7_manyArcs_40 : decode cX7_manyArcs 40 = .ok (.iconst 0, 1) := dk_3 (dk_at dksX7_manyArcs_1 18 rfl rfl)
theorem dX7_manyArcs_41 : decode cX7_manyArcs 41 = .ok (.iadd, 1) := dk_96 (dk_at dksX7_manyArcs_1 19 rfl rfl)
theorem dX7_manyArcs_42 : decode cX7_manyArcs 42 = .ok (.istore_n 2, 1) := dk_61 (dk_at dksX7_manyArcs_1 20 rfl rfl)
theorem dX7_manyArcs_43 : decode cX7_manyArcs 43 = .ok (.iinc 3 1, 3) := dk_132 3 1 (dk_at dksX7_manyArcs_1 21 rfl rfl)
theorem dX7_manyArcs_46 : decode cX7_manyArcs 46 = .ok (.goto (-42), 3) := dk_167 255 214 (dk_at dksX7_manyArcs_2 0 rfl rfl)
theorem dX7_manyArcs_49 : decode cX7_manyArcs 49 = .ok (.iload_n 2, 1) := dk_28 (dk_at dksX7_manyArcs_2 3 rfl rfl)
theorem dX7_manyArcs_50 : decode cX7_manyArcs 50 = .ok (.ireturn, 1) := dk_172 (dk_at dksX7_manyArcs_2 4 rfl rfl)
abbrev cX7_isSound : ByteArray := prog_11_method_112_code
def yX7_isSound : MethodName := ⟨RX7, "isSound", "()Z"⟩
def dkwX7_isSound_3 : List UInt8 := [132, 4, 1, 167, 255, 202, 27, 29, 126, 60, 167, 255, 183, 27, 154, 0, 7, 4, 167, 0, 4, 3, 172]
abbrev dktX7_isSound_3 : List UInt8 := dkwX7_isSound_3 ++ []
def dkwX7_isSound_2 : List UInt8 := [27, 42, 21, 4, 182, 0, 95, 184, 0, 99, 153, 0, 14, 29, 4, 42, 21, 4, 182, 0, 103, 120, 128, 62]
abbrev dktX7_isSound_2 : List UInt8 := dkwX7_isSound_2 ++ dktX7_isSound_3
def dkwX7_isSound_1 : List UInt8 := [182, 0, 88, 162, 0, 51, 42, 21, 4, 182, 0, 91, 153, 0, 36, 42, 21, 4, 182, 1, 26, 154, 0, 27]
abbrev dktX7_isSound_1 : List UInt8 := dkwX7_isSound_1 ++ dktX7_isSound_2
def dkwX7_isSound_0 : List UInt8 := [42, 180, 0, 120, 60, 3, 61, 27, 28, 159, 0, 74, 27, 61, 3, 62, 3, 54, 4, 21, 4, 42]
abbrev dktX7_isSound_0 : List UInt8 := dkwX7_isSound_0 ++ dktX7_isSound_1
theorem dksX7_isSound_0 : cX7_isSound.data.toList.drop 0 = dktX7_isSound_0 := by decide +kernel
theorem dksX7_isSound_1 : cX7_isSound.data.toList.drop 22 = dktX7_isSound_1 := dk_seg dksX7_isSound_0 22 rfl rfl
theorem dksX7_isSound_2 : cX7_isSound.data.toList.drop 46 = dktX7_isSound_2 := dk_seg dksX7_isSound_1 24 rfl rfl
theorem dksX7_isSound_3 : cX7_isSound.data.toList.drop 70 = dktX7_isSound_3 := dk_seg dksX7_isSound_2 24 rfl rfl
theorem dX7_isSound_0 : decode cX7_isSound 0 = .ok (.aload_n 0, 1) := dk_42 (dk_at dksX7_isSound_0 0 rfl rfl)
theorem dX7_isSound_1 : decode cX7_isSound 1 = .ok (.getfield 120, 3) := dk_180 0 120 (dk_at dksX7_isSound_0 1 rfl rfl)
theorem dX7_isSound_4 : decode cX7_isSound 4 = .ok (.istore_n 1, 1) := dk_60 (dk_at dksX7_isSound_0 4 rfl rfl)
theorem dX7_isSound_5 : decode cX7_isSound 5 = .ok (.iconst 0, 1) := dk_3 (dk_at dksX7_isSound_0 5 rfl rfl)
theorem dX7_isSound_6 : decode cX7_isSound 6 = .ok (.istore_n 2, 1) := dk_61 (dk_at dksX7_isSound_0 6 rfl rfl)
theorem dX7_isSound_7 : decode cX7_isSound 7 = .ok (.iload_n 1, 1) := dk_27 (dk_at dksX7_isSound_0 7 rfl rfl)
theorem dX7_isSound_8 : decode cX7_isSound 8 = .ok (.iload_n 2, 1) := dk_28 (dk_at dksX7_isSound_0 8 rfl rfl)
theorem dX7_isSound_9 : decode cX7_isSound 9 = .ok (.if_icmp .eq 74, 3) := dk_159 0 74 (dk_at dksX7_isSound_0 9 rfl rfl)
theorem dX7_isSound_12 : decode cX7_isSound 12 = .ok (.iload_n 1, 1) := dk_27 (dk_at dksX7_isSound_0 12 rfl rfl)
theorem dX7_isSound_13 : decode cX7_isSound 13 = .ok (.istore_n 2, 1) := dk_61 (dk_at dksX7_isSound_0 13 rfl rfl)
theorem dX7_isSound_14 : decode cX7_isSound 14 = .ok (.iconst 0, 1) := dk_3 (dk_at dksX7_isSound_0 14 rfl rfl)
theorem dX7_isSound_15 : decode cX7_isSound 15 = .ok (.istore_n 3, 1) := dk_62 (dk_at dksX7_isSound_0 15 rfl rfl)
theorem dX7_isSound_16 : decode cX7_isSound 16 = .ok (.iconst 0, 1) := dk_3 (dk_at dksX7_isSound_0 16 rfl rfl)
theorem dX7_isSound_17 : decode cX7_isSound 17 = .ok (.istore 4, 2) := dk_54 4 (dk_at dksX7_isSound_0 17 rfl rfl)
theorem dX7_isSound_19 : decode cX7_isSound 19 = .ok (.iload 4, 2) := dk_21 4 (dk_at dksX7_isSound_0 19 rfl rfl)
theorem dX7_isSound_21 : decode cX7_isSound 21 = .ok (.aload_n 0, 1) := dk_42 (dk_at dksX7_isSound_0 21 rfl rfl)
theorem dX7_isSound_22 : decode cX7_isSound 22 = .ok (.invokevirtual 88, 3) := dk_182 0 88 (dk_at dksX7_isSound_1 0 rfl rfl)
theorem dX7_isSound_25 : decode cX7_isSound 25 = .ok (.if_icmp .ge 51, 3) := dk_162 0 51 (dk_at dksX7_isSound_1 3 rfl rfl)
theorem dX7_isSound_28 : decode cX7_isSound 28 = .ok (.aload_n 0, 1) := dk_42 (dk_at dksX7_isSound_1 6 rfl rfl)
theorem dX7_isSound_29 : decode cX7_isSound 29 = .ok (.iload 4, 2) := dk_21 4 (dk_at dksX7_isSound_1 7 rfl rfl)
theorem dX7_isSound_31 : decode cX7_isSound 31 = .ok (.invokevirtual 91, 3) := dk_182 0 91 (dk_at dksX7_isSound_1 9 rfl rfl)
theorem dX7_isSound_34 : decode cX7_isSound 34 = .ok (.ifCond .eq 36, 3) := dk_153 0 36 (dk_at dksX7_isSound_1 12 rfl rfl)
theorem dX7_isSound_37 : decode cX7_isSound 37 = .ok (.aload_n 0, 1) := dk_42 (dk_at dksX7_isSound_1 15 rfl rfl)
theorem dX7_isSound_38 : decode cX7_isSound 38 = .ok (.iload 4, 2) := dk_21 4 (dk_at dksX7_isSound_1 16 rfl rfl)
theorem dX7_isSound_40 : decode cX7_isSound 40 = .ok (.invokevirtual 282, 3) := dk_182 1 26 (dk_at dksX7_isSound_1 18 rfl rfl)
theorem dX7_isSound_43 : decode cX7_isSound 43 = .ok (.ifCond .ne 27, 3) := dk_154 0 27 (dk_at dksX7_isSound_1 21 rfl rfl)
theorem dX7_isSound_46 : decode cX7_isSound 46 = .ok (.iload_n 1, 1) := dk_27 (dk_at dksX7_isSound_2 0 rfl rfl)
theorem dX7_isSound_47 : decode cX7_isSound 47 = .ok (.aload_n 0, 1) := dk_42 (dk_at dksX7_isSound_2 1 rfl rfl)
theorem dX7_isSound_48 : decode cX7_isSound 48 = .ok (.iload 4, 2) := dk_21 4 (dk_at dksX7_isSound_2 2 rfl rfl)
theorem dX7_isSound_50 : decode cX7_isSound 50 = .ok (.invokevirtual 95, 3) := dk_182 0 95 (dk_at dksX7_isSound_2 4 rfl rfl)
theorem dX7_isSound_53 : decode cX7_isSound 53 = .ok (.invokestatic 99, 3) := dk_184 0 99 (dk_at dksX7_isSound_2 7 rfl rfl)
theorem dX7_isSound_56 : decode cX7_isSound 56 = .ok (.ifCond .eq 14, 3) := dk_153 0 14 (dk_at dksX7_isSound_2 10 rfl rfl)
theorem dX7_isSound_59 : decode cX7_isSound 59 = .ok (.iload_n 3, 1) := dk_29 (dk_at dksX7_isSound_2 13 rfl rfl)
theorem dX7_isSound_60 : decode cX7_isSound 60 = .ok (.iconst 1, 1) := dk_4 (dk_at dksX7_isSound_2 14 rfl rfl)
theorem dX7_isSound_61 : decode cX7_isSound 61 = .ok (.aload_n 0, 1) := dk_42 (dk_at dksX7_isSound_2 15 rfl rfl)
theorem dX7_isSound_62 : decode cX7_isSound 62 = .ok (.iload 4, 2) := dk_21 4 (dk_at dksX7_isSound_2 16 rfl rfl)
theorem dX7_isSound_64 : decode cX7_isSound 64 = .ok (.invokevirtual 103, 3) := dk_182 0 103 (dk_at dksX7_isSound_2 18 rfl rfl)
theorem dX7_isSound_67 : decode cX7_isSound 67 = .ok (.ishl, 1) := dk_120 (dk_at dksX7_isSound_2 21 rfl rfl)
theorem dX7_isSound_68 : decode cX7_isSound 68 = .ok (.ior, 1) := dk_128 (dk_at dksX7_isSound_2 22 rfl rfl)
theorem dX7_isSound_69 : decode cX7_isSound 69 = .ok (.istore_n 3, 1) := dk_62 (dk_at dksX7_isSound_2 23 rfl rfl)
theorem dX7_isSound_70 : decode cX7_isSound 70 = .ok (.iinc 4 1, 3) := dk_132 4 1 (dk_at dksX7_isSound_3 0 rfl rfl)
theorem dX7_isSound_73 : decode cX7_isSound 73 = .ok (.goto (-54), 3) := dk_167 255 202 (dk_at dksX7_isSound_3 3 rfl rfl)
theorem dX7_isSound_76 : decode cX7_isSound 76 = .ok (.iload_n 1, 1) := dk_27 (dk_at dksX7_isSound_3 6 rfl rfl)
theorem dX7_isSound_77 : decode cX7_isSound 77 = .ok (.iload_n 3, 1) := dk_29 (dk_at dksX7_isSound_3 7 rfl rfl)
theorem dX7_isSound_78 : decode cX7_isSound 78 = .ok (.iand, 1) := dk_126 (dk_at dksX7_isSound_3 8 rfl rfl)
theorem dX7_isSound_79 : decode cX7_isSound 79 = .ok (.istore_n 1, 1) := dk_60 (dk_at dksX7_isSound_3 9 rfl rfl)
theorem dX7_isSound_80 : decode cX7_isSound 80 = .ok (.goto (-73), 3) := dk_167 255 183 (dk_at dksX7_isSound_3 10 rfl rfl)
theorem dX7_isSound_83 : decode cX7_isSound 83 = .ok (.iload_n 1, 1) := dk_27 (dk_at dksX7_isSound_3 13 rfl rfl)
theorem dX7_isSound_84 : decode cX7_isSound 84 = .ok (.ifCond .ne 7, 3) := dk_154 0 7 (dk_at dksX7_isSound_3 14 rfl rfl)
theorem dX7_isSound_87 : decode cX7_isSound 87 = .ok (.iconst 1, 1) := dk_4 (dk_at dksX7_isSound_3 17 rfl rfl)
theorem dX7_isSound_88 : decode cX7_isSound 88 = .ok (.goto 4, 3) := dk_167 0 4 (dk_at dksX7_isSound_3 18 rfl rfl)
theorem dX7_isSound_91 : decode cX7_isSound 91 = .ok (.iconst 0, 1) := dk_3 (dk_at dksX7_isSound_3 21 rfl rfl)
theorem dX7_isSound_92 : decode cX7_isSound 92 = .ok (.ireturn, 1) := dk_172 (dk_at dksX7_isSound_3 22 rfl rfl)
abbrev cX7_leaves : ByteArray := prog_11_method_114_code
def yX7_leaves : MethodName := ⟨RX7, "leaves", "()I"⟩
def dkwX7_leaves_2 : List UInt8 := [172]
abbrev dktX7_leaves_2 : List UInt8 := dkwX7_leaves_2 ++ []
def dkwX7_leaves_1 : List UInt8 := [42, 28, 182, 1, 20, 154, 0, 9, 4, 28, 120, 167, 0, 4, 3, 128, 60, 132, 2, 1, 167, 255, 216, 27]
abbrev dktX7_leaves_1 : List UInt8 := dkwX7_leaves_1 ++ dktX7_leaves_2
def dkwX7_leaves_0 : List UInt8 := [3, 60, 3, 61, 28, 42, 182, 0, 80, 162, 0, 38, 27, 42, 180, 0, 120, 28, 184, 0, 99, 153, 0, 17]
abbrev dktX7_leaves_0 : List UInt8 := dkwX7_leaves_0 ++ dktX7_leaves_1
theorem dksX7_leaves_0 : cX7_leaves.data.toList.drop 0 = dktX7_leaves_0 := by decide +kernel
theorem dksX7_leaves_1 : cX7_leaves.data.toList.drop 24 = dktX7_leaves_1 := dk_seg dksX7_leaves_0 24 rfl rfl
theorem dksX7_leaves_2 : cX7_leaves.data.toList.drop 48 = dktX7_leaves_2 := dk_seg dksX7_leaves_1 24 rfl rfl
theorem dX7_leaves_0 : decode cX7_leaves 0 = .ok (.iconst 0, 1) := dk_3 (dk_at dksX7_leaves_0 0 rfl rfl)
theorem dX7_leaves_1 : decode cX7_leaves 1 = .ok (.istore_n 1, 1) := dk_60 (dk_at dksX7_leaves_0 1 rfl rfl)
theorem dX7_leaves_2 : decode cX7_leaves 2 = .ok (.iconst 0, 1) := dk_3 (dk_at dksX7_leaves_0 2 rfl rfl)
theorem dX7_leaves_3 : decode cX7_leaves 3 = .ok (.istore_n 2, 1) := dk_61 (dk_at dksX7_leaves_0 3 rfl rfl)
theorem dX7_leaves_4 : decode cX7_leaves 4 = .ok (.iload_n 2, 1) := dk_28 (dk_at dksX7_leaves_0 4 rfl rfl)
theorem dX7_leaves_5 : decode cX7_leaves 5 = .ok (.aload_n 0, 1) := dk_42 (dk_at dksX7_leaves_0 5 rfl rfl)
theorem dX7_leaves_6 : decode cX7_leaves 6 = .ok (.invokevirtual 80, 3) := dk_182 0 80 (dk_at dksX7_leaves_0 6 rfl rfl)
theorem dX7_leaves_9 : decode cX7_leaves 9 = .ok (.if_icmp .ge 38, 3) := dk_162 0 38 (dk_at dksX7_leaves_0 9 rfl rfl)
theorem dX7_leaves_12 : decode cX7_leaves 12 = .ok (.iload_n 1, 1) := dk_27 (dk_at dksX7_leaves_0 12 rfl rfl)
theorem dX7_leaves_13 : decode cX7_leaves 13 = .ok (.aload_n 0, 1) := dk_42 (dk_at dksX7_leaves_0 13 rfl rfl)
theorem dX7_leaves_14 : decode cX7_leaves 14 = .ok (.getfield 120, 3) := dk_180 0 120 (dk_at dksX7_leaves_0 14 rfl rfl)
theorem dX7_leaves_17 : decode cX7_leaves 17 = .ok (.iload_n 2, 1) := dk_28 (dk_at dksX7_leaves_0 17 rfl rfl)
theorem dX7_leaves_18 : decode cX7_leaves 18 = .ok (.invokestatic 99, 3) := dk_184 0 99 (dk_at dksX7_leaves_0 18 rfl rfl)
theorem dX7_leaves_21 : decode cX7_leaves 21 = .ok (.ifCond .eq 17, 3) := dk_153 0 17 (dk_at dksX7_leaves_0 21 rfl rfl)
theorem dX7_leaves_24 : decode cX7_leaves 24 = .ok (.aload_n 0, 1) := dk_42 (dk_at dksX7_leaves_1 0 rfl rfl)
theorem dX7_leaves_25 : decode cX7_leaves 25 = .ok (.iload_n 2, 1) := dk_28 (dk_at dksX7_leaves_1 1 rfl rfl)
theorem dX7_leaves_26 : decode cX7_leaves 26 = .ok (.invokevirtual 276, 3) := dk_182 1 20 (dk_at dksX7_leaves_1 2 rfl rfl)
theorem dX7_leaves_29 : decode cX7_leaves 29 = .ok (.ifCond .ne 9, 3) := dk_154 0 9 (dk_at dksX7_leaves_1 5 rfl rfl)
theorem dX7_leaves_32 : decode cX7_leaves 32 = .ok (.iconst 1, 1) := dk_4 (dk_at dksX7_leaves_1 8 rfl rfl)
theorem dX7_leaves_33 : decode cX7_leaves 33 = .ok (.iload_n 2, 1) := dk_28 (dk_at dksX7_leaves_1 9 rfl rfl)
theorem dX7_leaves_34 : decode cX7_leaves 34 = .ok (.ishl, 1) := dk_120 (dk_at dksX7_leaves_1 10 rfl rfl)
theorem dX7_leaves_35 : decode cX7_leaves 35 = .ok (.goto 4, 3) := dk_167 0 4 (dk_at dksX7_leaves_1 11 rfl rfl)
theorem dX7_leaves_38 : decode cX7_leaves 38 = .ok (.iconst 0, 1) := dk_3 (dk_at dksX7_leaves_1 14 rfl rfl)
theorem dX7_leaves_39 : decode cX7_leaves 39 = .ok (.ior, 1) := dk_128 (dk_at dksX7_leaves_1 15 rfl rfl)
theorem dX7_leaves_40 : decode cX7_leaves 40 = .ok (.istore_n 1, 1) := dk_60 (dk_at dksX7_leaves_1 16 rfl rfl)
theorem dX7_leaves_41 : decode cX7_leaves 41 = .ok (.iinc 2 1, 3) := dk_132 2 1 (dk_at dksX7_leaves_1 17 rfl rfl)
theorem dX7_leaves_44 : decode cX7_leaves 44 = .ok (.goto (-40), 3) := dk_167 255 216 (dk_at dksX7_leaves_1 20 rfl rfl)
theorem dX7_leaves_47 : decode cX7_leaves 47 = .ok (.iload_n 1, 1) := dk_27 (dk_at dksX7_leaves_1 23 rfl rfl)
theorem dX7_leaves_48 : decode cX7_leaves 48 = .ok (.ireturn, 1) := dk_172 (dk_at dksX7_leaves_2 0 rfl rfl)
abbrev cX7_mostNest : ByteArray := prog_11_method_115_code
def yX7_mostNest : MethodName := ⟨RX7, "mostNest", "()I"⟩
def dkwX7_mostNest_1 : List UInt8 := [132, 2, 1, 167, 255, 235, 27, 172]
abbrev dktX7_mostNest_1 : List UInt8 := dkwX7_mostNest_1 ++ []
def dkwX7_mostNest_0 : List UInt8 := [3, 60, 3, 61, 28, 42, 182, 0, 80, 162, 0, 19, 27, 42, 28, 182, 1, 62, 184, 1, 135, 60]
abbrev dktX7_mostNest_0 : List UInt8 := dkwX7_mostNest_0 ++ dktX7_mostNest_1
theorem dksX7_mostNest_0 : cX7_mostNest.data.toList.drop 0 = dktX7_mostNest_0 := by decide +kernel
theorem dksX7_mostNest_1 : cX7_mostNest.data.toList.drop 22 = dktX7_mostNest_1 := dk_seg dksX7_mostNest_0 22 rfl rfl
theorem dX7_mostNest_0 : decode cX7_mostNest 0 = .ok (.iconst 0, 1) := dk_3 (dk_at dksX7_mostNest_0 0 rfl rfl)
theorem dX7_mostNest_1 : decode cX7_mostNest 1 = .ok (.istore_n 1, 1) := dk_60 (dk_at dksX7_mostNest_0 1 rfl rfl)
theorem dX7_mostNest_2 : decode cX7_mostNest 2 = .ok (.iconst 0, 1) := dk_3 (dk_at dksX7_mostNest_0 2 rfl rfl)
theorem dX7_mostNest_3 : decode cX7_mostNest 3 = .ok (.istore_n 2, 1) := dk_61 (dk_at dksX7_mostNest_0 3 rfl rfl)
theorem dX7_mostNest_4 : decode cX7_mostNest 4 = .ok (.iload_n 2, 1) := dk_28 (dk_at dksX7_mostNest_0 4 rfl rfl)
theorem dX7_mostNest_5 : decode cX7_mostNest 5 = .ok (.aload_n 0, 1) := dk_42 (dk_at dksX7_mostNest_0 5 rfl rfl)
theorem dX7_mostNest_6 : decode cX7_mostNest 6 = .ok (.invokevirtual 80, 3) := dk_182 0 80 (dk_at dksX7_mostNest_0 6 rfl rfl)
theorem dX7_mostNest_9 : decode cX7_mostNest 9 = .ok (.if_icmp .ge 19, 3) := dk_162 0 19 (dk_at dksX7_mostNest_0 9 rfl rfl)
theorem dX7_mostNest_12 : decode cX7_mostNest 12 = .ok (.iload_n 1, 1) := dk_27 (dk_at dksX7_mostNest_0 12 rfl rfl)
theorem dX7_mostNest_13 : decode cX7_mostNest 13 = .ok (.aload_n 0, 1) := dk_42 (dk_at dksX7_mostNest_0 13 rfl rfl)
theorem dX7_mostNest_14 : decode cX7_mostNest 14 = .ok (.iload_n 2, 1) := dk_28 (dk_at dksX7_mostNest_0 14 rfl rfl)
theorem dX7_mostNest_15 : decode cX7_mostNest 15 = .ok (.invokevirtual 318, 3) := dk_182 1 62 (dk_at dksX7_mostNest_0 15 rfl rfl)
theorem dX7_mostNest_18 : decode cX7_mostNest 18 = .ok (.invokestatic 391, 3) := dk_184 1 135 (dk_at dksX7_mostNest_0 18 rfl rfl)
theorem dX7_mostNest_21 : decode cX7_mostNest 21 = .ok (.istore_n 1, 1) := dk_60 (dk_at dksX7_mostNest_0 21 rfl rfl)
theorem dX7_mostNest_22 : decode cX7_mostNest 22 = .ok (.iinc 2 1, 3) := dk_132 2 1 (dk_at dksX7_mostNest_1 0 rfl rfl)
theorem dX7_mostNest_25 : decode cX7_mostNest 25 = .ok (.goto (-21), 3) := dk_167 255 235 (dk_at dksX7_mostNest_1 3 rfl rfl)
theorem dX7_mostNest_28 : decode cX7_mostNest 28 = .ok (.iload_n 1, 1) := dk_27 (dk_at dksX7_mostNest_1 6 rfl rfl)
theorem dX7_mostNest_29 : decode cX7_mostNest 29 = .ok (.ireturn, 1) := dk_172 (dk_at dksX7_mostNest_1 7 rfl rfl)
abbrev cX7_spans : ByteArray := prog_11_method_116_code
def yX7_spans : MethodName := ⟨RX7, "spans", "()I"⟩
def dkwX7_spans_1 : List UInt8 := [132, 2, 1, 167, 255, 234, 27, 172]
abbrev dktX7_spans_1 : List UInt8 := dkwX7_spans_1 ++ []
def dkwX7_spans_0 : List UInt8 := [3, 60, 3, 61, 28, 42, 182, 0, 80, 162, 0, 20, 27, 42, 28, 182, 1, 140, 184, 0, 123, 96, 60]
abbrev dktX7_spans_0 : List UInt8 := dkwX7_spans_0 ++ dktX7_spans_1
theorem dksX7_spans_0 : cX7_spans.data.toList.drop 0 = dktX7_spans_0 := by decide +kernel
theorem dksX7_spans_1 : cX7_spans.data.toList.drop 23 = dktX7_spans_1 := dk_seg dksX7_spans_0 23 rfl rfl
theorem dX7_spans_0 : decode cX7_spans 0 = .ok (.iconst 0, 1) := dk_3 (dk_at dksX7_spans_0 0 rfl rfl)
theorem dX7_spans_1 : decode cX7_spans 1 = .ok (.istore_n 1, 1) := dk_60 (dk_at dksX7_spans_0 1 rfl rfl)
theorem dX7_spans_2 : decode cX7_spans 2 = .ok (.iconst 0, 1) := dk_3 (dk_at dksX7_spans_0 2 rfl rfl)
theorem dX7_spans_3 : decode cX7_spans 3 = .ok (.istore_n 2, 1) := dk_61 (dk_at dksX7_spans_0 3 rfl rfl)
theorem dX7_spans_4 : decode cX7_spans 4 = .ok (.iload_n 2, 1) := dk_28 (dk_at dksX7_spans_0 4 rfl rfl)
theorem dX7_spans_5 : decode cX7_spans 5 = .ok (.aload_n 0, 1) := dk_42 (dk_at dksX7_spans_0 5 rfl rfl)
theorem dX7_spans_6 : decode cX7_spans 6 = .ok (.invokevirtual 80, 3) := dk_182 0 80 (dk_at dksX7_spans_0 6 rfl rfl)
theorem dX7_spans_9 : decode cX7_spans 9 = .ok (.if_icmp .ge 20, 3) := dk_162 0 20 (dk_at dksX7_spans_0 9 rfl rfl)
theorem dX7_spans_12 : decode cX7_spans 12 = .ok (.iload_n 1, 1) := dk_27 (dk_at dksX7_spans_0 12 rfl rfl)
theorem dX7_spans_13 : decode cX7_spans 13 = .ok (.aload_n 0, 1) := dk_42 (dk_at dksX7_spans_0 13 rfl rfl)
theorem dX7_spans_14 : decode cX7_spans 14 = .ok (.iload_n 2, 1) := dk_28 (dk_at dksX7_spans_0 14 rfl rfl)
theorem dX7_spans_15 : decode cX7_spans 15 = .ok (.invokevirtual 396, 3) := dk_182 1 140 (dk_at dksX7_spans_0 15 rfl rfl)
theorem dX7_spans_18 : decode cX7_spans 18 = .ok (.invokestatic 123, 3) := dk_184 0 123 (dk_at dksX7_spans_0 18 rfl rfl)
theorem dX7_spans_21 : decode cX7_spans 21 = .ok (.iadd, 1) := dk_96 (dk_at dksX7_spans_0 21 rfl rfl)
theorem dX7_spans_22 : decode cX7_spans 22 = .ok (.istore_n 1, 1) := dk_60 (dk_at dksX7_spans_0 22 rfl rfl)
theorem dX7_spans_23 : decode cX7_spans 23 = .ok (.iinc 2 1, 3) := dk_132 2 1 (dk_at dksX7_spans_1 0 rfl rfl)
theorem dX7_spans_26 : decode cX7_spans 26 = .ok (.goto (-22), 3) := dk_167 255 234 (dk_at dksX7_spans_1 3 rfl rfl)
theorem dX7_spans_29 : decode cX7_spans 29 = .ok (.iload_n 1, 1) := dk_27 (dk_at dksX7_spans_1 6 rfl rfl)
theorem dX7_spans_30 : decode cX7_spans 30 = .ok (.ireturn, 1) := dk_172 (dk_at dksX7_spans_1 7 rfl rfl)
abbrev cX7_outGates : ByteArray := prog_11_method_117_code
def yX7_outGates : MethodName := ⟨RX7, "outGates", "(I)I"⟩
def dkwX7_outGates_0 : List UInt8 := [42, 27, 182, 1, 20, 42, 27, 182, 1, 38, 126, 172]
abbrev dktX7_outGates_0 : List UInt8 := dkwX7_outGates_0 ++ []
theorem dksX7_outGates_0 : cX7_outGates.data.toList.drop 0 = dktX7_outGates_0 := by decide +kernel
theorem dX7_outGates_0 : decode cX7_outGates 0 = .ok (.aload_n 0, 1) := dk_42 (dk_at dksX7_outGates_0 0 rfl rfl)
theorem dX7_outGates_1 : decode cX7_outGates 1 = .ok (.iload_n 1, 1) := dk_27 (dk_at dksX7_outGates_0 1 rfl rfl)
theorem dX7_outGates_2 : decode cX7_outGates 2 = .ok (.invokevirtual 276, 3) := dk_182 1 20 (dk_at dksX7_outGates_0 2 rfl rfl)
theorem dX7_outGates_5 : decode cX7_outGates 5 = .ok (.aload_n 0, 1) := dk_42 (dk_at dksX7_outGates_0 5 rfl rfl)
theorem dX7_outGates_6 : decode cX7_outGates 6 = .ok (.iload_n 1, 1) := dk_27 (dk_at dksX7_outGates_0 6 rfl rfl)
theorem dX7_outGates_7 : decode cX7_outGates 7 = .ok (.invokevirtual 294, 3) := dk_182 1 38 (dk_at dksX7_outGates_0 7 rfl rfl)
theorem dX7_outGates_10 : decode cX7_outGates 10 = .ok (.iand, 1) := dk_126 (dk_at dksX7_outGates_0 10 rfl rfl)
theorem dX7_outGates_11 : decode cX7_outGates 11 = .ok (.ireturn, 1) := dk_172 (dk_at dksX7_outGates_0 11 rfl rfl)
abbrev cX7_rings : ByteArray := prog_11_method_118_code
def yX7_rings : MethodName := ⟨RX7, "rings", "()I"⟩
def dkwX7_rings_2 : List UInt8 := [167, 255, 212, 27, 172]
abbrev dktX7_rings_2 : List UInt8 := dkwX7_rings_2 ++ []
def dkwX7_rings_1 : List UInt8 := [42, 28, 182, 1, 83, 4, 28, 120, 4, 100, 126, 154, 0, 7, 4, 167, 0, 4, 3, 96, 60, 132, 2, 1]
abbrev dktX7_rings_1 : List UInt8 := dkwX7_rings_1 ++ dktX7_rings_2
def dkwX7_rings_0 : List UInt8 := [3, 60, 3, 61, 28, 42, 182, 0, 80, 162, 0, 42, 27, 42, 180, 0, 120, 28, 184, 0, 99, 153, 0, 21]
abbrev dktX7_rings_0 : List UInt8 := dkwX7_rings_0 ++ dktX7_rings_1
theorem dksX7_rings_0 : cX7_rings.data.toList.drop 0 = dktX7_rings_0 := by decide +kernel
theorem dksX7_rings_1 : cX7_rings.data.toList.drop 24 = dktX7_rings_1 := dk_seg dksX7_rings_0 24 rfl rfl
theorem dksX7_rings_2 : cX7_rings.data.toList.drop 48 = dktX7_rings_2 := dk_seg dksX7_rings_1 24 rfl rfl
theorem dX7_rings_0 : decode cX7_rings 0 = .ok (.iconst 0, 1) := dk_3 (dk_at dksX7_rings_0 0 rfl rfl)
theorem dX7_rings_1 : decode cX7_rings 1 = .ok (.istore_n 1, 1) := dk_60 (dk_at dksX7_rings_0 1 rfl rfl)
theorem dX7_rings_2 : decode cX7_rings 2 = .ok (.iconst 0, 1) := dk_3 (dk_at dksX7_rings_0 2 rfl rfl)
theorem dX7_rings_3 : decode cX7_rings 3 = .ok (.istore_n 2, 1) := dk_61 (dk_at dksX7_rings_0 3 rfl rfl)
theorem dX7_rings_4 : decode cX7_rings 4 = .ok (.iload_n 2, 1) := dk_28 (dk_at dksX7_rings_0 4 rfl rfl)
theorem dX7_rings_5 : decode cX7_rings 5 = .ok (.aload_n 0, 1) := dk_42 (dk_at dksX7_rings_0 5 rfl rfl)
theorem dX7_rings_6 : decode cX7_rings 6 = .ok (.invokevirtual 80, 3) := dk_182 0 80 (dk_at dksX7_rings_0 6 rfl rfl)
theorem dX7_rings_9 : decode cX7_rings 9 = .ok (.if_icmp .ge 42, 3) := dk_162 0 42 (dk_at dksX7_rings_0 9 rfl rfl)
theorem dX7_rings_12 : decode cX7_rings 12 = .ok (.iload_n 1, 1) := dk_27 (dk_at dksX7_rings_0 12 rfl rfl)
theorem dX7_rings_13 : decode cX7_rings 13 = .ok (.aload_n 0, 1) := dk_42 (dk_at dksX7_rings_0 13 rfl rfl)
theorem dX7_rings_14 : decode cX7_rings 14 = .ok (.getfield 120, 3) := dk_180 0 120 (dk_at dksX7_rings_0 14 rfl rfl)
theorem dX7_rings_17 : decode cX7_rings 17 = .ok (.iload_n 2, 1) := dk_28 (dk_at dksX7_rings_0 17 rfl rfl)
theorem dX7_rings_18 : decode cX7_rings 18 = .ok (.invokestatic 99, 3) := dk_184 0 99 (dk_at dksX7_rings_0 18 rfl rfl)
theorem dX7_rings_21 : decode cX7_rings 21 = .ok (.ifCond .eq 21, 3) := dk_153 0 21 (dk_at dksX7_rings_0 21 rfl rfl)
theorem dX7_rings_24 : decode cX7_rings 24 = .ok (.aload_n 0, 1) := dk_42 (dk_at dksX7_rings_1 0 rfl rfl)
theorem dX7_rings_25 : decode cX7_rings 25 = .ok (.iload_n 2, 1) := dk_28 (dk_at dksX7_rings_1 1 rfl rfl)
theorem dX7_rings_26 : decode cX7_rings 26 = .ok (.invokevirtual 339, 3) := dk_182 1 83 (dk_at dksX7_rings_1 2 rfl rfl)
theorem dX7_rings_29 : decode cX7_rings 29 = .ok (.iconst 1, 1) := dk_4 (dk_at dksX7_rings_1 5 rfl rfl)
theorem dX7_rings_30 : decode cX7_rings 30 = .ok (.iload_n 2, 1) := dk_28 (dk_at dksX7_rings_1 6 rfl rfl)
theorem dX7_rings_31 : decode cX7_rings 31 = .ok (.ishl, 1) := dk_120 (dk_at dksX7_rings_1 7 rfl rfl)
theorem dX7_rings_32 : decode cX7_rings 32 = .ok (.iconst 1, 1) := dk_4 (dk_at dksX7_rings_1 8 rfl rfl)
theorem dX7_rings_33 : decode cX7_rings 33 = .ok (.isub, 1) := dk_100 (dk_at dksX7_rings_1 9 rfl rfl)
theorem dX7_rings_34 : decode cX7_rings 34 = .ok (.iand, 1) := dk_126 (dk_at dksX7_rings_1 10 rfl rfl)
theorem dX7_rings_35 : decode cX7_rings 35 = .ok (.ifCond .ne 7, 3) := dk_154 0 7 (dk_at dksX7_rings_1 11 rfl rfl)
theorem dX7_rings_38 : decode cX7_rings 38 = .ok (.iconst 1, 1) := dk_4 (dk_at dksX7_rings_1 14 rfl rfl)
theorem dX7_rings_39 : decode cX7_rings 39 = .ok (.goto 4, 3) := dk_167 0 4 (dk_at dksX7_rings_1 15 rfl rfl)
theorem dX7_rings_42 : decode cX7_rings 42 = .ok (.iconst 0, 1) := dk_3 (dk_at dksX7_rings_1 18 rfl rfl)
theorem dX7_rings_43 : decode cX7_rings 43 = .ok (.iadd, 1) := dk_96 (dk_at dksX7_rings_1 19 rfl rfl)
theorem dX7_rings_44 : decode cX7_rings 44 = .ok (.istore_n 1, 1) := dk_60 (dk_at dksX7_rings_1 20 rfl rfl)
theorem dX7_rings_45 : decode cX7_rings 45 = .ok (.iinc 2 1, 3) := dk_132 2 1 (dk_at dksX7_rings_1 21 rfl rfl)
theorem dX7_rings_48 : decode cX7_rings 48 = .ok (.goto (-44), 3) := dk_167 255 212 (dk_at dksX7_rings_2 0 rfl rfl)
theorem dX7_rings_51 : decode cX7_rings 51 = .ok (.iload_n 1, 1) := dk_27 (dk_at dksX7_rings_2 3 rfl rfl)
theorem dX7_rings_52 : decode cX7_rings 52 = .ok (.ireturn, 1) := dk_172 (dk_at dksX7_rings_2 4 rfl rfl)
abbrev cX7_tolls : ByteArray := prog_11_method_119_code
def yX7_tolls : MethodName := ⟨RX7, "tolls", "()I"⟩
def dkwX7_tolls_1 : List UInt8 := [42, 180, 0, 13, 7, 28, 96, 46, 167, 0, 4, 3, 96, 60, 132, 2, 1, 167, 255, 219, 27, 172]
abbrev dktX7_tolls_1 : List UInt8 := dkwX7_tolls_1 ++ []
def dkwX7_tolls_0 : List UInt8 := [3, 60, 3, 61, 28, 42, 182, 0, 80, 162, 0, 35, 27, 42, 180, 0, 120, 28, 184, 0, 99, 153, 0, 14]
abbrev dktX7_tolls_0 : List UInt8 := dkwX7_tolls_0 ++ dktX7_tolls_1
theorem dksX7_tolls_0 : cX7_tolls.data.toList.drop 0 = dktX7_tolls_0 := by decide +kernel
theorem dksX7_tolls_1 : cX7_tolls.data.toList.drop 24 = dktX7_tolls_1 := dk_seg dksX7_tolls_0 24 rfl rfl
theorem dX7_tolls_0 : decode cX7_tolls 0 = .ok (.iconst 0, 1) := dk_3 (dk_at dksX7_tolls_0 0 rfl rfl)
theorem dX7_tolls_1 : decode cX7_tolls 1 = .ok (.istore_n 1, 1) := dk_60 (dk_at dksX7_tolls_0 1 rfl rfl)
theorem dX7_tolls_2 : decode cX7_tolls 2 = .ok (.iconst 0, 1) := dk_3 (dk_at dksX7_tolls_0 2 rfl rfl)
theorem dX7_tolls_3 : decode cX7_tolls 3 = .ok (.istore_n 2, 1) := dk_61 (dk_at dksX7_tolls_0 3 rfl rfl)
theorem dX7_tolls_4 : decode cX7_tolls 4 = .ok (.iload_n 2, 1) := dk_28 (dk_at dksX7_tolls_0 4 rfl rfl)
theorem dX7_tolls_5 : decode cX7_tolls 5 = .ok (.aload_n 0, 1) := dk_42 (dk_at dksX7_tolls_0 5 rfl rfl)
theorem dX7_tolls_6 : decode cX7_tolls 6 = .ok (.invokevirtual 80, 3) := dk_182 0 80 (dk_at dksX7_tolls_0 6 rfl rfl)
theorem dX7_tolls_9 : decode cX7_tolls 9 = .ok (.if_icmp .ge 35, 3) := dk_162 0 35 (dk_at dksX7_tolls_0 9 rfl rfl)
theorem dX7_tolls_12 : decode cX7_tolls 12 = .ok (.iload_n 1, 1) := dk_27 (dk_at dksX7_tolls_0 12 rfl rfl)
theorem dX7_tolls_13 : decode cX7_tolls 13 = .ok (.aload_n 0, 1) := dk_42 (dk_at dksX7_tolls_0 13 rfl rfl)
theorem dX7_tolls_14 : decode cX7_tolls 14 = .ok (.getfield 120, 3) := dk_180 0 120 (dk_at dksX7_tolls_0 14 rfl rfl)
theorem dX7_tolls_17 : decode cX7_tolls 17 = .ok (.iload_n 2, 1) := dk_28 (dk_at dksX7_tolls_0 17 rfl rfl)
theorem dX7_tolls_18 : decode cX7_tolls 18 = .ok (.invokestatic 99, 3) := dk_184 0 99 (dk_at dksX7_tolls_0 18 rfl rfl)
theorem dX7_tolls_21 : decode cX7_tolls 21 = .ok (.ifCond .eq 14, 3) := dk_153 0 14 (dk_at dksX7_tolls_0 21 rfl rfl)
theorem dX7_tolls_24 : decode cX7_tolls 24 = .ok (.aload_n 0, 1) := dk_42 (dk_at dksX7_tolls_1 0 rfl rfl)
theorem dX7_tolls_25 : decode cX7_tolls 25 = .ok (.getfield 13, 3) := dk_180 0 13 (dk_at dksX7_tolls_1 1 rfl rfl)
theorem dX7_tolls_28 : decode cX7_tolls 28 = .ok (.iconst 4, 1) := dk_7 (dk_at dksX7_tolls_1 4 rfl rfl)
theorem dX7_tolls_29 : decode cX7_tolls 29 = .ok (.iload_n 2, 1) := dk_28 (dk_at dksX7_tolls_1 5 rfl rfl)
theorem dX7_tolls_30 : decode cX7_tolls 30 = .ok (.iadd, 1) := dk_96 (dk_at dksX7_tolls_1 6 rfl rfl)
theorem dX7_tolls_31 : decode cX7_tolls 31 = .ok (.iaload, 1) := dk_46 (dk_at dksX7_tolls_1 7 rfl rfl)
theorem dX7_tolls_32 : decode cX7_tolls 32 = .ok (.goto 4, 3) := dk_167 0 4 (dk_at dksX7_tolls_1 8 rfl rfl)
theorem dX7_tolls_35 : decode cX7_tolls 35 = .ok (.iconst 0, 1) := dk_3 (dk_at dksX7_tolls_1 11 rfl rfl)
theorem dX7_tolls_36 : decode cX7_tolls 36 = .ok (.iadd, 1) := dk_96 (dk_at dksX7_tolls_1 12 rfl rfl)
theorem dX7_tolls_37 : decode cX7_tolls 37 = .ok (.istore_n 1, 1) := dk_60 (dk_at dksX7_tolls_1 13 rfl rfl)
theorem dX7_tolls_38 : decode cX7_tolls 38 = .ok (.iinc 2 1, 3) := dk_132 2 1 (dk_at dksX7_tolls_1 14 rfl rfl)
theorem dX7_tolls_41 : decode cX7_tolls 41 = .ok (.goto (-37), 3) := dk_167 255 219 (dk_at dksX7_tolls_1 17 rfl rfl)
theorem dX7_tolls_44 : decode cX7_tolls 44 = .ok (.iload_n 1, 1) := dk_27 (dk_at dksX7_tolls_1 20 rfl rfl)
theorem dX7_tolls_45 : decode cX7_tolls 45 = .ok (.ireturn, 1) := dk_172 (dk_at dksX7_tolls_1 21 rfl rfl)
abbrev cX7_spareOnes : ByteArray := prog_11_method_103_code
def yX7_spareOnes : MethodName := ⟨RX7, "spareOnes", "()I"⟩
def dkwX7_spareOnes_2 : List UInt8 := [96, 60, 132, 2, 1, 167, 255, 207, 27, 172]
abbrev dktX7_spareOnes_2 : List UInt8 := dkwX7_spareOnes_2 ++ []
def dkwX7_spareOnes_1 : List UInt8 := [28, 182, 1, 122, 27, 42, 180, 1, 113, 154, 0, 14, 42, 180, 1, 116, 154, 0, 7, 4, 167, 0, 4, 3]
abbrev dktX7_spareOnes_1 : List UInt8 := dkwX7_spareOnes_1 ++ dktX7_spareOnes_2
def dkwX7_spareOnes_0 : List UInt8 := [3, 60, 3, 61, 28, 42, 182, 0, 88, 162, 0, 47, 42, 28, 182, 0, 91, 154, 0, 6, 167, 0, 30, 42]
abbrev dktX7_spareOnes_0 : List UInt8 := dkwX7_spareOnes_0 ++ dktX7_spareOnes_1
theorem dksX7_spareOnes_0 : cX7_spareOnes.data.toList.drop 0 = dktX7_spareOnes_0 := by decide +kernel
theorem dksX7_spareOnes_1 : cX7_spareOnes.data.toList.drop 24 = dktX7_spareOnes_1 := dk_seg dksX7_spareOnes_0 24 rfl rfl
theorem dksX7_spareOnes_2 : cX7_spareOnes.data.toList.drop 48 = dktX7_spareOnes_2 := dk_seg dksX7_spareOnes_1 24 rfl rfl
theorem dX7_spareOnes_0 : decode cX7_spareOnes 0 = .ok (.iconst 0, 1) := dk_3 (dk_at dksX7_spareOnes_0 0 rfl rfl)
theorem dX7_spareOnes_1 : decode cX7_spareOnes 1 = .ok (.istore_n 1, 1) := dk_60 (dk_at dksX7_spareOnes_0 1 rfl rfl)
theorem dX7_spareOnes_2 : decode cX7_spareOnes 2 = .ok (.iconst 0, 1) := dk_3 (dk_at dksX7_spareOnes_0 2 rfl rfl)
theorem dX7_spareOnes_3 : decode cX7_spareOnes 3 = .ok (.istore_n 2, 1) := dk_61 (dk_at dksX7_spareOnes_0 3 rfl rfl)
theorem dX7_spareOnes_4 : decode cX7_spareOnes 4 = .ok (.iload_n 2, 1) := dk_28 (dk_at dksX7_spareOnes_0 4 rfl rfl)
theorem dX7_spareOnes_5 : decode cX7_spareOnes 5 = .ok (.aload_n 0, 1) := dk_42 (dk_at dksX7_spareOnes_0 5 rfl rfl)
theorem dX7_spareOnes_6 : decode cX7_spareOnes 6 = .ok (.invokevirtual 88, 3) := dk_182 0 88 (dk_at dksX7_spareOnes_0 6 rfl rfl)
theorem dX7_spareOnes_9 : decode cX7_spareOnes 9 = .ok (.if_icmp .ge 47, 3) := dk_162 0 47 (dk_at dksX7_spareOnes_0 9 rfl rfl)
theorem dX7_spareOnes_12 : decode cX7_spareOnes 12 = .ok (.aload_n 0, 1) := dk_42 (dk_at dksX7_spareOnes_0 12 rfl rfl)
theorem dX7_spareOnes_13 : decode cX7_spareOnes 13 = .ok (.iload_n 2, 1) := dk_28 (dk_at dksX7_spareOnes_0 13 rfl rfl)
theorem dX7_spareOnes_14 : decode cX7_spareOnes 14 = .ok (.invokevirtual 91, 3) := dk_182 0 91 (dk_at dksX7_spareOnes_0 14 rfl rfl)
theorem dX7_spareOnes_17 : decode cX7_spareOnes 17 = .ok (.ifCond .ne 6, 3) := dk_154 0 6 (dk_at dksX7_spareOnes_0 17 rfl rfl)
theorem dX7_spareOnes_20 : decode cX7_spareOnes 20 = .ok (.goto 30, 3) := dk_167 0 30 (dk_at dksX7_spareOnes_0 20 rfl rfl)
theorem dX7_spareOnes_23 : decode cX7_spareOnes 23 = .ok (.aload_n 0, 1) := dk_42 (dk_at dksX7_spareOnes_0 23 rfl rfl)
theorem dX7_spareOnes_24 : decode cX7_spareOnes 24 = .ok (.iload_n 2, 1) := dk_28 (dk_at dksX7_spareOnes_1 0 rfl rfl)
theorem dX7_spareOnes_25 : decode cX7_spareOnes 25 = .ok (.invokevirtual 378, 3) := dk_182 1 122 (dk_at dksX7_spareOnes_1 1 rfl rfl)
theorem dX7_spareOnes_28 : decode cX7_spareOnes 28 = .ok (.iload_n 1, 1) := dk_27 (dk_at dksX7_spareOnes_1 4 rfl rfl)
theorem dX7_spareOnes_29 : decode cX7_spareOnes 29 = .ok (.aload_n 0, 1) := dk_42 (dk_at dksX7_spareOnes_1 5 rfl rfl)
theorem dX7_spareOnes_30 : decode cX7_spareOnes 30 = .ok (.getfield 369, 3) := dk_180 1 113 (dk_at dksX7_spareOnes_1 6 rfl rfl)
theorem dX7_spareOnes_33 : decode cX7_spareOnes 33 = .ok (.ifCond .ne 14, 3) := dk_154 0 14 (dk_at dksX7_spareOnes_1 9 rfl rfl)
theorem dX7_spareOnes_36 : decode cX7_spareOnes 36 = .ok (.aload_n 0, 1) := dk_42 (dk_at dksX7_spareOnes_1 12 rfl rfl)
theorem dX7_spareOnes_37 : decode cX7_spareOnes 37 = .ok (.getfield 372, 3) := dk_180 1 116 (dk_at dksX7_spareOnes_1 13 rfl rfl)
theorem dX7_spareOnes_40 : decode cX7_spareOnes 40 = .ok (.ifCond .ne 7, 3) := dk_154 0 7 (dk_at dksX7_spareOnes_1 16 rfl rfl)
theorem dX7_spareOnes_43 : decode cX7_spareOnes 43 = .ok (.iconst 1, 1) := dk_4 (dk_at dksX7_spareOnes_1 19 rfl rfl)
theorem dX7_spareOnes_44 : decode cX7_spareOnes 44 = .ok (.goto 4, 3) := dk_167 0 4 (dk_at dksX7_spareOnes_1 20 rfl rfl)
theorem dX7_spareOnes_47 : decode cX7_spareOnes 47 = .ok (.iconst 0, 1) := dk_3 (dk_at dksX7_spareOnes_1 23 rfl rfl)
theorem dX7_spareOnes_48 : decode cX7_spareOnes 48 = .ok (.iadd, 1) := dk_96 (dk_at dksX7_spareOnes_2 0 rfl rfl)
theorem dX7_spareOnes_49 : decode cX7_spareOnes 49 = .ok (.istore_n 1, 1) := dk_60 (dk_at dksX7_spareOnes_2 1 rfl rfl)
theorem dX7_spareOnes_50 : decode cX7_spareOnes 50 = .ok (.iinc 2 1, 3) := dk_132 2 1 (dk_at dksX7_spareOnes_2 2 rfl rfl)
theorem dX7_spareOnes_53 : decode cX7_spareOnes 53 = .ok (.goto (-49), 3) := dk_167 255 207 (dk_at dksX7_spareOnes_2 5 rfl rfl)
theorem dX7_spareOnes_56 : decode cX7_spareOnes 56 = .ok (.iload_n 1, 1) := dk_27 (dk_at dksX7_spareOnes_2 8 rfl rfl)
theorem dX7_spareOnes_57 : decode cX7_spareOnes 57 = .ok (.ireturn, 1) := dk_172 (dk_at dksX7_spareOnes_2 9 rfl rfl)
theorem q180 : (Jvm.Cond.initialized "GateLifterModel") ∈ lw_all := lw_g (lw_at lw_m1 17 rfl) rfl
theorem q1699 : (Jvm.Cond.instanceMethod ({ cls := "GateLifterModel", name := "thrown", desc := "()I" } : Jvm.MethodName)) ∈ lw_all := lw_g (lw_at lw_m7 96 rfl) rfl
theorem q1700 : (Jvm.Cond.selects "GateLifterModel" ({ cls := "GateLifterModel", name := "thrown", desc := "()I" } : Jvm.MethodName) ({ cls := "GateLifterModel", name := "thrown", desc := "()I" } : Jvm.MethodName)) ∈ lw_all := lw_g (lw_at lw_m7 97 rfl) rfl
theorem q1701 : (Jvm.Cond.code ({ cls := "GateLifterModel", name := "thrown", desc := "()I" } : Jvm.MethodName) prog_11_method_1_code (1 : Nat) (Option.some Jvm.ClassFile.FieldType.int)) ∈ lw_all := lw_g (lw_at lw_m7 98 rfl) rfl
theorem q1703 : (Jvm.Cond.instantiable "GateLifterModel" (42 : Nat)) ∈ lw_all := lw_g (lw_at lw_m7 100 rfl) rfl
theorem q1705 : (Jvm.Cond.instanceMethod ({ cls := "GateLifterModel", name := "<init>", desc := "()V" } : Jvm.MethodName)) ∈ lw_all := lw_g (lw_at lw_m7 102 rfl) rfl
theorem q1706 : (Jvm.Cond.code ({ cls := "GateLifterModel", name := "<init>", desc := "()V" } : Jvm.MethodName) prog_11_method_6_code (1 : Nat) (Option.none : Option Jvm.ClassFile.FieldType)) ∈ lw_all := lw_g (lw_at lw_m7 103 rfl) rfl
theorem q1707 : (Jvm.Cond.methodLink "GateLifterModel" (7 : Nat) ({ cls := "java/lang/Object", name := "<init>", desc := "()V" } : Jvm.MethodName)) ∈ lw_all := lw_g (lw_at lw_m7 104 rfl) rfl
theorem q1708 : (Jvm.Cond.methodLink "GateLifterModel" (76 : Nat) ({ cls := "GateLifterModel", name := "isFresh", desc := "(I)V" } : Jvm.MethodName)) ∈ lw_all := lw_g (lw_at lw_m7 105 rfl) rfl
theorem q1709 : (Jvm.Cond.privateMethod ({ cls := "GateLifterModel", name := "isFresh", desc := "(I)V" } : Jvm.MethodName)) ∈ lw_tbl := lw_at lw_m7 106 rfl
theorem q1710 : (Jvm.Cond.instanceMethod ({ cls := "GateLifterModel", name := "isFresh", desc := "(I)V" } : Jvm.MethodName)) ∈ lw_all := lw_g (lw_at lw_m7 107 rfl) rfl
theorem q1711 : (Jvm.Cond.code ({ cls := "GateLifterModel", name := "isFresh", desc := "(I)V" } : Jvm.MethodName) prog_11_method_8_code (3 : Nat) (Option.none : Option Jvm.ClassFile.FieldType)) ∈ lw_all := lw_g (lw_at lw_m7 108 rfl) rfl
theorem q1712 : (Jvm.Cond.fieldLink "GateLifterModel" (1 : Nat) "GateLifterModel" "thrown" "I") ∈ lw_all := lw_g (lw_at lw_m7 109 rfl) rfl
theorem q1713 : (Jvm.Cond.fieldLink "GateLifterModel" (13 : Nat) "GateLifterModel" "world" "[I") ∈ lw_all := lw_g (lw_at lw_m7 110 rfl) rfl
theorem q1714 : (Jvm.Cond.fieldLink "GateLifterModel" (17 : Nat) "GateLifterModel" "image" "[I") ∈ lw_all := lw_g (lw_at lw_m7 111 rfl) rfl
theorem q1715 : (Jvm.Cond.fieldLink "GateLifterModel" (20 : Nat) "GateLifterModel" "draft" "[I") ∈ lw_all := lw_g (lw_at lw_m7 112 rfl) rfl
theorem q1716 : (Jvm.Cond.fieldLink "GateLifterModel" (23 : Nat) "GateLifterModel" "earlier" "[I") ∈ lw_all := lw_g (lw_at lw_m7 113 rfl) rfl
theorem q1717 : (Jvm.Cond.fieldLink "GateLifterModel" (144 : Nat) "GateLifterModel" "remembered" "I") ∈ lw_all := lw_g (lw_at lw_m7 114 rfl) rfl
theorem q1718 : (Jvm.Cond.fieldLink "GateLifterModel" (154 : Nat) "GateLifterModel" "why" "I") ∈ lw_all := lw_g (lw_at lw_m7 115 rfl) rfl
theorem q1719 : (Jvm.Cond.fieldLink "GateLifterModel" (167 : Nat) "GateLifterModel" "hasImage" "Z") ∈ lw_all := lw_g (lw_at lw_m7 116 rfl) rfl
theorem q1720 : (Jvm.Cond.fieldLink "GateLifterModel" (26 : Nat) "GateLifterModel" "moreFrom" "I") ∈ lw_all := lw_g (lw_at lw_m7 117 rfl) rfl
theorem q1721 : (Jvm.Cond.fieldLink "GateLifterModel" (106 : Nat) "GateLifterModel" "moreTo" "I") ∈ lw_all := lw_g (lw_at lw_m7 118 rfl) rfl
theorem q1722 : (Jvm.Cond.fieldLink "GateLifterModel" (29 : Nat) "GateLifterModel" "lessArc" "I") ∈ lw_all := lw_g (lw_at lw_m7 119 rfl) rfl
theorem q1723 : (Jvm.Cond.fieldLink "GateLifterModel" (120 : Nat) "GateLifterModel" "reached" "I") ∈ lw_all := lw_g (lw_at lw_m7 120 rfl) rfl
theorem q1724 : (Jvm.Cond.fieldLink "GateLifterModel" (32 : Nat) "GateLifterModel" "gates" "[I") ∈ lw_all := lw_g (lw_at lw_m7 121 rfl) rfl
theorem q1725 : (Jvm.Cond.fieldLink "GateLifterModel" (35 : Nat) "GateLifterModel" "depth" "[I") ∈ lw_all := lw_g (lw_at lw_m7 122 rfl) rfl
theorem q1726 : (Jvm.Cond.fieldLink "GateLifterModel" (38 : Nat) "GateLifterModel" "keeper" "[I") ∈ lw_all := lw_g (lw_at lw_m7 123 rfl) rfl
theorem q1727 : (Jvm.Cond.fieldLink "GateLifterModel" (129 : Nat) "GateLifterModel" "wasReached" "I") ∈ lw_all := lw_g (lw_at lw_m7 124 rfl) rfl
theorem q1728 : (Jvm.Cond.fieldLink "GateLifterModel" (132 : Nat) "GateLifterModel" "gained" "I") ∈ lw_all := lw_g (lw_at lw_m7 125 rfl) rfl
theorem q1729 : (Jvm.Cond.fieldLink "GateLifterModel" (135 : Nat) "GateLifterModel" "lost" "I") ∈ lw_all := lw_g (lw_at lw_m7 126 rfl) rfl
theorem q1730 : (Jvm.Cond.fieldLink "GateLifterModel" (138 : Nat) "GateLifterModel" "moved" "I") ∈ lw_all := lw_g (lw_at lw_m7 127 rfl) rfl
theorem q1731 : (Jvm.Cond.fieldLink "GateLifterModel" (141 : Nat) "GateLifterModel" "lift" "I") ∈ lw_all := lw_g (lw_at lw_m7 128 rfl) rfl
theorem q1732 : (Jvm.Cond.fieldLink "GateLifterModel" (41 : Nat) "GateLifterModel" "wasDepth" "[I") ∈ lw_all := lw_g (lw_at lw_m7 129 rfl) rfl
theorem q1733 : (Jvm.Cond.fieldLink "GateLifterModel" (44 : Nat) "GateLifterModel" "wasKeeper" "[I") ∈ lw_all := lw_g (lw_at lw_m7 130 rfl) rfl
theorem q1734 : (Jvm.Cond.fieldLink "GateLifterModel" (47 : Nat) "GateLifterModel" "tape" "[B") ∈ lw_all := lw_g (lw_at lw_m7 131 rfl) rfl
theorem q1735 : (Jvm.Cond.fieldLink "GateLifterModel" (198 : Nat) "GateLifterModel" "taped" "I") ∈ lw_all := lw_g (lw_at lw_m7 132 rfl) rfl
theorem q1736 : (Jvm.Cond.fieldLink "GateLifterModel" (201 : Nat) "GateLifterModel" "point" "I") ∈ lw_all := lw_g (lw_at lw_m7 133 rfl) rfl
theorem q1737 : (Jvm.Cond.fieldLink "GateLifterModel" (204 : Nat) "GateLifterModel" "end" "I") ∈ lw_all := lw_g (lw_at lw_m7 134 rfl) rfl
theorem q1738 : (Jvm.Cond.fieldLink "GateLifterModel" (210 : Nat) "GateLifterModel" "begin" "I") ∈ lw_all := lw_g (lw_at lw_m7 135 rfl) rfl
theorem q1739 : (Jvm.Cond.fieldLink "GateLifterModel" (51 : Nat) "GateLifterModel" "faultAt" "I") ∈ lw_all := lw_g (lw_at lw_m7 136 rfl) rfl
theorem q1740 : (Jvm.Cond.fieldLink "GateLifterModel" (235 : Nat) "GateLifterModel" "whyTold" "I") ∈ lw_all := lw_g (lw_at lw_m7 137 rfl) rfl
theorem q1741 : (Jvm.Cond.fieldLink "GateLifterModel" (54 : Nat) "GateLifterModel" "five" "[I") ∈ lw_all := lw_g (lw_at lw_m7 138 rfl) rfl
theorem q1742 : (Jvm.Cond.fieldLink "GateLifterModel" (57 : Nat) "GateLifterModel" "told" "[I") ∈ lw_all := lw_g (lw_at lw_m7 139 rfl) rfl
theorem q1743 : (Jvm.Cond.fieldLink "GateLifterModel" (267 : Nat) "GateLifterModel" "acts" "I") ∈ lw_all := lw_g (lw_at lw_m7 140 rfl) rfl
theorem q1744 : (Jvm.Cond.fieldLink "GateLifterModel" (60 : Nat) "GateLifterModel" "flow" "[I") ∈ lw_all := lw_g (lw_at lw_m7 141 rfl) rfl
theorem q1745 : (Jvm.Cond.fieldLink "GateLifterModel" (63 : Nat) "GateLifterModel" "cameBy" "[I") ∈ lw_all := lw_g (lw_at lw_m7 142 rfl) rfl
theorem q1746 : (Jvm.Cond.fieldLink "GateLifterModel" (66 : Nat) "GateLifterModel" "fares" "[I") ∈ lw_all := lw_g (lw_at lw_m7 143 rfl) rfl
theorem q1747 : (Jvm.Cond.fieldLink "GateLifterModel" (69 : Nat) "GateLifterModel" "passes" "[Z") ∈ lw_all := lw_g (lw_at lw_m7 144 rfl) rfl
theorem q1748 : (Jvm.Cond.fieldLink "GateLifterModel" (366 : Nat) "GateLifterModel" "newGained" "I") ∈ lw_all := lw_g (lw_at lw_m7 145 rfl) rfl
theorem q1749 : (Jvm.Cond.fieldLink "GateLifterModel" (369 : Nat) "GateLifterModel" "newLost" "I") ∈ lw_all := lw_g (lw_at lw_m7 146 rfl) rfl
theorem q1750 : (Jvm.Cond.fieldLink "GateLifterModel" (372 : Nat) "GateLifterModel" "newMoved" "I") ∈ lw_all := lw_g (lw_at lw_m7 147 rfl) rfl
theorem q1751 : (Jvm.Cond.fieldLink "GateLifterModel" (375 : Nat) "GateLifterModel" "newLift" "I") ∈ lw_all := lw_g (lw_at lw_m7 148 rfl) rfl
theorem q1752 : (Jvm.Cond.fieldLink "GateLifterModel" (73 : Nat) "GateLifterModel" "written" "[B") ∈ lw_all := lw_g (lw_at lw_m7 149 rfl) rfl
theorem q1753 : (Jvm.Cond.fieldLink "GateLifterModel" (385 : Nat) "GateLifterModel" "writtenMany" "I") ∈ lw_all := lw_g (lw_at lw_m7 150 rfl) rfl
theorem q1754 : (Jvm.Cond.lays "GateLifterModel" "GateLifterModel" "thrown" "I") ∈ lw_all := lw_g (lw_at lw_m7 151 rfl) rfl
theorem q1755 : (Jvm.Cond.soleField "GateLifterModel" "thrown") ∈ lw_all := lw_g (lw_at lw_m7 152 rfl) rfl
theorem q1756 : (Jvm.Cond.laysFinal "GateLifterModel" "GateLifterModel" "world" "[I") ∈ lw_all := lw_g (lw_at lw_m7 153 rfl) rfl
theorem q1757 : (Jvm.Cond.soleField "GateLifterModel" "world") ∈ lw_all := lw_g (lw_at lw_m7 154 rfl) rfl
theorem q1758 : (Jvm.Cond.laysFinal "GateLifterModel" "GateLifterModel" "image" "[I") ∈ lw_all := lw_g (lw_at lw_m7 155 rfl) rfl
theorem q1759 : (Jvm.Cond.soleField "GateLifterModel" "image") ∈ lw_all := lw_g (lw_at lw_m7 156 rfl) rfl
theorem q1760 : (Jvm.Cond.laysFinal "GateLifterModel" "GateLifterModel" "draft" "[I") ∈ lw_all := lw_g (lw_at lw_m7 157 rfl) rfl
theorem q1761 : (Jvm.Cond.soleField "GateLifterModel" "draft") ∈ lw_all := lw_g (lw_at lw_m7 158 rfl) rfl
theorem q1762 : (Jvm.Cond.laysFinal "GateLifterModel" "GateLifterModel" "earlier" "[I") ∈ lw_all := lw_g (lw_at lw_m7 159 rfl) rfl
theorem q1763 : (Jvm.Cond.soleField "GateLifterModel" "earlier") ∈ lw_all := lw_g (lw_at lw_m7 160 rfl) rfl
theorem q1764 : (Jvm.Cond.lays "GateLifterModel" "GateLifterModel" "remembered" "I") ∈ lw_all := lw_g (lw_at lw_m7 161 rfl) rfl
theorem q1765 : (Jvm.Cond.soleField "GateLifterModel" "remembered") ∈ lw_all := lw_g (lw_at lw_m7 162 rfl) rfl
theorem q1766 : (Jvm.Cond.lays "GateLifterModel" "GateLifterModel" "why" "I") ∈ lw_all := lw_g (lw_at lw_m7 163 rfl) rfl
theorem q1767 : (Jvm.Cond.soleField "GateLifterModel" "why") ∈ lw_all := lw_g (lw_at lw_m7 164 rfl) rfl
theorem q1768 : (Jvm.Cond.lays "GateLifterModel" "GateLifterModel" "hasImage" "Z") ∈ lw_all := lw_g (lw_at lw_m7 165 rfl) rfl
theorem q1769 : (Jvm.Cond.soleField "GateLifterModel" "hasImage") ∈ lw_all := lw_g (lw_at lw_m7 166 rfl) rfl
theorem q1770 : (Jvm.Cond.lays "GateLifterModel" "GateLifterModel" "moreFrom" "I") ∈ lw_all := lw_g (lw_at lw_m7 167 rfl) rfl
theorem q1771 : (Jvm.Cond.soleField "GateLifterModel" "moreFrom") ∈ lw_all := lw_g (lw_at lw_m7 168 rfl) rfl
theorem q1772 : (Jvm.Cond.lays "GateLifterModel" "GateLifterModel" "moreTo" "I") ∈ lw_all := lw_g (lw_at lw_m7 169 rfl) rfl
theorem q1773 : (Jvm.Cond.soleField "GateLifterModel" "moreTo") ∈ lw_all := lw_g (lw_at lw_m7 170 rfl) rfl
theorem q1774 : (Jvm.Cond.lays "GateLifterModel" "GateLifterModel" "lessArc" "I") ∈ lw_all := lw_g (lw_at lw_m7 171 rfl) rfl
theorem q1775 : (Jvm.Cond.soleField "GateLifterModel" "lessArc") ∈ lw_all := lw_g (lw_at lw_m7 172 rfl) rfl
theorem q1776 : (Jvm.Cond.lays "GateLifterModel" "GateLifterModel" "reached" "I") ∈ lw_all := lw_g (lw_at lw_m7 173 rfl) rfl
theorem q1777 : (Jvm.Cond.soleField "GateLifterModel" "reached") ∈ lw_all := lw_g (lw_at lw_m7 174 rfl) rfl
theorem q1778 : (Jvm.Cond.laysFinal "GateLifterModel" "GateLifterModel" "gates" "[I") ∈ lw_all := lw_g (lw_at lw_m7 175 rfl) rfl
theorem q1779 : (Jvm.Cond.soleField "GateLifterModel" "gates") ∈ lw_all := lw_g (lw_at lw_m7 176 rfl) rfl
theorem q1780 : (Jvm.Cond.laysFinal "GateLifterModel" "GateLifterModel" "depth" "[I") ∈ lw_all := lw_g (lw_at lw_m7 177 rfl) rfl
theorem q1781 : (Jvm.Cond.soleField "GateLifterModel" "depth") ∈ lw_all := lw_g (lw_at lw_m7 178 rfl) rfl
theorem q1782 : (Jvm.Cond.laysFinal "GateLifterModel" "GateLifterModel" "keeper" "[I") ∈ lw_all := lw_g (lw_at lw_m7 179 rfl) rfl
theorem q1783 : (Jvm.Cond.soleField "GateLifterModel" "keeper") ∈ lw_all := lw_g (lw_at lw_m7 180 rfl) rfl
theorem q1784 : (Jvm.Cond.lays "GateLifterModel" "GateLifterModel" "wasReached" "I") ∈ lw_all := lw_g (lw_at lw_m7 181 rfl) rfl
theorem q1785 : (Jvm.Cond.soleField "GateLifterModel" "wasReached") ∈ lw_all := lw_g (lw_at lw_m7 182 rfl) rfl
theorem q1786 : (Jvm.Cond.lays "GateLifterModel" "GateLifterModel" "gained" "I") ∈ lw_all := lw_g (lw_at lw_m7 183 rfl) rfl
theorem q1787 : (Jvm.Cond.soleField "GateLifterModel" "gained") ∈ lw_all := lw_g (lw_at lw_m7 184 rfl) rfl
theorem q1788 : (Jvm.Cond.lays "GateLifterModel" "GateLifterModel" "lost" "I") ∈ lw_all := lw_g (lw_at lw_m7 185 rfl) rfl
theorem q1789 : (Jvm.Cond.soleField "GateLifterModel" "lost") ∈ lw_all := lw_g (lw_at lw_m7 186 rfl) rfl
theorem q1790 : (Jvm.Cond.lays "GateLifterModel" "GateLifterModel" "moved" "I") ∈ lw_all := lw_g (lw_at lw_m7 187 rfl) rfl
theorem q1791 : (Jvm.Cond.soleField "GateLifterModel" "moved") ∈ lw_all := lw_g (lw_at lw_m7 188 rfl) rfl
theorem q1792 : (Jvm.Cond.lays "GateLifterModel" "GateLifterModel" "lift" "I") ∈ lw_all := lw_g (lw_at lw_m7 189 rfl) rfl
theorem q1793 : (Jvm.Cond.soleField "GateLifterModel" "lift") ∈ lw_all := lw_g (lw_at lw_m7 190 rfl) rfl
theorem q1794 : (Jvm.Cond.laysFinal "GateLifterModel" "GateLifterModel" "wasDepth" "[I") ∈ lw_all := lw_g (lw_at lw_m7 191 rfl) rfl
theorem q1795 : (Jvm.Cond.soleField "GateLifterModel" "wasDepth") ∈ lw_all := lw_g (lw_at lw_m7 192 rfl) rfl
theorem q1796 : (Jvm.Cond.laysFinal "GateLifterModel" "GateLifterModel" "wasKeeper" "[I") ∈ lw_all := lw_g (lw_at lw_m7 193 rfl) rfl
theorem q1797 : (Jvm.Cond.soleField "GateLifterModel" "wasKeeper") ∈ lw_all := lw_g (lw_at lw_m7 194 rfl) rfl
theorem q1798 : (Jvm.Cond.laysFinal "GateLifterModel" "GateLifterModel" "tape" "[B") ∈ lw_all := lw_g (lw_at lw_m7 195 rfl) rfl
theorem q1799 : (Jvm.Cond.soleField "GateLifterModel" "tape") ∈ lw_all := lw_g (lw_at lw_m7 196 rfl) rfl
theorem q1800 : (Jvm.Cond.lays "GateLifterModel" "GateLifterModel" "taped" "I") ∈ lw_all := lw_g (lw_at lw_m7 197 rfl) rfl
theorem q1801 : (Jvm.Cond.soleField "GateLifterModel" "taped") ∈ lw_all := lw_g (lw_at lw_m7 198 rfl) rfl
theorem q1802 : (Jvm.Cond.lays "GateLifterModel" "GateLifterModel" "point" "I") ∈ lw_all := lw_g (lw_at lw_m7 199 rfl) rfl
theorem q1803 : (Jvm.Cond.soleField "GateLifterModel" "point") ∈ lw_all := lw_g (lw_at lw_m7 200 rfl) rfl
theorem q1804 : (Jvm.Cond.lays "GateLifterModel" "GateLifterModel" "end" "I") ∈ lw_all := lw_g (lw_at lw_m7 201 rfl) rfl
theorem q1805 : (Jvm.Cond.soleField "GateLifterModel" "end") ∈ lw_all := lw_g (lw_at lw_m7 202 rfl) rfl
theorem q1806 : (Jvm.Cond.lays "GateLifterModel" "GateLifterModel" "begin" "I") ∈ lw_all := lw_g (lw_at lw_m7 203 rfl) rfl
theorem q1807 : (Jvm.Cond.soleField "GateLifterModel" "begin") ∈ lw_all := lw_g (lw_at lw_m7 204 rfl) rfl
theorem q1808 : (Jvm.Cond.lays "GateLifterModel" "GateLifterModel" "faultAt" "I") ∈ lw_all := lw_g (lw_at lw_m7 205 rfl) rfl
theorem q1809 : (Jvm.Cond.soleField "GateLifterModel" "faultAt") ∈ lw_all := lw_g (lw_at lw_m7 206 rfl) rfl
theorem q1810 : (Jvm.Cond.lays "GateLifterModel" "GateLifterModel" "whyTold" "I") ∈ lw_all := lw_g (lw_at lw_m7 207 rfl) rfl
theorem q1811 : (Jvm.Cond.soleField "GateLifterModel" "whyTold") ∈ lw_all := lw_g (lw_at lw_m7 208 rfl) rfl
theorem q1812 : (Jvm.Cond.laysFinal "GateLifterModel" "GateLifterModel" "five" "[I") ∈ lw_all := lw_g (lw_at lw_m7 209 rfl) rfl
theorem q1813 : (Jvm.Cond.soleField "GateLifterModel" "five") ∈ lw_all := lw_g (lw_at lw_m7 210 rfl) rfl
theorem q1814 : (Jvm.Cond.laysFinal "GateLifterModel" "GateLifterModel" "told" "[I") ∈ lw_all := lw_g (lw_at lw_m7 211 rfl) rfl
theorem q1815 : (Jvm.Cond.soleField "GateLifterModel" "told") ∈ lw_all := lw_g (lw_at lw_m7 212 rfl) rfl
theorem q1816 : (Jvm.Cond.lays "GateLifterModel" "GateLifterModel" "acts" "I") ∈ lw_all := lw_g (lw_at lw_m7 213 rfl) rfl
theorem q1817 : (Jvm.Cond.soleField "GateLifterModel" "acts") ∈ lw_all := lw_g (lw_at lw_m7 214 rfl) rfl
theorem q1818 : (Jvm.Cond.laysFinal "GateLifterModel" "GateLifterModel" "flow" "[I") ∈ lw_all := lw_g (lw_at lw_m7 215 rfl) rfl
theorem q1819 : (Jvm.Cond.soleField "GateLifterModel" "flow") ∈ lw_all := lw_g (lw_at lw_m7 216 rfl) rfl
theorem q1820 : (Jvm.Cond.laysFinal "GateLifterModel" "GateLifterModel" "cameBy" "[I") ∈ lw_all := lw_g (lw_at lw_m7 217 rfl) rfl
theorem q1821 : (Jvm.Cond.soleField "GateLifterModel" "cameBy") ∈ lw_all := lw_g (lw_at lw_m7 218 rfl) rfl
theorem q1822 : (Jvm.Cond.laysFinal "GateLifterModel" "GateLifterModel" "fares" "[I") ∈ lw_all := lw_g (lw_at lw_m7 219 rfl) rfl
theorem q1823 : (Jvm.Cond.soleField "GateLifterModel" "fares") ∈ lw_all := lw_g (lw_at lw_m7 220 rfl) rfl
theorem q1824 : (Jvm.Cond.laysFinal "GateLifterModel" "GateLifterModel" "passes" "[Z") ∈ lw_all := lw_g (lw_at lw_m7 221 rfl) rfl
theorem q1825 : (Jvm.Cond.soleField "GateLifterModel" "passes") ∈ lw_all := lw_g (lw_at lw_m7 222 rfl) rfl
theorem q1826 : (Jvm.Cond.lays "GateLifterModel" "GateLifterModel" "newGained" "I") ∈ lw_all := lw_g (lw_at lw_m7 223 rfl) rfl
theorem q1827 : (Jvm.Cond.soleField "GateLifterModel" "newGained") ∈ lw_all := lw_g (lw_at lw_m7 224 rfl) rfl
theorem q1828 : (Jvm.Cond.lays "GateLifterModel" "GateLifterModel" "newLost" "I") ∈ lw_all := lw_g (lw_at lw_m7 225 rfl) rfl
theorem q1829 : (Jvm.Cond.soleField "GateLifterModel" "newLost") ∈ lw_all := lw_g (lw_at lw_m7 226 rfl) rfl
theorem q1830 : (Jvm.Cond.lays "GateLifterModel" "GateLifterModel" "newMoved" "I") ∈ lw_all := lw_g (lw_at lw_m7 227 rfl) rfl
theorem q1831 : (Jvm.Cond.soleField "GateLifterModel" "newMoved") ∈ lw_all := lw_g (lw_at lw_m7 228 rfl) rfl
theorem q1832 : (Jvm.Cond.lays "GateLifterModel" "GateLifterModel" "newLift" "I") ∈ lw_all := lw_g (lw_at lw_m7 229 rfl) rfl
theorem q1833 : (Jvm.Cond.soleField "GateLifterModel" "newLift") ∈ lw_all := lw_g (lw_at lw_m7 230 rfl) rfl
theorem q1834 : (Jvm.Cond.laysFinal "GateLifterModel" "GateLifterModel" "written" "[B") ∈ lw_all := lw_g (lw_at lw_m7 231 rfl) rfl
theorem q1835 : (Jvm.Cond.soleField "GateLifterModel" "written") ∈ lw_all := lw_g (lw_at lw_m7 232 rfl) rfl
theorem q1836 : (Jvm.Cond.lays "GateLifterModel" "GateLifterModel" "writtenMany" "I") ∈ lw_all := lw_g (lw_at lw_m7 233 rfl) rfl
theorem q1837 : (Jvm.Cond.soleField "GateLifterModel" "writtenMany") ∈ lw_all := lw_g (lw_at lw_m7 234 rfl) rfl
theorem q1838 : (Jvm.Cond.superclass "GateLifterModel" "java/lang/Object") ∈ lw_all := lw_g (lw_at lw_m7 235 rfl) rfl
theorem q1840 : (Jvm.Cond.instanceMethod ({ cls := "GateLifterModel", name := "undo", desc := "()I" } : Jvm.MethodName)) ∈ lw_all := lw_g (lw_at lw_m7 237 rfl) rfl
theorem q1841 : (Jvm.Cond.selects "GateLifterModel" ({ cls := "GateLifterModel", name := "undo", desc := "()I" } : Jvm.MethodName) ({ cls := "GateLifterModel", name := "undo", desc := "()I" } : Jvm.MethodName)) ∈ lw_all := lw_g (lw_at lw_m7 238 rfl) rfl
theorem q1842 : (Jvm.Cond.code ({ cls := "GateLifterModel", name := "undo", desc := "()I" } : Jvm.MethodName) prog_11_method_28_code (1 : Nat) (Option.some Jvm.ClassFile.FieldType.int)) ∈ lw_all := lw_g (lw_at lw_m7 239 rfl) rfl
theorem q1843 : (Jvm.Cond.methodLink "GateLifterModel" (157 : Nat) ({ cls := "GateLifterModel", name := "throwsIf", desc := "(ZI)Z" } : Jvm.MethodName)) ∈ lw_all := lw_g (lw_at lw_m8 0 rfl) rfl
theorem q1844 : (Jvm.Cond.privateMethod ({ cls := "GateLifterModel", name := "throwsIf", desc := "(ZI)Z" } : Jvm.MethodName)) ∈ lw_tbl := lw_at lw_m8 1 rfl
theorem q1845 : (Jvm.Cond.instanceMethod ({ cls := "GateLifterModel", name := "throwsIf", desc := "(ZI)Z" } : Jvm.MethodName)) ∈ lw_all := lw_g (lw_at lw_m8 2 rfl) rfl
theorem q1846 : (Jvm.Cond.code ({ cls := "GateLifterModel", name := "throwsIf", desc := "(ZI)Z" } : Jvm.MethodName) prog_11_method_2_code (3 : Nat) (Option.some Jvm.ClassFile.FieldType.boolean)) ∈ lw_all := lw_g (lw_at lw_m8 3 rfl) rfl
theorem q1847 : (Jvm.Cond.methodLink "GateLifterModel" (147 : Nat) ({ cls := "GateLifterModel", name := "copies", desc := "([II[II)V" } : Jvm.MethodName)) ∈ lw_all := lw_g (lw_at lw_m8 4 rfl) rfl
theorem q1848 : (Jvm.Cond.static ({ cls := "GateLifterModel", name := "copies", desc := "([II[II)V" } : Jvm.MethodName)) ∈ lw_all := lw_g (lw_at lw_m8 5 rfl) rfl
theorem q1849 : (Jvm.Cond.code ({ cls := "GateLifterModel", name := "copies", desc := "([II[II)V" } : Jvm.MethodName) prog_11_method_7_code (5 : Nat) (Option.none : Option Jvm.ClassFile.FieldType)) ∈ lw_all := lw_g (lw_at lw_m8 6 rfl) rfl
theorem q1850 : (Jvm.Cond.methodLink "GateLifterModel" (164 : Nat) ({ cls := "GateLifterModel", name := "hasNoLatest", desc := "()V" } : Jvm.MethodName)) ∈ lw_all := lw_g (lw_at lw_m8 7 rfl) rfl
theorem q1851 : (Jvm.Cond.privateMethod ({ cls := "GateLifterModel", name := "hasNoLatest", desc := "()V" } : Jvm.MethodName)) ∈ lw_tbl := lw_at lw_m8 8 rfl
theorem q1852 : (Jvm.Cond.instanceMethod ({ cls := "GateLifterModel", name := "hasNoLatest", desc := "()V" } : Jvm.MethodName)) ∈ lw_all := lw_g (lw_at lw_m8 9 rfl) rfl
theorem q1853 : (Jvm.Cond.code ({ cls := "GateLifterModel", name := "hasNoLatest", desc := "()V" } : Jvm.MethodName) prog_11_method_25_code (1 : Nat) (Option.none : Option Jvm.ClassFile.FieldType)) ∈ lw_all := lw_g (lw_at lw_m8 10 rfl) rfl
theorem q1855 : (Jvm.Cond.instanceMethod ({ cls := "GateLifterModel", name := "image", desc := "()V" } : Jvm.MethodName)) ∈ lw_all := lw_g (lw_at lw_m8 12 rfl) rfl
theorem q1856 : (Jvm.Cond.selects "GateLifterModel" ({ cls := "GateLifterModel", name := "image", desc := "()V" } : Jvm.MethodName) ({ cls := "GateLifterModel", name := "image", desc := "()V" } : Jvm.MethodName)) ∈ lw_all := lw_g (lw_at lw_m8 13 rfl) rfl
theorem q1857 : (Jvm.Cond.code ({ cls := "GateLifterModel", name := "image", desc := "()V" } : Jvm.MethodName) prog_11_method_29_code (1 : Nat) (Option.none : Option Jvm.ClassFile.FieldType)) ∈ lw_all := lw_g (lw_at lw_m8 14 rfl) rfl
theorem q1859 : (Jvm.Cond.instanceMethod ({ cls := "GateLifterModel", name := "back", desc := "()Z" } : Jvm.MethodName)) ∈ lw_all := lw_g (lw_at lw_m8 16 rfl) rfl
theorem q1860 : (Jvm.Cond.selects "GateLifterModel" ({ cls := "GateLifterModel", name := "back", desc := "()Z" } : Jvm.MethodName) ({ cls := "GateLifterModel", name := "back", desc := "()Z" } : Jvm.MethodName)) ∈ lw_all := lw_g (lw_at lw_m8 17 rfl) rfl
theorem q1861 : (Jvm.Cond.code ({ cls := "GateLifterModel", name := "back", desc := "()Z" } : Jvm.MethodName) prog_11_method_30_code (1 : Nat) (Option.some Jvm.ClassFile.FieldType.boolean)) ∈ lw_all := lw_g (lw_at lw_m8 18 rfl) rfl
theorem q1863 : (Jvm.Cond.instanceMethod ({ cls := "GateLifterModel", name := "net", desc := "(I)V" } : Jvm.MethodName)) ∈ lw_all := lw_g (lw_at lw_m8 20 rfl) rfl
theorem q1864 : (Jvm.Cond.selects "GateLifterModel" ({ cls := "GateLifterModel", name := "net", desc := "(I)V" } : Jvm.MethodName) ({ cls := "GateLifterModel", name := "net", desc := "(I)V" } : Jvm.MethodName)) ∈ lw_all := lw_g (lw_at lw_m8 21 rfl) rfl
theorem q1865 : (Jvm.Cond.code ({ cls := "GateLifterModel", name := "net", desc := "(I)V" } : Jvm.MethodName) prog_11_method_31_code (2 : Nat) (Option.none : Option Jvm.ClassFile.FieldType)) ∈ lw_all := lw_g (lw_at lw_m8 22 rfl) rfl
theorem q1866 : (Jvm.Cond.methodLink "GateLifterModel" (84 : Nat) ({ cls := "GateLifterModel", name := "in", desc := "(III)Z" } : Jvm.MethodName)) ∈ lw_all := lw_g (lw_at lw_m8 23 rfl) rfl
theorem q1867 : (Jvm.Cond.static ({ cls := "GateLifterModel", name := "in", desc := "(III)Z" } : Jvm.MethodName)) ∈ lw_all := lw_g (lw_at lw_m8 24 rfl) rfl
theorem q1868 : (Jvm.Cond.code ({ cls := "GateLifterModel", name := "in", desc := "(III)Z" } : Jvm.MethodName) prog_11_method_3_code (3 : Nat) (Option.some Jvm.ClassFile.FieldType.boolean)) ∈ lw_all := lw_g (lw_at lw_m8 25 rfl) rfl
theorem q1870 : (Jvm.Cond.instanceMethod ({ cls := "GateLifterModel", name := "tell", desc := "(IZ)I" } : Jvm.MethodName)) ∈ lw_all := lw_g (lw_at lw_m8 27 rfl) rfl
theorem q1871 : (Jvm.Cond.selects "GateLifterModel" ({ cls := "GateLifterModel", name := "tell", desc := "(IZ)I" } : Jvm.MethodName) ({ cls := "GateLifterModel", name := "tell", desc := "(IZ)I" } : Jvm.MethodName)) ∈ lw_all := lw_g (lw_at lw_m8 28 rfl) rfl
theorem q1872 : (Jvm.Cond.code ({ cls := "GateLifterModel", name := "tell", desc := "(IZ)I" } : Jvm.MethodName) prog_11_method_37_code (5 : Nat) (Option.some Jvm.ClassFile.FieldType.int)) ∈ lw_all := lw_g (lw_at lw_m8 29 rfl) rfl
theorem q1873 : (Jvm.Cond.methodLink "GateLifterModel" (177 : Nat) ({ cls := "GateLifterModel", name := "whyNoTell", desc := "(II)I" } : Jvm.MethodName)) ∈ lw_all := lw_g (lw_at lw_m8 30 rfl) rfl
theorem q1874 : (Jvm.Cond.privateMethod ({ cls := "GateLifterModel", name := "whyNoTell", desc := "(II)I" } : Jvm.MethodName)) ∈ lw_tbl := lw_at lw_m8 31 rfl
theorem q1875 : (Jvm.Cond.instanceMethod ({ cls := "GateLifterModel", name := "whyNoTell", desc := "(II)I" } : Jvm.MethodName)) ∈ lw_all := lw_g (lw_at lw_m8 32 rfl) rfl
theorem q1876 : (Jvm.Cond.code ({ cls := "GateLifterModel", name := "whyNoTell", desc := "(II)I" } : Jvm.MethodName) prog_11_method_32_code (3 : Nat) (Option.some Jvm.ClassFile.FieldType.int)) ∈ lw_all := lw_g (lw_at lw_m8 33 rfl) rfl
theorem q1877 : (Jvm.Cond.methodLink "GateLifterModel" (171 : Nat) ({ cls := "GateLifterModel", name := "isNode", desc := "(I)Z" } : Jvm.MethodName)) ∈ lw_all := lw_g (lw_at lw_m8 34 rfl) rfl
theorem q1878 : (Jvm.Cond.privateMethod ({ cls := "GateLifterModel", name := "isNode", desc := "(I)Z" } : Jvm.MethodName)) ∈ lw_tbl := lw_at lw_m8 35 rfl
theorem q1879 : (Jvm.Cond.instanceMethod ({ cls := "GateLifterModel", name := "isNode", desc := "(I)Z" } : Jvm.MethodName)) ∈ lw_all := lw_g (lw_at lw_m8 36 rfl) rfl
theorem q1880 : (Jvm.Cond.code ({ cls := "GateLifterModel", name := "isNode", desc := "(I)Z" } : Jvm.MethodName) prog_11_method_15_code (2 : Nat) (Option.some Jvm.ClassFile.FieldType.boolean)) ∈ lw_all := lw_g (lw_at lw_m8 37 rfl) rfl
theorem q1881 : (Jvm.Cond.methodLink "GateLifterModel" (80 : Nat) ({ cls := "GateLifterModel", name := "nodes", desc := "()I" } : Jvm.MethodName)) ∈ lw_all := lw_g (lw_at lw_m8 38 rfl) rfl
theorem q1882 : (Jvm.Cond.privateMethod ({ cls := "GateLifterModel", name := "nodes", desc := "()I" } : Jvm.MethodName)) ∈ lw_tbl := lw_at lw_m8 39 rfl
theorem q1883 : (Jvm.Cond.instanceMethod ({ cls := "GateLifterModel", name := "nodes", desc := "()I" } : Jvm.MethodName)) ∈ lw_all := lw_g (lw_at lw_m8 40 rfl) rfl
theorem q1884 : (Jvm.Cond.code ({ cls := "GateLifterModel", name := "nodes", desc := "()I" } : Jvm.MethodName) prog_11_method_9_code (1 : Nat) (Option.some Jvm.ClassFile.FieldType.int)) ∈ lw_all := lw_g (lw_at lw_m8 41 rfl) rfl
theorem q1885 : (Jvm.Cond.methodLink "GateLifterModel" (180 : Nat) ({ cls := "GateLifterModel", name := "isRefused", desc := "(II)Z" } : Jvm.MethodName)) ∈ lw_all := lw_g (lw_at lw_m8 42 rfl) rfl
theorem q1886 : (Jvm.Cond.privateMethod ({ cls := "GateLifterModel", name := "isRefused", desc := "(II)Z" } : Jvm.MethodName)) ∈ lw_tbl := lw_at lw_m8 43 rfl
theorem q1887 : (Jvm.Cond.instanceMethod ({ cls := "GateLifterModel", name := "isRefused", desc := "(II)Z" } : Jvm.MethodName)) ∈ lw_all := lw_g (lw_at lw_m8 44 rfl) rfl
theorem q1888 : (Jvm.Cond.code ({ cls := "GateLifterModel", name := "isRefused", desc := "(II)Z" } : Jvm.MethodName) prog_11_method_27_code (3 : Nat) (Option.some Jvm.ClassFile.FieldType.boolean)) ∈ lw_all := lw_g (lw_at lw_m8 45 rfl) rfl
theorem q1889 : (Jvm.Cond.methodLink "GateLifterModel" (161 : Nat) ({ cls := "GateLifterModel", name := "remembers", desc := "()V" } : Jvm.MethodName)) ∈ lw_all := lw_g (lw_at lw_m8 46 rfl) rfl
theorem q1890 : (Jvm.Cond.privateMethod ({ cls := "GateLifterModel", name := "remembers", desc := "()V" } : Jvm.MethodName)) ∈ lw_tbl := lw_at lw_m8 47 rfl
theorem q1891 : (Jvm.Cond.instanceMethod ({ cls := "GateLifterModel", name := "remembers", desc := "()V" } : Jvm.MethodName)) ∈ lw_all := lw_g (lw_at lw_m8 48 rfl) rfl
theorem q1892 : (Jvm.Cond.code ({ cls := "GateLifterModel", name := "remembers", desc := "()V" } : Jvm.MethodName) prog_11_method_26_code (2 : Nat) (Option.none : Option Jvm.ClassFile.FieldType)) ∈ lw_all := lw_g (lw_at lw_m8 49 rfl) rfl
theorem q1893 : (Jvm.Cond.methodLink "GateLifterModel" (151 : Nat) ({ cls := "GateLifterModel", name := "notes", desc := "()V" } : Jvm.MethodName)) ∈ lw_all := lw_g (lw_at lw_m8 50 rfl) rfl
theorem q1894 : (Jvm.Cond.privateMethod ({ cls := "GateLifterModel", name := "notes", desc := "()V" } : Jvm.MethodName)) ∈ lw_tbl := lw_at lw_m8 51 rfl
theorem q1895 : (Jvm.Cond.instanceMethod ({ cls := "GateLifterModel", name := "notes", desc := "()V" } : Jvm.MethodName)) ∈ lw_all := lw_g (lw_at lw_m8 52 rfl) rfl
theorem q1896 : (Jvm.Cond.code ({ cls := "GateLifterModel", name := "notes", desc := "()V" } : Jvm.MethodName) prog_11_method_23_code (2 : Nat) (Option.none : Option Jvm.ClassFile.FieldType)) ∈ lw_all := lw_g (lw_at lw_m8 53 rfl) rfl
theorem q1897 : (Jvm.Cond.methodLink "GateLifterModel" (126 : Nat) ({ cls := "GateLifterModel", name := "laysGates", desc := "()V" } : Jvm.MethodName)) ∈ lw_all := lw_g (lw_at lw_m8 54 rfl) rfl
theorem q1898 : (Jvm.Cond.privateMethod ({ cls := "GateLifterModel", name := "laysGates", desc := "()V" } : Jvm.MethodName)) ∈ lw_tbl := lw_at lw_m8 55 rfl
theorem q1899 : (Jvm.Cond.instanceMethod ({ cls := "GateLifterModel", name := "laysGates", desc := "()V" } : Jvm.MethodName)) ∈ lw_all := lw_g (lw_at lw_m8 56 rfl) rfl
theorem q1900 : (Jvm.Cond.code ({ cls := "GateLifterModel", name := "laysGates", desc := "()V" } : Jvm.MethodName) prog_11_method_20_code (4 : Nat) (Option.none : Option Jvm.ClassFile.FieldType)) ∈ lw_all := lw_g (lw_at lw_m8 57 rfl) rfl
theorem q1901 : (Jvm.Cond.methodLink "GateLifterModel" (116 : Nat) ({ cls := "GateLifterModel", name := "reachedBut", desc := "(II)I" } : Jvm.MethodName)) ∈ lw_all := lw_g (lw_at lw_m8 58 rfl) rfl
theorem q1902 : (Jvm.Cond.privateMethod ({ cls := "GateLifterModel", name := "reachedBut", desc := "(II)I" } : Jvm.MethodName)) ∈ lw_tbl := lw_at lw_m8 59 rfl
theorem q1903 : (Jvm.Cond.instanceMethod ({ cls := "GateLifterModel", name := "reachedBut", desc := "(II)I" } : Jvm.MethodName)) ∈ lw_all := lw_g (lw_at lw_m8 60 rfl) rfl
theorem q1904 : (Jvm.Cond.code ({ cls := "GateLifterModel", name := "reachedBut", desc := "(II)I" } : Jvm.MethodName) prog_11_method_19_code (3 : Nat) (Option.some Jvm.ClassFile.FieldType.int)) ∈ lw_all := lw_g (lw_at lw_m8 61 rfl) rfl
theorem q1905 : (Jvm.Cond.methodLink "GateLifterModel" (109 : Nat) ({ cls := "GateLifterModel", name := "root", desc := "()I" } : Jvm.MethodName)) ∈ lw_all := lw_g (lw_at lw_m8 62 rfl) rfl
theorem q1906 : (Jvm.Cond.privateMethod ({ cls := "GateLifterModel", name := "root", desc := "()I" } : Jvm.MethodName)) ∈ lw_tbl := lw_at lw_m8 63 rfl
theorem q1907 : (Jvm.Cond.instanceMethod ({ cls := "GateLifterModel", name := "root", desc := "()I" } : Jvm.MethodName)) ∈ lw_all := lw_g (lw_at lw_m8 64 rfl) rfl
theorem q1908 : (Jvm.Cond.code ({ cls := "GateLifterModel", name := "root", desc := "()I" } : Jvm.MethodName) prog_11_method_10_code (1 : Nat) (Option.some Jvm.ClassFile.FieldType.int)) ∈ lw_all := lw_g (lw_at lw_m8 65 rfl) rfl
theorem q1909 : (Jvm.Cond.methodLink "GateLifterModel" (112 : Nat) ({ cls := "GateLifterModel", name := "reach", desc := "(III)I" } : Jvm.MethodName)) ∈ lw_all := lw_g (lw_at lw_m8 66 rfl) rfl
theorem q1910 : (Jvm.Cond.privateMethod ({ cls := "GateLifterModel", name := "reach", desc := "(III)I" } : Jvm.MethodName)) ∈ lw_tbl := lw_at lw_m8 67 rfl
theorem q1911 : (Jvm.Cond.instanceMethod ({ cls := "GateLifterModel", name := "reach", desc := "(III)I" } : Jvm.MethodName)) ∈ lw_all := lw_g (lw_at lw_m8 68 rfl) rfl
theorem q1912 : (Jvm.Cond.code ({ cls := "GateLifterModel", name := "reach", desc := "(III)I" } : Jvm.MethodName) prog_11_method_17_code (7 : Nat) (Option.some Jvm.ClassFile.FieldType.int)) ∈ lw_all := lw_g (lw_at lw_m8 69 rfl) rfl
theorem q1913 : (Jvm.Cond.methodLink "GateLifterModel" (88 : Nat) ({ cls := "GateLifterModel", name := "arcs", desc := "()I" } : Jvm.MethodName)) ∈ lw_all := lw_g (lw_at lw_m8 70 rfl) rfl
theorem q1914 : (Jvm.Cond.privateMethod ({ cls := "GateLifterModel", name := "arcs", desc := "()I" } : Jvm.MethodName)) ∈ lw_tbl := lw_at lw_m8 71 rfl
theorem q1915 : (Jvm.Cond.instanceMethod ({ cls := "GateLifterModel", name := "arcs", desc := "()I" } : Jvm.MethodName)) ∈ lw_all := lw_g (lw_at lw_m8 72 rfl) rfl
theorem q1916 : (Jvm.Cond.code ({ cls := "GateLifterModel", name := "arcs", desc := "()I" } : Jvm.MethodName) prog_11_method_11_code (1 : Nat) (Option.some Jvm.ClassFile.FieldType.int)) ∈ lw_all := lw_g (lw_at lw_m8 73 rfl) rfl
theorem q1917 : (Jvm.Cond.methodLink "GateLifterModel" (91 : Nat) ({ cls := "GateLifterModel", name := "isOpen", desc := "(I)Z" } : Jvm.MethodName)) ∈ lw_all := lw_g (lw_at lw_m8 74 rfl) rfl
theorem q1918 : (Jvm.Cond.privateMethod ({ cls := "GateLifterModel", name := "isOpen", desc := "(I)Z" } : Jvm.MethodName)) ∈ lw_tbl := lw_at lw_m8 75 rfl
theorem q1919 : (Jvm.Cond.instanceMethod ({ cls := "GateLifterModel", name := "isOpen", desc := "(I)Z" } : Jvm.MethodName)) ∈ lw_all := lw_g (lw_at lw_m8 76 rfl) rfl
theorem q1920 : (Jvm.Cond.code ({ cls := "GateLifterModel", name := "isOpen", desc := "(I)Z" } : Jvm.MethodName) prog_11_method_14_code (2 : Nat) (Option.some Jvm.ClassFile.FieldType.boolean)) ∈ lw_all := lw_g (lw_at lw_m8 77 rfl) rfl
theorem q1921 : (Jvm.Cond.methodLink "GateLifterModel" (95 : Nat) ({ cls := "GateLifterModel", name := "fromOf", desc := "(I)I" } : Jvm.MethodName)) ∈ lw_all := lw_g (lw_at lw_m8 78 rfl) rfl
theorem q1922 : (Jvm.Cond.privateMethod ({ cls := "GateLifterModel", name := "fromOf", desc := "(I)I" } : Jvm.MethodName)) ∈ lw_tbl := lw_at lw_m8 79 rfl
theorem q1923 : (Jvm.Cond.instanceMethod ({ cls := "GateLifterModel", name := "fromOf", desc := "(I)I" } : Jvm.MethodName)) ∈ lw_all := lw_g (lw_at lw_m8 80 rfl) rfl
theorem q1924 : (Jvm.Cond.code ({ cls := "GateLifterModel", name := "fromOf", desc := "(I)I" } : Jvm.MethodName) prog_11_method_12_code (2 : Nat) (Option.some Jvm.ClassFile.FieldType.int)) ∈ lw_all := lw_g (lw_at lw_m8 81 rfl) rfl
theorem q1925 : (Jvm.Cond.methodLink "GateLifterModel" (99 : Nat) ({ cls := "GateLifterModel", name := "holds", desc := "(II)Z" } : Jvm.MethodName)) ∈ lw_all := lw_g (lw_at lw_m8 82 rfl) rfl
theorem q1926 : (Jvm.Cond.static ({ cls := "GateLifterModel", name := "holds", desc := "(II)Z" } : Jvm.MethodName)) ∈ lw_all := lw_g (lw_at lw_m8 83 rfl) rfl
theorem q1927 : (Jvm.Cond.code ({ cls := "GateLifterModel", name := "holds", desc := "(II)Z" } : Jvm.MethodName) prog_11_method_4_code (2 : Nat) (Option.some Jvm.ClassFile.FieldType.boolean)) ∈ lw_all := lw_g (lw_at lw_m8 84 rfl) rfl
theorem q1928 : (Jvm.Cond.methodLink "GateLifterModel" (103 : Nat) ({ cls := "GateLifterModel", name := "toOf", desc := "(I)I" } : Jvm.MethodName)) ∈ lw_all := lw_g (lw_at lw_m8 85 rfl) rfl
theorem q1929 : (Jvm.Cond.privateMethod ({ cls := "GateLifterModel", name := "toOf", desc := "(I)I" } : Jvm.MethodName)) ∈ lw_tbl := lw_at lw_m8 86 rfl
theorem q1930 : (Jvm.Cond.instanceMethod ({ cls := "GateLifterModel", name := "toOf", desc := "(I)I" } : Jvm.MethodName)) ∈ lw_all := lw_g (lw_at lw_m8 87 rfl) rfl
theorem q1931 : (Jvm.Cond.code ({ cls := "GateLifterModel", name := "toOf", desc := "(I)I" } : Jvm.MethodName) prog_11_method_13_code (2 : Nat) (Option.some Jvm.ClassFile.FieldType.int)) ∈ lw_all := lw_g (lw_at lw_m8 88 rfl) rfl
theorem q1932 : (Jvm.Cond.methodLink "GateLifterModel" (123 : Nat) ({ cls := "GateLifterModel", name := "bits", desc := "(I)I" } : Jvm.MethodName)) ∈ lw_all := lw_g (lw_at lw_m8 89 rfl) rfl
theorem q1933 : (Jvm.Cond.static ({ cls := "GateLifterModel", name := "bits", desc := "(I)I" } : Jvm.MethodName)) ∈ lw_all := lw_g (lw_at lw_m8 90 rfl) rfl
theorem q1934 : (Jvm.Cond.code ({ cls := "GateLifterModel", name := "bits", desc := "(I)I" } : Jvm.MethodName) prog_11_method_5_code (3 : Nat) (Option.some Jvm.ClassFile.FieldType.int)) ∈ lw_all := lw_g (lw_at lw_m8 91 rfl) rfl
theorem q1935 : (Jvm.Cond.methodLink "GateLifterModel" (183 : Nat) ({ cls := "GateLifterModel", name := "holdsAgainst", desc := "()V" } : Jvm.MethodName)) ∈ lw_all := lw_g (lw_at lw_m8 92 rfl) rfl
theorem q1936 : (Jvm.Cond.privateMethod ({ cls := "GateLifterModel", name := "holdsAgainst", desc := "()V" } : Jvm.MethodName)) ∈ lw_tbl := lw_at lw_m8 93 rfl
theorem q1937 : (Jvm.Cond.instanceMethod ({ cls := "GateLifterModel", name := "holdsAgainst", desc := "()V" } : Jvm.MethodName)) ∈ lw_all := lw_g (lw_at lw_m8 94 rfl) rfl
theorem q1938 : (Jvm.Cond.code ({ cls := "GateLifterModel", name := "holdsAgainst", desc := "()V" } : Jvm.MethodName) prog_11_method_24_code (2 : Nat) (Option.none : Option Jvm.ClassFile.FieldType)) ∈ lw_all := lw_g (lw_at lw_m8 95 rfl) rfl
theorem q1940 : (Jvm.Cond.instanceMethod ({ cls := "GateLifterModel", name := "lay", desc := "(II)I" } : Jvm.MethodName)) ∈ lw_all := lw_g (lw_at lw_m8 97 rfl) rfl
theorem q1941 : (Jvm.Cond.selects "GateLifterModel" ({ cls := "GateLifterModel", name := "lay", desc := "(II)I" } : Jvm.MethodName) ({ cls := "GateLifterModel", name := "lay", desc := "(II)I" } : Jvm.MethodName)) ∈ lw_all := lw_g (lw_at lw_m8 98 rfl) rfl
theorem q1942 : (Jvm.Cond.code ({ cls := "GateLifterModel", name := "lay", desc := "(II)I" } : Jvm.MethodName) prog_11_method_38_code (4 : Nat) (Option.some Jvm.ClassFile.FieldType.int)) ∈ lw_all := lw_g (lw_at lw_m8 99 rfl) rfl
theorem q1943 : (Jvm.Cond.methodLink "GateLifterModel" (186 : Nat) ({ cls := "GateLifterModel", name := "whyNoLay", desc := "(II)I" } : Jvm.MethodName)) ∈ lw_all := lw_g (lw_at lw_m8 100 rfl) rfl
theorem q1944 : (Jvm.Cond.privateMethod ({ cls := "GateLifterModel", name := "whyNoLay", desc := "(II)I" } : Jvm.MethodName)) ∈ lw_tbl := lw_at lw_m8 101 rfl
theorem q1945 : (Jvm.Cond.instanceMethod ({ cls := "GateLifterModel", name := "whyNoLay", desc := "(II)I" } : Jvm.MethodName)) ∈ lw_all := lw_g (lw_at lw_m8 102 rfl) rfl
theorem q1946 : (Jvm.Cond.code ({ cls := "GateLifterModel", name := "whyNoLay", desc := "(II)I" } : Jvm.MethodName) prog_11_method_33_code (3 : Nat) (Option.some Jvm.ClassFile.FieldType.int)) ∈ lw_all := lw_g (lw_at lw_m8 103 rfl) rfl
theorem q1947 : (Jvm.Cond.methodLink "GateLifterModel" (189 : Nat) ({ cls := "GateLifterModel", name := "lays", desc := "(II)I" } : Jvm.MethodName)) ∈ lw_all := lw_g (lw_at lw_m8 104 rfl) rfl
theorem q1948 : (Jvm.Cond.privateMethod ({ cls := "GateLifterModel", name := "lays", desc := "(II)I" } : Jvm.MethodName)) ∈ lw_tbl := lw_at lw_m8 105 rfl
theorem q1949 : (Jvm.Cond.instanceMethod ({ cls := "GateLifterModel", name := "lays", desc := "(II)I" } : Jvm.MethodName)) ∈ lw_all := lw_g (lw_at lw_m8 106 rfl) rfl
theorem q1950 : (Jvm.Cond.code ({ cls := "GateLifterModel", name := "lays", desc := "(II)I" } : Jvm.MethodName) prog_11_method_36_code (4 : Nat) (Option.some Jvm.ClassFile.FieldType.int)) ∈ lw_all := lw_g (lw_at lw_m8 107 rfl) rfl
theorem q1952 : (Jvm.Cond.instanceMethod ({ cls := "GateLifterModel", name := "shut", desc := "(I)I" } : Jvm.MethodName)) ∈ lw_all := lw_g (lw_at lw_m8 109 rfl) rfl
theorem q1953 : (Jvm.Cond.selects "GateLifterModel" ({ cls := "GateLifterModel", name := "shut", desc := "(I)I" } : Jvm.MethodName) ({ cls := "GateLifterModel", name := "shut", desc := "(I)I" } : Jvm.MethodName)) ∈ lw_all := lw_g (lw_at lw_m8 110 rfl) rfl
theorem q1954 : (Jvm.Cond.code ({ cls := "GateLifterModel", name := "shut", desc := "(I)I" } : Jvm.MethodName) prog_11_method_39_code (2 : Nat) (Option.some Jvm.ClassFile.FieldType.int)) ∈ lw_all := lw_g (lw_at lw_m8 111 rfl) rfl
theorem q1955 : (Jvm.Cond.methodLink "GateLifterModel" (192 : Nat) ({ cls := "GateLifterModel", name := "whyNoTurn", desc := "(II)I" } : Jvm.MethodName)) ∈ lw_all := lw_g (lw_at lw_m8 112 rfl) rfl
theorem q1956 : (Jvm.Cond.privateMethod ({ cls := "GateLifterModel", name := "whyNoTurn", desc := "(II)I" } : Jvm.MethodName)) ∈ lw_tbl := lw_at lw_m8 113 rfl
theorem q1957 : (Jvm.Cond.instanceMethod ({ cls := "GateLifterModel", name := "whyNoTurn", desc := "(II)I" } : Jvm.MethodName)) ∈ lw_all := lw_g (lw_at lw_m8 114 rfl) rfl
theorem q1958 : (Jvm.Cond.code ({ cls := "GateLifterModel", name := "whyNoTurn", desc := "(II)I" } : Jvm.MethodName) prog_11_method_34_code (3 : Nat) (Option.some Jvm.ClassFile.FieldType.int)) ∈ lw_all := lw_g (lw_at lw_m8 115 rfl) rfl
theorem q1959 : (Jvm.Cond.methodLink "GateLifterModel" (174 : Nat) ({ cls := "GateLifterModel", name := "isArc", desc := "(I)Z" } : Jvm.MethodName)) ∈ lw_all := lw_g (lw_at lw_m8 116 rfl) rfl
theorem q1960 : (Jvm.Cond.privateMethod ({ cls := "GateLifterModel", name := "isArc", desc := "(I)Z" } : Jvm.MethodName)) ∈ lw_tbl := lw_at lw_m8 117 rfl
theorem q1961 : (Jvm.Cond.instanceMethod ({ cls := "GateLifterModel", name := "isArc", desc := "(I)Z" } : Jvm.MethodName)) ∈ lw_all := lw_g (lw_at lw_m8 118 rfl) rfl
theorem q1962 : (Jvm.Cond.code ({ cls := "GateLifterModel", name := "isArc", desc := "(I)Z" } : Jvm.MethodName) prog_11_method_16_code (2 : Nat) (Option.some Jvm.ClassFile.FieldType.boolean)) ∈ lw_all := lw_g (lw_at lw_m8 119 rfl) rfl
theorem q1964 : (Jvm.Cond.instanceMethod ({ cls := "GateLifterModel", name := "open", desc := "(I)I" } : Jvm.MethodName)) ∈ lw_all := lw_g (lw_at lw_m8 121 rfl) rfl
theorem q1965 : (Jvm.Cond.selects "GateLifterModel" ({ cls := "GateLifterModel", name := "open", desc := "(I)I" } : Jvm.MethodName) ({ cls := "GateLifterModel", name := "open", desc := "(I)I" } : Jvm.MethodName)) ∈ lw_all := lw_g (lw_at lw_m8 122 rfl) rfl
theorem q1966 : (Jvm.Cond.code ({ cls := "GateLifterModel", name := "open", desc := "(I)I" } : Jvm.MethodName) prog_11_method_40_code (2 : Nat) (Option.some Jvm.ClassFile.FieldType.int)) ∈ lw_all := lw_g (lw_at lw_m8 123 rfl) rfl
theorem q1968 : (Jvm.Cond.instanceMethod ({ cls := "GateLifterModel", name := "toll", desc := "(II)I" } : Jvm.MethodName)) ∈ lw_all := lw_g (lw_at lw_m8 125 rfl) rfl
theorem q1969 : (Jvm.Cond.selects "GateLifterModel" ({ cls := "GateLifterModel", name := "toll", desc := "(II)I" } : Jvm.MethodName) ({ cls := "GateLifterModel", name := "toll", desc := "(II)I" } : Jvm.MethodName)) ∈ lw_all := lw_g (lw_at lw_m8 126 rfl) rfl
theorem q1970 : (Jvm.Cond.code ({ cls := "GateLifterModel", name := "toll", desc := "(II)I" } : Jvm.MethodName) prog_11_method_41_code (4 : Nat) (Option.some Jvm.ClassFile.FieldType.int)) ∈ lw_all := lw_g (lw_at lw_m8 127 rfl) rfl
theorem q1971 : (Jvm.Cond.methodLink "GateLifterModel" (195 : Nat) ({ cls := "GateLifterModel", name := "whyNoToll", desc := "(II)I" } : Jvm.MethodName)) ∈ lw_all := lw_g (lw_at lw_m8 128 rfl) rfl
theorem q1972 : (Jvm.Cond.privateMethod ({ cls := "GateLifterModel", name := "whyNoToll", desc := "(II)I" } : Jvm.MethodName)) ∈ lw_tbl := lw_at lw_m8 129 rfl
theorem q1973 : (Jvm.Cond.instanceMethod ({ cls := "GateLifterModel", name := "whyNoToll", desc := "(II)I" } : Jvm.MethodName)) ∈ lw_all := lw_g (lw_at lw_m8 130 rfl) rfl
theorem q1974 : (Jvm.Cond.code ({ cls := "GateLifterModel", name := "whyNoToll", desc := "(II)I" } : Jvm.MethodName) prog_11_method_35_code (3 : Nat) (Option.some Jvm.ClassFile.FieldType.int)) ∈ lw_all := lw_g (lw_at lw_m8 131 rfl) rfl
theorem q1976 : (Jvm.Cond.instanceMethod ({ cls := "GateLifterModel", name := "why", desc := "()I" } : Jvm.MethodName)) ∈ lw_all := lw_g (lw_at lw_m8 133 rfl) rfl
theorem q1977 : (Jvm.Cond.selects "GateLifterModel" ({ cls := "GateLifterModel", name := "why", desc := "()I" } : Jvm.MethodName) ({ cls := "GateLifterModel", name := "why", desc := "()I" } : Jvm.MethodName)) ∈ lw_all := lw_g (lw_at lw_m8 134 rfl) rfl
theorem q1978 : (Jvm.Cond.code ({ cls := "GateLifterModel", name := "why", desc := "()I" } : Jvm.MethodName) prog_11_method_42_code (1 : Nat) (Option.some Jvm.ClassFile.FieldType.int)) ∈ lw_all := lw_g (lw_at lw_m8 135 rfl) rfl
theorem q1980 : (Jvm.Cond.instanceMethod ({ cls := "GateLifterModel", name := "latest", desc := "(I)I" } : Jvm.MethodName)) ∈ lw_all := lw_g (lw_at lw_m8 137 rfl) rfl
theorem q1981 : (Jvm.Cond.selects "GateLifterModel" ({ cls := "GateLifterModel", name := "latest", desc := "(I)I" } : Jvm.MethodName) ({ cls := "GateLifterModel", name := "latest", desc := "(I)I" } : Jvm.MethodName)) ∈ lw_all := lw_g (lw_at lw_m8 138 rfl) rfl
theorem q1982 : (Jvm.Cond.code ({ cls := "GateLifterModel", name := "latest", desc := "(I)I" } : Jvm.MethodName) prog_11_method_43_code (2 : Nat) (Option.some Jvm.ClassFile.FieldType.int)) ∈ lw_all := lw_g (lw_at lw_m8 139 rfl) rfl
theorem q1984 : (Jvm.Cond.instanceMethod ({ cls := "GateLifterModel", name := "feed", desc := "(IIIII)I" } : Jvm.MethodName)) ∈ lw_all := lw_g (lw_at lw_m8 141 rfl) rfl
theorem q1985 : (Jvm.Cond.selects "GateLifterModel" ({ cls := "GateLifterModel", name := "feed", desc := "(IIIII)I" } : Jvm.MethodName) ({ cls := "GateLifterModel", name := "feed", desc := "(IIIII)I" } : Jvm.MethodName)) ∈ lw_all := lw_g (lw_at lw_m8 142 rfl) rfl
theorem q1986 : (Jvm.Cond.code ({ cls := "GateLifterModel", name := "feed", desc := "(IIIII)I" } : Jvm.MethodName) prog_11_method_44_code (7 : Nat) (Option.some Jvm.ClassFile.FieldType.int)) ∈ lw_all := lw_g (lw_at lw_m8 143 rfl) rfl
theorem q1988 : (Jvm.Cond.instanceMethod ({ cls := "GateLifterModel", name := "end", desc := "(I)Z" } : Jvm.MethodName)) ∈ lw_all := lw_g (lw_at lw_m8 145 rfl) rfl
theorem q1989 : (Jvm.Cond.selects "GateLifterModel" ({ cls := "GateLifterModel", name := "end", desc := "(I)Z" } : Jvm.MethodName) ({ cls := "GateLifterModel", name := "end", desc := "(I)Z" } : Jvm.MethodName)) ∈ lw_all := lw_g (lw_at lw_m8 146 rfl) rfl
theorem q1990 : (Jvm.Cond.code ({ cls := "GateLifterModel", name := "end", desc := "(I)Z" } : Jvm.MethodName) prog_11_method_45_code (2 : Nat) (Option.some Jvm.ClassFile.FieldType.boolean)) ∈ lw_all := lw_g (lw_at lw_m8 147 rfl) rfl
theorem q1992 : (Jvm.Cond.instanceMethod ({ cls := "GateLifterModel", name := "fault", desc := "()I" } : Jvm.MethodName)) ∈ lw_all := lw_g (lw_at lw_m8 149 rfl) rfl
theorem q1993 : (Jvm.Cond.selects "GateLifterModel" ({ cls := "GateLifterModel", name := "fault", desc := "()I" } : Jvm.MethodName) ({ cls := "GateLifterModel", name := "fault", desc := "()I" } : Jvm.MethodName)) ∈ lw_all := lw_g (lw_at lw_m8 150 rfl) rfl
theorem q1994 : (Jvm.Cond.code ({ cls := "GateLifterModel", name := "fault", desc := "()I" } : Jvm.MethodName) prog_11_method_46_code (1 : Nat) (Option.some Jvm.ClassFile.FieldType.int)) ∈ lw_all := lw_g (lw_at lw_m8 151 rfl) rfl
theorem q1996 : (Jvm.Cond.instanceMethod ({ cls := "GateLifterModel", name := "acts", desc := "()I" } : Jvm.MethodName)) ∈ lw_all := lw_g (lw_at lw_m8 153 rfl) rfl
theorem q1997 : (Jvm.Cond.selects "GateLifterModel" ({ cls := "GateLifterModel", name := "acts", desc := "()I" } : Jvm.MethodName) ({ cls := "GateLifterModel", name := "acts", desc := "()I" } : Jvm.MethodName)) ∈ lw_all := lw_g (lw_at lw_m8 154 rfl) rfl
theorem q1998 : (Jvm.Cond.code ({ cls := "GateLifterModel", name := "acts", desc := "()I" } : Jvm.MethodName) prog_11_method_59_code (2 : Nat) (Option.some Jvm.ClassFile.FieldType.int)) ∈ lw_all := lw_g (lw_at lw_m8 155 rfl) rfl
theorem q1999 : (Jvm.Cond.methodLink "GateLifterModel" (273 : Nat) ({ cls := "GateLifterModel", name := "readActs", desc := "()Z" } : Jvm.MethodName)) ∈ lw_all := lw_g (lw_at lw_m8 156 rfl) rfl
theorem q2000 : (Jvm.Cond.privateMethod ({ cls := "GateLifterModel", name := "readActs", desc := "()Z" } : Jvm.MethodName)) ∈ lw_tbl := lw_at lw_m8 157 rfl
theorem q2001 : (Jvm.Cond.instanceMethod ({ cls := "GateLifterModel", name := "readActs", desc := "()Z" } : Jvm.MethodName)) ∈ lw_all := lw_g (lw_at lw_m8 158 rfl) rfl
theorem q2002 : (Jvm.Cond.code ({ cls := "GateLifterModel", name := "readActs", desc := "()Z" } : Jvm.MethodName) prog_11_method_58_code (2 : Nat) (Option.some Jvm.ClassFile.FieldType.boolean)) ∈ lw_all := lw_g (lw_at lw_m8 159 rfl) rfl
theorem q2003 : (Jvm.Cond.methodLink "GateLifterModel" (213 : Nat) ({ cls := "GateLifterModel", name := "blanks", desc := "()V" } : Jvm.MethodName)) ∈ lw_all := lw_g (lw_at lw_m8 160 rfl) rfl
theorem q2004 : (Jvm.Cond.privateMethod ({ cls := "GateLifterModel", name := "blanks", desc := "()V" } : Jvm.MethodName)) ∈ lw_tbl := lw_at lw_m8 161 rfl
theorem q2005 : (Jvm.Cond.instanceMethod ({ cls := "GateLifterModel", name := "blanks", desc := "()V" } : Jvm.MethodName)) ∈ lw_all := lw_g (lw_at lw_m8 162 rfl) rfl
theorem q2006 : (Jvm.Cond.code ({ cls := "GateLifterModel", name := "blanks", desc := "()V" } : Jvm.MethodName) prog_11_method_48_code (1 : Nat) (Option.none : Option Jvm.ClassFile.FieldType)) ∈ lw_all := lw_g (lw_at lw_m8 163 rfl) rfl
theorem q2007 : (Jvm.Cond.methodLink "GateLifterModel" (207 : Nat) ({ cls := "GateLifterModel", name := "isAt", desc := "(II)Z" } : Jvm.MethodName)) ∈ lw_all := lw_g (lw_at lw_m8 164 rfl) rfl
theorem q2008 : (Jvm.Cond.privateMethod ({ cls := "GateLifterModel", name := "isAt", desc := "(II)Z" } : Jvm.MethodName)) ∈ lw_tbl := lw_at lw_m8 165 rfl
theorem q2009 : (Jvm.Cond.instanceMethod ({ cls := "GateLifterModel", name := "isAt", desc := "(II)Z" } : Jvm.MethodName)) ∈ lw_all := lw_g (lw_at lw_m8 166 rfl) rfl
theorem q2010 : (Jvm.Cond.code ({ cls := "GateLifterModel", name := "isAt", desc := "(II)Z" } : Jvm.MethodName) prog_11_method_47_code (3 : Nat) (Option.some Jvm.ClassFile.FieldType.boolean)) ∈ lw_all := lw_g (lw_at lw_m8 167 rfl) rfl
theorem q2011 : (Jvm.Cond.methodLink "GateLifterModel" (270 : Nat) ({ cls := "GateLifterModel", name := "readAct", desc := "()Z" } : Jvm.MethodName)) ∈ lw_all := lw_g (lw_at lw_m8 168 rfl) rfl
theorem q2012 : (Jvm.Cond.privateMethod ({ cls := "GateLifterModel", name := "readAct", desc := "()Z" } : Jvm.MethodName)) ∈ lw_tbl := lw_at lw_m8 169 rfl
theorem q2013 : (Jvm.Cond.instanceMethod ({ cls := "GateLifterModel", name := "readAct", desc := "()Z" } : Jvm.MethodName)) ∈ lw_all := lw_g (lw_at lw_m8 170 rfl) rfl
theorem q2014 : (Jvm.Cond.code ({ cls := "GateLifterModel", name := "readAct", desc := "()Z" } : Jvm.MethodName) prog_11_method_57_code (1 : Nat) (Option.some Jvm.ClassFile.FieldType.boolean)) ∈ lw_all := lw_g (lw_at lw_m8 171 rfl) rfl
theorem q2015 : (Jvm.Cond.methodLink "GateLifterModel" (238 : Nat) ({ cls := "GateLifterModel", name := "letters", desc := "()V" } : Jvm.MethodName)) ∈ lw_all := lw_g (lw_at lw_m8 172 rfl) rfl
theorem q2016 : (Jvm.Cond.privateMethod ({ cls := "GateLifterModel", name := "letters", desc := "()V" } : Jvm.MethodName)) ∈ lw_tbl := lw_at lw_m8 173 rfl
theorem q2017 : (Jvm.Cond.instanceMethod ({ cls := "GateLifterModel", name := "letters", desc := "()V" } : Jvm.MethodName)) ∈ lw_all := lw_g (lw_at lw_m8 174 rfl) rfl
theorem q2018 : (Jvm.Cond.code ({ cls := "GateLifterModel", name := "letters", desc := "()V" } : Jvm.MethodName) prog_11_method_49_code (1 : Nat) (Option.none : Option Jvm.ClassFile.FieldType)) ∈ lw_all := lw_g (lw_at lw_m8 175 rfl) rfl
theorem q2019 : (Jvm.Cond.stringRef "GateLifterModel" (241 : Nat) "net") ∈ lw_tbl := lw_at lw_m8 176 rfl
theorem q2020 : (Jvm.Cond.methodLink "GateLifterModel" (243 : Nat) ({ cls := "GateLifterModel", name := "isWord", desc := "(Ljava/lang/String;)Z" } : Jvm.MethodName)) ∈ lw_all := lw_g (lw_at lw_m8 177 rfl) rfl
theorem q2021 : (Jvm.Cond.privateMethod ({ cls := "GateLifterModel", name := "isWord", desc := "(Ljava/lang/String;)Z" } : Jvm.MethodName)) ∈ lw_tbl := lw_at lw_m8 178 rfl
theorem q2022 : (Jvm.Cond.instanceMethod ({ cls := "GateLifterModel", name := "isWord", desc := "(Ljava/lang/String;)Z" } : Jvm.MethodName)) ∈ lw_all := lw_g (lw_at lw_m8 179 rfl) rfl
theorem q2023 : (Jvm.Cond.code ({ cls := "GateLifterModel", name := "isWord", desc := "(Ljava/lang/String;)Z" } : Jvm.MethodName) prog_11_method_50_code (4 : Nat) (Option.some Jvm.ClassFile.FieldType.boolean)) ∈ lw_all := lw_g (lw_at lw_m8 180 rfl) rfl
theorem q2024 : (Jvm.Cond.methodLink "GateLifterModel" (216 : Nat) ({ cls := "java/lang/String", name := "length", desc := "()I" } : Jvm.MethodName)) ∈ lw_all := lw_g (lw_at lw_m8 181 rfl) rfl
theorem q2025 : (Jvm.Cond.methodLink "GateLifterModel" (221 : Nat) ({ cls := "java/lang/String", name := "charAt", desc := "(I)C" } : Jvm.MethodName)) ∈ lw_all := lw_g (lw_at lw_m8 182 rfl) rfl
theorem q2036 : (Jvm.Cond.methodLink "GateLifterModel" (225 : Nat) ({ cls := "GateLifterModel", name := "reads", desc := "(III)Z" } : Jvm.MethodName)) ∈ lw_all := lw_g (lw_at lw_m8 193 rfl) rfl
theorem q2037 : (Jvm.Cond.privateMethod ({ cls := "GateLifterModel", name := "reads", desc := "(III)Z" } : Jvm.MethodName)) ∈ lw_tbl := lw_at lw_m8 194 rfl
theorem q2038 : (Jvm.Cond.instanceMethod ({ cls := "GateLifterModel", name := "reads", desc := "(III)Z" } : Jvm.MethodName)) ∈ lw_all := lw_g (lw_at lw_m8 195 rfl) rfl
theorem q2039 : (Jvm.Cond.code ({ cls := "GateLifterModel", name := "reads", desc := "(III)Z" } : Jvm.MethodName) prog_11_method_51_code (5 : Nat) (Option.some Jvm.ClassFile.FieldType.boolean)) ∈ lw_all := lw_g (lw_at lw_m8 196 rfl) rfl
theorem q2040 : (Jvm.Cond.stringRef "GateLifterModel" (247 : Nat) "root") ∈ lw_tbl := lw_at lw_m8 197 rfl
theorem q2041 : (Jvm.Cond.methodLink "GateLifterModel" (248 : Nat) ({ cls := "GateLifterModel", name := "readsPlace", desc := "(I)Z" } : Jvm.MethodName)) ∈ lw_all := lw_g (lw_at lw_m8 198 rfl) rfl
theorem q2042 : (Jvm.Cond.privateMethod ({ cls := "GateLifterModel", name := "readsPlace", desc := "(I)Z" } : Jvm.MethodName)) ∈ lw_tbl := lw_at lw_m8 199 rfl
theorem q2043 : (Jvm.Cond.instanceMethod ({ cls := "GateLifterModel", name := "readsPlace", desc := "(I)Z" } : Jvm.MethodName)) ∈ lw_all := lw_g (lw_at lw_m8 200 rfl) rfl
theorem q2044 : (Jvm.Cond.code ({ cls := "GateLifterModel", name := "readsPlace", desc := "(I)Z" } : Jvm.MethodName) prog_11_method_56_code (2 : Nat) (Option.some Jvm.ClassFile.FieldType.boolean)) ∈ lw_all := lw_g (lw_at lw_m8 201 rfl) rfl
theorem q2045 : (Jvm.Cond.stringRef "GateLifterModel" (251 : Nat) "exit") ∈ lw_tbl := lw_at lw_m8 202 rfl
theorem q2046 : (Jvm.Cond.stringRef "GateLifterModel" (253 : Nat) "lay") ∈ lw_tbl := lw_at lw_m8 203 rfl
theorem q2047 : (Jvm.Cond.methodLink "GateLifterModel" (255 : Nat) ({ cls := "GateLifterModel", name := "readsLay", desc := "()Z" } : Jvm.MethodName)) ∈ lw_all := lw_g (lw_at lw_m8 204 rfl) rfl
theorem q2048 : (Jvm.Cond.privateMethod ({ cls := "GateLifterModel", name := "readsLay", desc := "()Z" } : Jvm.MethodName)) ∈ lw_tbl := lw_at lw_m8 205 rfl
theorem q2049 : (Jvm.Cond.instanceMethod ({ cls := "GateLifterModel", name := "readsLay", desc := "()Z" } : Jvm.MethodName)) ∈ lw_all := lw_g (lw_at lw_m8 206 rfl) rfl
theorem q2050 : (Jvm.Cond.code ({ cls := "GateLifterModel", name := "readsLay", desc := "()Z" } : Jvm.MethodName) prog_11_method_54_code (4 : Nat) (Option.some Jvm.ClassFile.FieldType.boolean)) ∈ lw_all := lw_g (lw_at lw_m8 207 rfl) rfl
theorem q2051 : (Jvm.Cond.methodLink "GateLifterModel" (232 : Nat) ({ cls := "GateLifterModel", name := "readsMany", desc := "(II)I" } : Jvm.MethodName)) ∈ lw_all := lw_g (lw_at lw_m8 208 rfl) rfl
theorem q2052 : (Jvm.Cond.privateMethod ({ cls := "GateLifterModel", name := "readsMany", desc := "(II)I" } : Jvm.MethodName)) ∈ lw_tbl := lw_at lw_m8 209 rfl
theorem q2053 : (Jvm.Cond.instanceMethod ({ cls := "GateLifterModel", name := "readsMany", desc := "(II)I" } : Jvm.MethodName)) ∈ lw_all := lw_g (lw_at lw_m8 210 rfl) rfl
theorem q2054 : (Jvm.Cond.code ({ cls := "GateLifterModel", name := "readsMany", desc := "(II)I" } : Jvm.MethodName) prog_11_method_53_code (5 : Nat) (Option.some Jvm.ClassFile.FieldType.int)) ∈ lw_all := lw_g (lw_at lw_m8 211 rfl) rfl
theorem q2055 : (Jvm.Cond.methodLink "GateLifterModel" (228 : Nat) ({ cls := "GateLifterModel", name := "comma", desc := "()Z" } : Jvm.MethodName)) ∈ lw_all := lw_g (lw_at lw_m8 212 rfl) rfl
theorem q2056 : (Jvm.Cond.privateMethod ({ cls := "GateLifterModel", name := "comma", desc := "()Z" } : Jvm.MethodName)) ∈ lw_tbl := lw_at lw_m8 213 rfl
theorem q2057 : (Jvm.Cond.instanceMethod ({ cls := "GateLifterModel", name := "comma", desc := "()Z" } : Jvm.MethodName)) ∈ lw_all := lw_g (lw_at lw_m8 214 rfl) rfl
theorem q2058 : (Jvm.Cond.code ({ cls := "GateLifterModel", name := "comma", desc := "()Z" } : Jvm.MethodName) prog_11_method_52_code (1 : Nat) (Option.some Jvm.ClassFile.FieldType.boolean)) ∈ lw_all := lw_g (lw_at lw_m8 215 rfl) rfl
theorem q2059 : (Jvm.Cond.stringRef "GateLifterModel" (258 : Nat) "shut") ∈ lw_tbl := lw_at lw_m8 216 rfl
theorem q2060 : (Jvm.Cond.methodLink "GateLifterModel" (260 : Nat) ({ cls := "GateLifterModel", name := "readsTurn", desc := "(I)Z" } : Jvm.MethodName)) ∈ lw_all := lw_g (lw_at lw_m8 217 rfl) rfl
theorem q2061 : (Jvm.Cond.privateMethod ({ cls := "GateLifterModel", name := "readsTurn", desc := "(I)Z" } : Jvm.MethodName)) ∈ lw_tbl := lw_at lw_m8 218 rfl
theorem q2062 : (Jvm.Cond.instanceMethod ({ cls := "GateLifterModel", name := "readsTurn", desc := "(I)Z" } : Jvm.MethodName)) ∈ lw_all := lw_g (lw_at lw_m8 219 rfl) rfl
theorem q2063 : (Jvm.Cond.code ({ cls := "GateLifterModel", name := "readsTurn", desc := "(I)Z" } : Jvm.MethodName) prog_11_method_55_code (4 : Nat) (Option.some Jvm.ClassFile.FieldType.boolean)) ∈ lw_all := lw_g (lw_at lw_m8 220 rfl) rfl
theorem q2064 : (Jvm.Cond.stringRef "GateLifterModel" (263 : Nat) "open") ∈ lw_tbl := lw_at lw_m8 221 rfl
theorem q2065 : (Jvm.Cond.stringRef "GateLifterModel" (265 : Nat) "toll") ∈ lw_tbl := lw_at lw_m8 222 rfl
theorem q2067 : (Jvm.Cond.instanceMethod ({ cls := "GateLifterModel", name := "pass", desc := "(II)I" } : Jvm.MethodName)) ∈ lw_all := lw_g (lw_at lw_m8 224 rfl) rfl
theorem q2068 : (Jvm.Cond.selects "GateLifterModel" ({ cls := "GateLifterModel", name := "pass", desc := "(II)I" } : Jvm.MethodName) ({ cls := "GateLifterModel", name := "pass", desc := "(II)I" } : Jvm.MethodName)) ∈ lw_all := lw_g (lw_at lw_m8 225 rfl) rfl
theorem q2069 : (Jvm.Cond.code ({ cls := "GateLifterModel", name := "pass", desc := "(II)I" } : Jvm.MethodName) prog_11_method_80_code (6 : Nat) (Option.some Jvm.ClassFile.FieldType.int)) ∈ lw_all := lw_g (lw_at lw_m8 226 rfl) rfl
theorem q2070 : (Jvm.Cond.methodLink "GateLifterModel" (303 : Nat) ({ cls := "GateLifterModel", name := "noNode", desc := "(I)Z" } : Jvm.MethodName)) ∈ lw_all := lw_g (lw_at lw_m8 227 rfl) rfl
theorem q2071 : (Jvm.Cond.privateMethod ({ cls := "GateLifterModel", name := "noNode", desc := "(I)Z" } : Jvm.MethodName)) ∈ lw_tbl := lw_at lw_m8 228 rfl
theorem q2072 : (Jvm.Cond.instanceMethod ({ cls := "GateLifterModel", name := "noNode", desc := "(I)Z" } : Jvm.MethodName)) ∈ lw_all := lw_g (lw_at lw_m8 229 rfl) rfl
theorem q2073 : (Jvm.Cond.code ({ cls := "GateLifterModel", name := "noNode", desc := "(I)Z" } : Jvm.MethodName) prog_11_method_60_code (2 : Nat) (Option.some Jvm.ClassFile.FieldType.boolean)) ∈ lw_all := lw_g (lw_at lw_m8 230 rfl) rfl
theorem q2074 : (Jvm.Cond.methodLink "GateLifterModel" (306 : Nat) ({ cls := "GateLifterModel", name := "laysPass", desc := "(I)I" } : Jvm.MethodName)) ∈ lw_all := lw_g (lw_at lw_m8 231 rfl) rfl
theorem q2075 : (Jvm.Cond.privateMethod ({ cls := "GateLifterModel", name := "laysPass", desc := "(I)I" } : Jvm.MethodName)) ∈ lw_tbl := lw_at lw_m8 232 rfl
theorem q2076 : (Jvm.Cond.instanceMethod ({ cls := "GateLifterModel", name := "laysPass", desc := "(I)I" } : Jvm.MethodName)) ∈ lw_all := lw_g (lw_at lw_m8 233 rfl) rfl
theorem q2077 : (Jvm.Cond.code ({ cls := "GateLifterModel", name := "laysPass", desc := "(I)I" } : Jvm.MethodName) prog_11_method_79_code (4 : Nat) (Option.some Jvm.ClassFile.FieldType.int)) ∈ lw_all := lw_g (lw_at lw_m8 234 rfl) rfl
theorem q2079 : (Jvm.Cond.instanceMethod ({ cls := "GateLifterModel", name := "via", desc := "(II)I" } : Jvm.MethodName)) ∈ lw_all := lw_g (lw_at lw_m8 236 rfl) rfl
theorem q2080 : (Jvm.Cond.selects "GateLifterModel" ({ cls := "GateLifterModel", name := "via", desc := "(II)I" } : Jvm.MethodName) ({ cls := "GateLifterModel", name := "via", desc := "(II)I" } : Jvm.MethodName)) ∈ lw_all := lw_g (lw_at lw_m8 237 rfl) rfl
theorem q2081 : (Jvm.Cond.code ({ cls := "GateLifterModel", name := "via", desc := "(II)I" } : Jvm.MethodName) prog_11_method_81_code (5 : Nat) (Option.some Jvm.ClassFile.FieldType.int)) ∈ lw_all := lw_g (lw_at lw_m8 238 rfl) rfl
theorem q2083 : (Jvm.Cond.instanceMethod ({ cls := "GateLifterModel", name := "row", desc := "(I)I" } : Jvm.MethodName)) ∈ lw_all := lw_g (lw_at lw_m9 0 rfl) rfl
theorem q2084 : (Jvm.Cond.selects "GateLifterModel" ({ cls := "GateLifterModel", name := "row", desc := "(I)I" } : Jvm.MethodName) ({ cls := "GateLifterModel", name := "row", desc := "(I)I" } : Jvm.MethodName)) ∈ lw_all := lw_g (lw_at lw_m9 1 rfl) rfl
theorem q2085 : (Jvm.Cond.code ({ cls := "GateLifterModel", name := "row", desc := "(I)I" } : Jvm.MethodName) prog_11_method_82_code (5 : Nat) (Option.some Jvm.ClassFile.FieldType.int)) ∈ lw_all := lw_g (lw_at lw_m9 2 rfl) rfl
theorem q2086 : (Jvm.Cond.methodLink "GateLifterModel" (309 : Nat) ({ cls := "GateLifterModel", name := "nearOf", desc := "(I)I" } : Jvm.MethodName)) ∈ lw_all := lw_g (lw_at lw_m9 3 rfl) rfl
theorem q2087 : (Jvm.Cond.privateMethod ({ cls := "GateLifterModel", name := "nearOf", desc := "(I)I" } : Jvm.MethodName)) ∈ lw_tbl := lw_at lw_m9 4 rfl
theorem q2088 : (Jvm.Cond.instanceMethod ({ cls := "GateLifterModel", name := "nearOf", desc := "(I)I" } : Jvm.MethodName)) ∈ lw_all := lw_g (lw_at lw_m9 5 rfl) rfl
theorem q2089 : (Jvm.Cond.code ({ cls := "GateLifterModel", name := "nearOf", desc := "(I)I" } : Jvm.MethodName) prog_11_method_65_code (6 : Nat) (Option.some Jvm.ClassFile.FieldType.int)) ∈ lw_all := lw_g (lw_at lw_m9 6 rfl) rfl
theorem q2091 : (Jvm.Cond.instanceMethod ({ cls := "GateLifterModel", name := "node", desc := "(II)I" } : Jvm.MethodName)) ∈ lw_all := lw_g (lw_at lw_m9 8 rfl) rfl
theorem q2092 : (Jvm.Cond.selects "GateLifterModel" ({ cls := "GateLifterModel", name := "node", desc := "(II)I" } : Jvm.MethodName) ({ cls := "GateLifterModel", name := "node", desc := "(II)I" } : Jvm.MethodName)) ∈ lw_all := lw_g (lw_at lw_m9 9 rfl) rfl
theorem q2093 : (Jvm.Cond.code ({ cls := "GateLifterModel", name := "node", desc := "(II)I" } : Jvm.MethodName) prog_11_method_83_code (4 : Nat) (Option.some Jvm.ClassFile.FieldType.int)) ∈ lw_all := lw_g (lw_at lw_m9 10 rfl) rfl
theorem q2094 : (Jvm.Cond.methodLink "GateLifterModel" (276 : Nat) ({ cls := "GateLifterModel", name := "keptBy", desc := "(I)I" } : Jvm.MethodName)) ∈ lw_all := lw_g (lw_at lw_m9 11 rfl) rfl
theorem q2095 : (Jvm.Cond.privateMethod ({ cls := "GateLifterModel", name := "keptBy", desc := "(I)I" } : Jvm.MethodName)) ∈ lw_tbl := lw_at lw_m9 12 rfl
theorem q2096 : (Jvm.Cond.instanceMethod ({ cls := "GateLifterModel", name := "keptBy", desc := "(I)I" } : Jvm.MethodName)) ∈ lw_all := lw_g (lw_at lw_m9 13 rfl) rfl
theorem q2097 : (Jvm.Cond.code ({ cls := "GateLifterModel", name := "keptBy", desc := "(I)I" } : Jvm.MethodName) prog_11_method_22_code (4 : Nat) (Option.some Jvm.ClassFile.FieldType.int)) ∈ lw_all := lw_g (lw_at lw_m9 14 rfl) rfl
theorem q2098 : (Jvm.Cond.methodLink "GateLifterModel" (312 : Nat) ({ cls := "GateLifterModel", name := "ownOf", desc := "(I)I" } : Jvm.MethodName)) ∈ lw_all := lw_g (lw_at lw_m9 15 rfl) rfl
theorem q2099 : (Jvm.Cond.privateMethod ({ cls := "GateLifterModel", name := "ownOf", desc := "(I)I" } : Jvm.MethodName)) ∈ lw_tbl := lw_at lw_m9 16 rfl
theorem q2100 : (Jvm.Cond.instanceMethod ({ cls := "GateLifterModel", name := "ownOf", desc := "(I)I" } : Jvm.MethodName)) ∈ lw_all := lw_g (lw_at lw_m9 17 rfl) rfl
theorem q2101 : (Jvm.Cond.code ({ cls := "GateLifterModel", name := "ownOf", desc := "(I)I" } : Jvm.MethodName) prog_11_method_76_code (4 : Nat) (Option.some Jvm.ClassFile.FieldType.int)) ∈ lw_all := lw_g (lw_at lw_m9 18 rfl) rfl
theorem q2102 : (Jvm.Cond.methodLink "GateLifterModel" (315 : Nat) ({ cls := "GateLifterModel", name := "edgeOf", desc := "(I)I" } : Jvm.MethodName)) ∈ lw_all := lw_g (lw_at lw_m9 19 rfl) rfl
theorem q2103 : (Jvm.Cond.privateMethod ({ cls := "GateLifterModel", name := "edgeOf", desc := "(I)I" } : Jvm.MethodName)) ∈ lw_tbl := lw_at lw_m9 20 rfl
theorem q2104 : (Jvm.Cond.instanceMethod ({ cls := "GateLifterModel", name := "edgeOf", desc := "(I)I" } : Jvm.MethodName)) ∈ lw_all := lw_g (lw_at lw_m9 21 rfl) rfl
theorem q2105 : (Jvm.Cond.code ({ cls := "GateLifterModel", name := "edgeOf", desc := "(I)I" } : Jvm.MethodName) prog_11_method_61_code (5 : Nat) (Option.some Jvm.ClassFile.FieldType.int)) ∈ lw_all := lw_g (lw_at lw_m9 22 rfl) rfl
theorem q2106 : (Jvm.Cond.methodLink "GateLifterModel" (279 : Nat) ({ cls := "GateLifterModel", name := "keepsOne", desc := "(II)Z" } : Jvm.MethodName)) ∈ lw_all := lw_g (lw_at lw_m9 23 rfl) rfl
theorem q2107 : (Jvm.Cond.privateMethod ({ cls := "GateLifterModel", name := "keepsOne", desc := "(II)Z" } : Jvm.MethodName)) ∈ lw_tbl := lw_at lw_m9 24 rfl
theorem q2108 : (Jvm.Cond.instanceMethod ({ cls := "GateLifterModel", name := "keepsOne", desc := "(II)Z" } : Jvm.MethodName)) ∈ lw_all := lw_g (lw_at lw_m9 25 rfl) rfl
theorem q2109 : (Jvm.Cond.code ({ cls := "GateLifterModel", name := "keepsOne", desc := "(II)Z" } : Jvm.MethodName) prog_11_method_21_code (3 : Nat) (Option.some Jvm.ClassFile.FieldType.boolean)) ∈ lw_all := lw_g (lw_at lw_m9 26 rfl) rfl
theorem q2110 : (Jvm.Cond.methodLink "GateLifterModel" (288 : Nat) ({ cls := "GateLifterModel", name := "bodyOf", desc := "(I)I" } : Jvm.MethodName)) ∈ lw_all := lw_g (lw_at lw_m9 27 rfl) rfl
theorem q2111 : (Jvm.Cond.privateMethod ({ cls := "GateLifterModel", name := "bodyOf", desc := "(I)I" } : Jvm.MethodName)) ∈ lw_tbl := lw_at lw_m9 28 rfl
theorem q2112 : (Jvm.Cond.instanceMethod ({ cls := "GateLifterModel", name := "bodyOf", desc := "(I)I" } : Jvm.MethodName)) ∈ lw_all := lw_g (lw_at lw_m9 29 rfl) rfl
theorem q2113 : (Jvm.Cond.code ({ cls := "GateLifterModel", name := "bodyOf", desc := "(I)I" } : Jvm.MethodName) prog_11_method_63_code (5 : Nat) (Option.some Jvm.ClassFile.FieldType.int)) ∈ lw_all := lw_g (lw_at lw_m9 30 rfl) rfl
theorem q2114 : (Jvm.Cond.methodLink "GateLifterModel" (282 : Nat) ({ cls := "GateLifterModel", name := "isBack", desc := "(I)Z" } : Jvm.MethodName)) ∈ lw_all := lw_g (lw_at lw_m9 31 rfl) rfl
theorem q2115 : (Jvm.Cond.privateMethod ({ cls := "GateLifterModel", name := "isBack", desc := "(I)Z" } : Jvm.MethodName)) ∈ lw_tbl := lw_at lw_m9 32 rfl
theorem q2116 : (Jvm.Cond.instanceMethod ({ cls := "GateLifterModel", name := "isBack", desc := "(I)Z" } : Jvm.MethodName)) ∈ lw_all := lw_g (lw_at lw_m9 33 rfl) rfl
theorem q2117 : (Jvm.Cond.code ({ cls := "GateLifterModel", name := "isBack", desc := "(I)Z" } : Jvm.MethodName) prog_11_method_62_code (2 : Nat) (Option.some Jvm.ClassFile.FieldType.boolean)) ∈ lw_all := lw_g (lw_at lw_m9 34 rfl) rfl
theorem q2118 : (Jvm.Cond.methodLink "GateLifterModel" (285 : Nat) ({ cls := "GateLifterModel", name := "comers", desc := "(II)I" } : Jvm.MethodName)) ∈ lw_all := lw_g (lw_at lw_m9 35 rfl) rfl
theorem q2119 : (Jvm.Cond.privateMethod ({ cls := "GateLifterModel", name := "comers", desc := "(II)I" } : Jvm.MethodName)) ∈ lw_tbl := lw_at lw_m9 36 rfl
theorem q2120 : (Jvm.Cond.instanceMethod ({ cls := "GateLifterModel", name := "comers", desc := "(II)I" } : Jvm.MethodName)) ∈ lw_all := lw_g (lw_at lw_m9 37 rfl) rfl
theorem q2121 : (Jvm.Cond.code ({ cls := "GateLifterModel", name := "comers", desc := "(II)I" } : Jvm.MethodName) prog_11_method_18_code (6 : Nat) (Option.some Jvm.ClassFile.FieldType.int)) ∈ lw_all := lw_g (lw_at lw_m9 38 rfl) rfl
theorem q2122 : (Jvm.Cond.methodLink "GateLifterModel" (318 : Nat) ({ cls := "GateLifterModel", name := "nestOf", desc := "(I)I" } : Jvm.MethodName)) ∈ lw_all := lw_g (lw_at lw_m9 39 rfl) rfl
theorem q2123 : (Jvm.Cond.privateMethod ({ cls := "GateLifterModel", name := "nestOf", desc := "(I)I" } : Jvm.MethodName)) ∈ lw_tbl := lw_at lw_m9 40 rfl
theorem q2124 : (Jvm.Cond.instanceMethod ({ cls := "GateLifterModel", name := "nestOf", desc := "(I)I" } : Jvm.MethodName)) ∈ lw_all := lw_g (lw_at lw_m9 41 rfl) rfl
theorem q2125 : (Jvm.Cond.code ({ cls := "GateLifterModel", name := "nestOf", desc := "(I)I" } : Jvm.MethodName) prog_11_method_64_code (4 : Nat) (Option.some Jvm.ClassFile.FieldType.int)) ∈ lw_all := lw_g (lw_at lw_m9 42 rfl) rfl
theorem q2126 : (Jvm.Cond.methodLink "GateLifterModel" (321 : Nat) ({ cls := "GateLifterModel", name := "outKeeperOf", desc := "(I)I" } : Jvm.MethodName)) ∈ lw_all := lw_g (lw_at lw_m9 43 rfl) rfl
theorem q2127 : (Jvm.Cond.privateMethod ({ cls := "GateLifterModel", name := "outKeeperOf", desc := "(I)I" } : Jvm.MethodName)) ∈ lw_tbl := lw_at lw_m9 44 rfl
theorem q2128 : (Jvm.Cond.instanceMethod ({ cls := "GateLifterModel", name := "outKeeperOf", desc := "(I)I" } : Jvm.MethodName)) ∈ lw_all := lw_g (lw_at lw_m9 45 rfl) rfl
theorem q2129 : (Jvm.Cond.code ({ cls := "GateLifterModel", name := "outKeeperOf", desc := "(I)I" } : Jvm.MethodName) prog_11_method_68_code (4 : Nat) (Option.some Jvm.ClassFile.FieldType.int)) ∈ lw_all := lw_g (lw_at lw_m9 46 rfl) rfl
theorem q2130 : (Jvm.Cond.methodLink "GateLifterModel" (294 : Nat) ({ cls := "GateLifterModel", name := "outGatesOf", desc := "(I)I" } : Jvm.MethodName)) ∈ lw_all := lw_g (lw_at lw_m9 47 rfl) rfl
theorem q2131 : (Jvm.Cond.privateMethod ({ cls := "GateLifterModel", name := "outGatesOf", desc := "(I)I" } : Jvm.MethodName)) ∈ lw_tbl := lw_at lw_m9 48 rfl
theorem q2132 : (Jvm.Cond.instanceMethod ({ cls := "GateLifterModel", name := "outGatesOf", desc := "(I)I" } : Jvm.MethodName)) ∈ lw_all := lw_g (lw_at lw_m9 49 rfl) rfl
theorem q2133 : (Jvm.Cond.code ({ cls := "GateLifterModel", name := "outGatesOf", desc := "(I)I" } : Jvm.MethodName) prog_11_method_67_code (4 : Nat) (Option.some Jvm.ClassFile.FieldType.int)) ∈ lw_all := lw_g (lw_at lw_m9 50 rfl) rfl
theorem q2134 : (Jvm.Cond.methodLink "GateLifterModel" (291 : Nat) ({ cls := "GateLifterModel", name := "hasWayOut", desc := "(I)Z" } : Jvm.MethodName)) ∈ lw_all := lw_g (lw_at lw_m9 51 rfl) rfl
theorem q2135 : (Jvm.Cond.privateMethod ({ cls := "GateLifterModel", name := "hasWayOut", desc := "(I)Z" } : Jvm.MethodName)) ∈ lw_tbl := lw_at lw_m9 52 rfl
theorem q2136 : (Jvm.Cond.instanceMethod ({ cls := "GateLifterModel", name := "hasWayOut", desc := "(I)Z" } : Jvm.MethodName)) ∈ lw_all := lw_g (lw_at lw_m9 53 rfl) rfl
theorem q2137 : (Jvm.Cond.code ({ cls := "GateLifterModel", name := "hasWayOut", desc := "(I)Z" } : Jvm.MethodName) prog_11_method_66_code (2 : Nat) (Option.some Jvm.ClassFile.FieldType.boolean)) ∈ lw_all := lw_g (lw_at lw_m9 54 rfl) rfl
theorem q2138 : (Jvm.Cond.methodLink "GateLifterModel" (324 : Nat) ({ cls := "GateLifterModel", name := "hardOf", desc := "(I)I" } : Jvm.MethodName)) ∈ lw_all := lw_g (lw_at lw_m9 55 rfl) rfl
theorem q2139 : (Jvm.Cond.privateMethod ({ cls := "GateLifterModel", name := "hardOf", desc := "(I)I" } : Jvm.MethodName)) ∈ lw_tbl := lw_at lw_m9 56 rfl
theorem q2140 : (Jvm.Cond.instanceMethod ({ cls := "GateLifterModel", name := "hardOf", desc := "(I)I" } : Jvm.MethodName)) ∈ lw_all := lw_g (lw_at lw_m9 57 rfl) rfl
theorem q2141 : (Jvm.Cond.code ({ cls := "GateLifterModel", name := "hardOf", desc := "(I)I" } : Jvm.MethodName) prog_11_method_70_code (3 : Nat) (Option.some Jvm.ClassFile.FieldType.int)) ∈ lw_all := lw_g (lw_at lw_m9 58 rfl) rfl
theorem q2142 : (Jvm.Cond.methodLink "GateLifterModel" (297 : Nat) ({ cls := "GateLifterModel", name := "flows", desc := "(I)Z" } : Jvm.MethodName)) ∈ lw_all := lw_g (lw_at lw_m9 59 rfl) rfl
theorem q2143 : (Jvm.Cond.privateMethod ({ cls := "GateLifterModel", name := "flows", desc := "(I)Z" } : Jvm.MethodName)) ∈ lw_tbl := lw_at lw_m9 60 rfl
theorem q2144 : (Jvm.Cond.instanceMethod ({ cls := "GateLifterModel", name := "flows", desc := "(I)Z" } : Jvm.MethodName)) ∈ lw_all := lw_g (lw_at lw_m9 61 rfl) rfl
theorem q2145 : (Jvm.Cond.code ({ cls := "GateLifterModel", name := "flows", desc := "(I)Z" } : Jvm.MethodName) prog_11_method_69_code (8 : Nat) (Option.some Jvm.ClassFile.FieldType.boolean)) ∈ lw_all := lw_g (lw_at lw_m9 62 rfl) rfl
theorem q2146 : (Jvm.Cond.methodLink "GateLifterModel" (327 : Nat) ({ cls := "GateLifterModel", name := "wallOf", desc := "(I)I" } : Jvm.MethodName)) ∈ lw_all := lw_g (lw_at lw_m9 63 rfl) rfl
theorem q2147 : (Jvm.Cond.privateMethod ({ cls := "GateLifterModel", name := "wallOf", desc := "(I)I" } : Jvm.MethodName)) ∈ lw_tbl := lw_at lw_m9 64 rfl
theorem q2148 : (Jvm.Cond.instanceMethod ({ cls := "GateLifterModel", name := "wallOf", desc := "(I)I" } : Jvm.MethodName)) ∈ lw_all := lw_g (lw_at lw_m9 65 rfl) rfl
theorem q2149 : (Jvm.Cond.code ({ cls := "GateLifterModel", name := "wallOf", desc := "(I)I" } : Jvm.MethodName) prog_11_method_71_code (5 : Nat) (Option.some Jvm.ClassFile.FieldType.int)) ∈ lw_all := lw_g (lw_at lw_m9 66 rfl) rfl
theorem q2150 : (Jvm.Cond.methodLink "GateLifterModel" (330 : Nat) ({ cls := "GateLifterModel", name := "feeOf", desc := "(I)I" } : Jvm.MethodName)) ∈ lw_all := lw_g (lw_at lw_m9 67 rfl) rfl
theorem q2151 : (Jvm.Cond.privateMethod ({ cls := "GateLifterModel", name := "feeOf", desc := "(I)I" } : Jvm.MethodName)) ∈ lw_tbl := lw_at lw_m9 68 rfl
theorem q2152 : (Jvm.Cond.instanceMethod ({ cls := "GateLifterModel", name := "feeOf", desc := "(I)I" } : Jvm.MethodName)) ∈ lw_all := lw_g (lw_at lw_m9 69 rfl) rfl
theorem q2153 : (Jvm.Cond.code ({ cls := "GateLifterModel", name := "feeOf", desc := "(I)I" } : Jvm.MethodName) prog_11_method_72_code (4 : Nat) (Option.some Jvm.ClassFile.FieldType.int)) ∈ lw_all := lw_g (lw_at lw_m9 70 rfl) rfl
theorem q2154 : (Jvm.Cond.methodLink "GateLifterModel" (333 : Nat) ({ cls := "GateLifterModel", name := "fareOf", desc := "(I)I" } : Jvm.MethodName)) ∈ lw_all := lw_g (lw_at lw_m9 71 rfl) rfl
theorem q2155 : (Jvm.Cond.privateMethod ({ cls := "GateLifterModel", name := "fareOf", desc := "(I)I" } : Jvm.MethodName)) ∈ lw_tbl := lw_at lw_m9 72 rfl
theorem q2156 : (Jvm.Cond.instanceMethod ({ cls := "GateLifterModel", name := "fareOf", desc := "(I)I" } : Jvm.MethodName)) ∈ lw_all := lw_g (lw_at lw_m9 73 rfl) rfl
theorem q2157 : (Jvm.Cond.code ({ cls := "GateLifterModel", name := "fareOf", desc := "(I)I" } : Jvm.MethodName) prog_11_method_73_code (5 : Nat) (Option.some Jvm.ClassFile.FieldType.int)) ∈ lw_all := lw_g (lw_at lw_m9 74 rfl) rfl
theorem q2158 : (Jvm.Cond.methodLink "GateLifterModel" (336 : Nat) ({ cls := "GateLifterModel", name := "controls", desc := "(I)I" } : Jvm.MethodName)) ∈ lw_all := lw_g (lw_at lw_m9 75 rfl) rfl
theorem q2159 : (Jvm.Cond.privateMethod ({ cls := "GateLifterModel", name := "controls", desc := "(I)I" } : Jvm.MethodName)) ∈ lw_tbl := lw_at lw_m9 76 rfl
theorem q2160 : (Jvm.Cond.instanceMethod ({ cls := "GateLifterModel", name := "controls", desc := "(I)I" } : Jvm.MethodName)) ∈ lw_all := lw_g (lw_at lw_m9 77 rfl) rfl
theorem q2161 : (Jvm.Cond.code ({ cls := "GateLifterModel", name := "controls", desc := "(I)I" } : Jvm.MethodName) prog_11_method_74_code (4 : Nat) (Option.some Jvm.ClassFile.FieldType.int)) ∈ lw_all := lw_g (lw_at lw_m9 78 rfl) rfl
theorem q2162 : (Jvm.Cond.methodLink "GateLifterModel" (339 : Nat) ({ cls := "GateLifterModel", name := "ringOf", desc := "(I)I" } : Jvm.MethodName)) ∈ lw_all := lw_g (lw_at lw_m9 79 rfl) rfl
theorem q2163 : (Jvm.Cond.privateMethod ({ cls := "GateLifterModel", name := "ringOf", desc := "(I)I" } : Jvm.MethodName)) ∈ lw_tbl := lw_at lw_m9 80 rfl
theorem q2164 : (Jvm.Cond.instanceMethod ({ cls := "GateLifterModel", name := "ringOf", desc := "(I)I" } : Jvm.MethodName)) ∈ lw_all := lw_g (lw_at lw_m9 81 rfl) rfl
theorem q2165 : (Jvm.Cond.code ({ cls := "GateLifterModel", name := "ringOf", desc := "(I)I" } : Jvm.MethodName) prog_11_method_75_code (2 : Nat) (Option.some Jvm.ClassFile.FieldType.int)) ∈ lw_all := lw_g (lw_at lw_m9 82 rfl) rfl
theorem q2166 : (Jvm.Cond.methodLink "GateLifterModel" (300 : Nat) ({ cls := "GateLifterModel", name := "innerOf", desc := "(II)I" } : Jvm.MethodName)) ∈ lw_all := lw_g (lw_at lw_m9 83 rfl) rfl
theorem q2167 : (Jvm.Cond.privateMethod ({ cls := "GateLifterModel", name := "innerOf", desc := "(II)I" } : Jvm.MethodName)) ∈ lw_tbl := lw_at lw_m9 84 rfl
theorem q2168 : (Jvm.Cond.instanceMethod ({ cls := "GateLifterModel", name := "innerOf", desc := "(II)I" } : Jvm.MethodName)) ∈ lw_all := lw_g (lw_at lw_m9 85 rfl) rfl
theorem q2169 : (Jvm.Cond.code ({ cls := "GateLifterModel", name := "innerOf", desc := "(II)I" } : Jvm.MethodName) prog_11_method_77_code (8 : Nat) (Option.some Jvm.ClassFile.FieldType.int)) ∈ lw_all := lw_g (lw_at lw_m9 86 rfl) rfl
theorem q2170 : (Jvm.Cond.methodLink "GateLifterModel" (342 : Nat) ({ cls := "GateLifterModel", name := "tiedTo", desc := "(I)I" } : Jvm.MethodName)) ∈ lw_all := lw_g (lw_at lw_m9 87 rfl) rfl
theorem q2171 : (Jvm.Cond.privateMethod ({ cls := "GateLifterModel", name := "tiedTo", desc := "(I)I" } : Jvm.MethodName)) ∈ lw_tbl := lw_at lw_m9 88 rfl
theorem q2172 : (Jvm.Cond.instanceMethod ({ cls := "GateLifterModel", name := "tiedTo", desc := "(I)I" } : Jvm.MethodName)) ∈ lw_all := lw_g (lw_at lw_m9 89 rfl) rfl
theorem q2173 : (Jvm.Cond.code ({ cls := "GateLifterModel", name := "tiedTo", desc := "(I)I" } : Jvm.MethodName) prog_11_method_78_code (5 : Nat) (Option.some Jvm.ClassFile.FieldType.int)) ∈ lw_all := lw_g (lw_at lw_m9 90 rfl) rfl
theorem q2175 : (Jvm.Cond.instanceMethod ({ cls := "GateLifterModel", name := "keeps", desc := "(II)Z" } : Jvm.MethodName)) ∈ lw_all := lw_g (lw_at lw_m9 92 rfl) rfl
theorem q2176 : (Jvm.Cond.selects "GateLifterModel" ({ cls := "GateLifterModel", name := "keeps", desc := "(II)Z" } : Jvm.MethodName) ({ cls := "GateLifterModel", name := "keeps", desc := "(II)Z" } : Jvm.MethodName)) ∈ lw_all := lw_g (lw_at lw_m9 93 rfl) rfl
theorem q2177 : (Jvm.Cond.code ({ cls := "GateLifterModel", name := "keeps", desc := "(II)Z" } : Jvm.MethodName) prog_11_method_84_code (3 : Nat) (Option.some Jvm.ClassFile.FieldType.boolean)) ∈ lw_all := lw_g (lw_at lw_m9 94 rfl) rfl
theorem q2179 : (Jvm.Cond.instanceMethod ({ cls := "GateLifterModel", name := "common", desc := "(II)I" } : Jvm.MethodName)) ∈ lw_all := lw_g (lw_at lw_m9 96 rfl) rfl
theorem q2180 : (Jvm.Cond.selects "GateLifterModel" ({ cls := "GateLifterModel", name := "common", desc := "(II)I" } : Jvm.MethodName) ({ cls := "GateLifterModel", name := "common", desc := "(II)I" } : Jvm.MethodName)) ∈ lw_all := lw_g (lw_at lw_m9 97 rfl) rfl
theorem q2181 : (Jvm.Cond.code ({ cls := "GateLifterModel", name := "common", desc := "(II)I" } : Jvm.MethodName) prog_11_method_85_code (6 : Nat) (Option.some Jvm.ClassFile.FieldType.int)) ∈ lw_all := lw_g (lw_at lw_m9 98 rfl) rfl
theorem q2183 : (Jvm.Cond.instanceMethod ({ cls := "GateLifterModel", name := "walk", desc := "(I)I" } : Jvm.MethodName)) ∈ lw_all := lw_g (lw_at lw_m9 100 rfl) rfl
theorem q2184 : (Jvm.Cond.selects "GateLifterModel" ({ cls := "GateLifterModel", name := "walk", desc := "(I)I" } : Jvm.MethodName) ({ cls := "GateLifterModel", name := "walk", desc := "(I)I" } : Jvm.MethodName)) ∈ lw_all := lw_g (lw_at lw_m9 101 rfl) rfl
theorem q2185 : (Jvm.Cond.code ({ cls := "GateLifterModel", name := "walk", desc := "(I)I" } : Jvm.MethodName) prog_11_method_87_code (4 : Nat) (Option.some Jvm.ClassFile.FieldType.int)) ∈ lw_all := lw_g (lw_at lw_m9 102 rfl) rfl
theorem q2186 : (Jvm.Cond.methodLink "GateLifterModel" (345 : Nat) ({ cls := "GateLifterModel", name := "nextOf", desc := "(I)I" } : Jvm.MethodName)) ∈ lw_all := lw_g (lw_at lw_m9 103 rfl) rfl
theorem q2187 : (Jvm.Cond.privateMethod ({ cls := "GateLifterModel", name := "nextOf", desc := "(I)I" } : Jvm.MethodName)) ∈ lw_tbl := lw_at lw_m9 104 rfl
theorem q2188 : (Jvm.Cond.instanceMethod ({ cls := "GateLifterModel", name := "nextOf", desc := "(I)I" } : Jvm.MethodName)) ∈ lw_all := lw_g (lw_at lw_m9 105 rfl) rfl
theorem q2189 : (Jvm.Cond.code ({ cls := "GateLifterModel", name := "nextOf", desc := "(I)I" } : Jvm.MethodName) prog_11_method_86_code (5 : Nat) (Option.some Jvm.ClassFile.FieldType.int)) ∈ lw_all := lw_g (lw_at lw_m9 106 rfl) rfl
theorem q2191 : (Jvm.Cond.instanceMethod ({ cls := "GateLifterModel", name := "arc", desc := "(II)I" } : Jvm.MethodName)) ∈ lw_all := lw_g (lw_at lw_m9 108 rfl) rfl
theorem q2192 : (Jvm.Cond.selects "GateLifterModel" ({ cls := "GateLifterModel", name := "arc", desc := "(II)I" } : Jvm.MethodName) ({ cls := "GateLifterModel", name := "arc", desc := "(II)I" } : Jvm.MethodName)) ∈ lw_all := lw_g (lw_at lw_m9 109 rfl) rfl
theorem q2193 : (Jvm.Cond.code ({ cls := "GateLifterModel", name := "arc", desc := "(II)I" } : Jvm.MethodName) prog_11_method_90_code (3 : Nat) (Option.some Jvm.ClassFile.FieldType.int)) ∈ lw_all := lw_g (lw_at lw_m9 110 rfl) rfl
theorem q2194 : (Jvm.Cond.methodLink "GateLifterModel" (348 : Nat) ({ cls := "GateLifterModel", name := "kindOf", desc := "(I)I" } : Jvm.MethodName)) ∈ lw_all := lw_g (lw_at lw_m9 111 rfl) rfl
theorem q2195 : (Jvm.Cond.privateMethod ({ cls := "GateLifterModel", name := "kindOf", desc := "(I)I" } : Jvm.MethodName)) ∈ lw_tbl := lw_at lw_m9 112 rfl
theorem q2196 : (Jvm.Cond.instanceMethod ({ cls := "GateLifterModel", name := "kindOf", desc := "(I)I" } : Jvm.MethodName)) ∈ lw_all := lw_g (lw_at lw_m9 113 rfl) rfl
theorem q2197 : (Jvm.Cond.code ({ cls := "GateLifterModel", name := "kindOf", desc := "(I)I" } : Jvm.MethodName) prog_11_method_88_code (2 : Nat) (Option.some Jvm.ClassFile.FieldType.int)) ∈ lw_all := lw_g (lw_at lw_m9 114 rfl) rfl
theorem q2198 : (Jvm.Cond.methodLink "GateLifterModel" (351 : Nat) ({ cls := "GateLifterModel", name := "isBridge", desc := "(I)Z" } : Jvm.MethodName)) ∈ lw_all := lw_g (lw_at lw_m9 115 rfl) rfl
theorem q2199 : (Jvm.Cond.privateMethod ({ cls := "GateLifterModel", name := "isBridge", desc := "(I)Z" } : Jvm.MethodName)) ∈ lw_tbl := lw_at lw_m9 116 rfl
theorem q2200 : (Jvm.Cond.instanceMethod ({ cls := "GateLifterModel", name := "isBridge", desc := "(I)Z" } : Jvm.MethodName)) ∈ lw_all := lw_g (lw_at lw_m9 117 rfl) rfl
theorem q2201 : (Jvm.Cond.code ({ cls := "GateLifterModel", name := "isBridge", desc := "(I)Z" } : Jvm.MethodName) prog_11_method_89_code (2 : Nat) (Option.some Jvm.ClassFile.FieldType.boolean)) ∈ lw_all := lw_g (lw_at lw_m9 118 rfl) rfl
theorem q2203 : (Jvm.Cond.instanceMethod ({ cls := "GateLifterModel", name := "without", desc := "(I)I" } : Jvm.MethodName)) ∈ lw_all := lw_g (lw_at lw_m9 120 rfl) rfl
theorem q2204 : (Jvm.Cond.selects "GateLifterModel" ({ cls := "GateLifterModel", name := "without", desc := "(I)I" } : Jvm.MethodName) ({ cls := "GateLifterModel", name := "without", desc := "(I)I" } : Jvm.MethodName)) ∈ lw_all := lw_g (lw_at lw_m9 121 rfl) rfl
theorem q2205 : (Jvm.Cond.code ({ cls := "GateLifterModel", name := "without", desc := "(I)I" } : Jvm.MethodName) prog_11_method_92_code (2 : Nat) (Option.some Jvm.ClassFile.FieldType.int)) ∈ lw_all := lw_g (lw_at lw_m9 122 rfl) rfl
theorem q2206 : (Jvm.Cond.methodLink "GateLifterModel" (354 : Nat) ({ cls := "GateLifterModel", name := "sealedBy", desc := "(I)I" } : Jvm.MethodName)) ∈ lw_all := lw_g (lw_at lw_m9 123 rfl) rfl
theorem q2207 : (Jvm.Cond.privateMethod ({ cls := "GateLifterModel", name := "sealedBy", desc := "(I)I" } : Jvm.MethodName)) ∈ lw_tbl := lw_at lw_m9 124 rfl
theorem q2208 : (Jvm.Cond.instanceMethod ({ cls := "GateLifterModel", name := "sealedBy", desc := "(I)I" } : Jvm.MethodName)) ∈ lw_all := lw_g (lw_at lw_m9 125 rfl) rfl
theorem q2209 : (Jvm.Cond.code ({ cls := "GateLifterModel", name := "sealedBy", desc := "(I)I" } : Jvm.MethodName) prog_11_method_91_code (2 : Nat) (Option.some Jvm.ClassFile.FieldType.int)) ∈ lw_all := lw_g (lw_at lw_m9 126 rfl) rfl
theorem q2211 : (Jvm.Cond.instanceMethod ({ cls := "GateLifterModel", name := "seal", desc := "(I)I" } : Jvm.MethodName)) ∈ lw_all := lw_g (lw_at lw_m9 128 rfl) rfl
theorem q2212 : (Jvm.Cond.selects "GateLifterModel" ({ cls := "GateLifterModel", name := "seal", desc := "(I)I" } : Jvm.MethodName) ({ cls := "GateLifterModel", name := "seal", desc := "(I)I" } : Jvm.MethodName)) ∈ lw_all := lw_g (lw_at lw_m9 129 rfl) rfl
theorem q2213 : (Jvm.Cond.code ({ cls := "GateLifterModel", name := "seal", desc := "(I)I" } : Jvm.MethodName) prog_11_method_93_code (2 : Nat) (Option.some Jvm.ClassFile.FieldType.int)) ∈ lw_all := lw_g (lw_at lw_m9 130 rfl) rfl
theorem q2215 : (Jvm.Cond.instanceMethod ({ cls := "GateLifterModel", name := "chain", desc := "(II)I" } : Jvm.MethodName)) ∈ lw_all := lw_g (lw_at lw_m9 132 rfl) rfl
theorem q2216 : (Jvm.Cond.selects "GateLifterModel" ({ cls := "GateLifterModel", name := "chain", desc := "(II)I" } : Jvm.MethodName) ({ cls := "GateLifterModel", name := "chain", desc := "(II)I" } : Jvm.MethodName)) ∈ lw_all := lw_g (lw_at lw_m9 133 rfl) rfl
theorem q2217 : (Jvm.Cond.code ({ cls := "GateLifterModel", name := "chain", desc := "(II)I" } : Jvm.MethodName) prog_11_method_95_code (3 : Nat) (Option.some Jvm.ClassFile.FieldType.int)) ∈ lw_all := lw_g (lw_at lw_m9 134 rfl) rfl
theorem q2218 : (Jvm.Cond.methodLink "GateLifterModel" (357 : Nat) ({ cls := "GateLifterModel", name := "chainOf", desc := "(II)I" } : Jvm.MethodName)) ∈ lw_all := lw_g (lw_at lw_m9 135 rfl) rfl
theorem q2219 : (Jvm.Cond.privateMethod ({ cls := "GateLifterModel", name := "chainOf", desc := "(II)I" } : Jvm.MethodName)) ∈ lw_tbl := lw_at lw_m9 136 rfl
theorem q2220 : (Jvm.Cond.instanceMethod ({ cls := "GateLifterModel", name := "chainOf", desc := "(II)I" } : Jvm.MethodName)) ∈ lw_all := lw_g (lw_at lw_m9 137 rfl) rfl
theorem q2221 : (Jvm.Cond.code ({ cls := "GateLifterModel", name := "chainOf", desc := "(II)I" } : Jvm.MethodName) prog_11_method_94_code (4 : Nat) (Option.some Jvm.ClassFile.FieldType.int)) ∈ lw_all := lw_g (lw_at lw_m9 138 rfl) rfl
theorem q2223 : (Jvm.Cond.instanceMethod ({ cls := "GateLifterModel", name := "level", desc := "(I)I" } : Jvm.MethodName)) ∈ lw_all := lw_g (lw_at lw_m9 140 rfl) rfl
theorem q2224 : (Jvm.Cond.selects "GateLifterModel" ({ cls := "GateLifterModel", name := "level", desc := "(I)I" } : Jvm.MethodName) ({ cls := "GateLifterModel", name := "level", desc := "(I)I" } : Jvm.MethodName)) ∈ lw_all := lw_g (lw_at lw_m9 141 rfl) rfl
theorem q2225 : (Jvm.Cond.code ({ cls := "GateLifterModel", name := "level", desc := "(I)I" } : Jvm.MethodName) prog_11_method_97_code (2 : Nat) (Option.some Jvm.ClassFile.FieldType.int)) ∈ lw_all := lw_g (lw_at lw_m9 142 rfl) rfl
theorem q2226 : (Jvm.Cond.methodLink "GateLifterModel" (360 : Nat) ({ cls := "GateLifterModel", name := "levelOf", desc := "(I)I" } : Jvm.MethodName)) ∈ lw_all := lw_g (lw_at lw_m9 143 rfl) rfl
theorem q2227 : (Jvm.Cond.privateMethod ({ cls := "GateLifterModel", name := "levelOf", desc := "(I)I" } : Jvm.MethodName)) ∈ lw_tbl := lw_at lw_m9 144 rfl
theorem q2228 : (Jvm.Cond.instanceMethod ({ cls := "GateLifterModel", name := "levelOf", desc := "(I)I" } : Jvm.MethodName)) ∈ lw_all := lw_g (lw_at lw_m9 145 rfl) rfl
theorem q2229 : (Jvm.Cond.code ({ cls := "GateLifterModel", name := "levelOf", desc := "(I)I" } : Jvm.MethodName) prog_11_method_96_code (4 : Nat) (Option.some Jvm.ClassFile.FieldType.int)) ∈ lw_all := lw_g (lw_at lw_m9 146 rfl) rfl
theorem q2231 : (Jvm.Cond.instanceMethod ({ cls := "GateLifterModel", name := "worst", desc := "(I)I" } : Jvm.MethodName)) ∈ lw_all := lw_g (lw_at lw_m9 148 rfl) rfl
theorem q2232 : (Jvm.Cond.selects "GateLifterModel" ({ cls := "GateLifterModel", name := "worst", desc := "(I)I" } : Jvm.MethodName) ({ cls := "GateLifterModel", name := "worst", desc := "(I)I" } : Jvm.MethodName)) ∈ lw_all := lw_g (lw_at lw_m9 149 rfl) rfl
theorem q2233 : (Jvm.Cond.code ({ cls := "GateLifterModel", name := "worst", desc := "(I)I" } : Jvm.MethodName) prog_11_method_98_code (6 : Nat) (Option.some Jvm.ClassFile.FieldType.int)) ∈ lw_all := lw_g (lw_at lw_m9 150 rfl) rfl
theorem q2235 : (Jvm.Cond.instanceMethod ({ cls := "GateLifterModel", name := "fall", desc := "(II)I" } : Jvm.MethodName)) ∈ lw_all := lw_g (lw_at lw_m9 152 rfl) rfl
theorem q2236 : (Jvm.Cond.selects "GateLifterModel" ({ cls := "GateLifterModel", name := "fall", desc := "(II)I" } : Jvm.MethodName) ({ cls := "GateLifterModel", name := "fall", desc := "(II)I" } : Jvm.MethodName)) ∈ lw_all := lw_g (lw_at lw_m9 153 rfl) rfl
theorem q2237 : (Jvm.Cond.code ({ cls := "GateLifterModel", name := "fall", desc := "(II)I" } : Jvm.MethodName) prog_11_method_102_code (3 : Nat) (Option.some Jvm.ClassFile.FieldType.int)) ∈ lw_all := lw_g (lw_at lw_m9 154 rfl) rfl
theorem q2238 : (Jvm.Cond.methodLink "GateLifterModel" (378 : Nat) ({ cls := "GateLifterModel", name := "triesWithout", desc := "(I)V" } : Jvm.MethodName)) ∈ lw_all := lw_g (lw_at lw_m9 155 rfl) rfl
theorem q2239 : (Jvm.Cond.privateMethod ({ cls := "GateLifterModel", name := "triesWithout", desc := "(I)V" } : Jvm.MethodName)) ∈ lw_tbl := lw_at lw_m9 156 rfl
theorem q2240 : (Jvm.Cond.instanceMethod ({ cls := "GateLifterModel", name := "triesWithout", desc := "(I)V" } : Jvm.MethodName)) ∈ lw_all := lw_g (lw_at lw_m9 157 rfl) rfl
theorem q2241 : (Jvm.Cond.code ({ cls := "GateLifterModel", name := "triesWithout", desc := "(I)V" } : Jvm.MethodName) prog_11_method_101_code (2 : Nat) (Option.none : Option Jvm.ClassFile.FieldType)) ∈ lw_all := lw_g (lw_at lw_m9 158 rfl) rfl
theorem q2242 : (Jvm.Cond.methodLink "GateLifterModel" (363 : Nat) ({ cls := "GateLifterModel", name := "differs", desc := "()V" } : Jvm.MethodName)) ∈ lw_all := lw_g (lw_at lw_m9 159 rfl) rfl
theorem q2243 : (Jvm.Cond.privateMethod ({ cls := "GateLifterModel", name := "differs", desc := "()V" } : Jvm.MethodName)) ∈ lw_tbl := lw_at lw_m9 160 rfl
theorem q2244 : (Jvm.Cond.instanceMethod ({ cls := "GateLifterModel", name := "differs", desc := "()V" } : Jvm.MethodName)) ∈ lw_all := lw_g (lw_at lw_m9 161 rfl) rfl
theorem q2245 : (Jvm.Cond.code ({ cls := "GateLifterModel", name := "differs", desc := "()V" } : Jvm.MethodName) prog_11_method_100_code (2 : Nat) (Option.none : Option Jvm.ClassFile.FieldType)) ∈ lw_all := lw_g (lw_at lw_m9 162 rfl) rfl
theorem q2247 : (Jvm.Cond.instanceMethod ({ cls := "GateLifterModel", name := "would", desc := "(III)I" } : Jvm.MethodName)) ∈ lw_all := lw_g (lw_at lw_m9 164 rfl) rfl
theorem q2248 : (Jvm.Cond.selects "GateLifterModel" ({ cls := "GateLifterModel", name := "would", desc := "(III)I" } : Jvm.MethodName) ({ cls := "GateLifterModel", name := "would", desc := "(III)I" } : Jvm.MethodName)) ∈ lw_all := lw_g (lw_at lw_m9 165 rfl) rfl
theorem q2249 : (Jvm.Cond.code ({ cls := "GateLifterModel", name := "would", desc := "(III)I" } : Jvm.MethodName) prog_11_method_104_code (4 : Nat) (Option.some Jvm.ClassFile.FieldType.int)) ∈ lw_all := lw_g (lw_at lw_m9 166 rfl) rfl
theorem q2250 : (Jvm.Cond.methodLink "GateLifterModel" (381 : Nat) ({ cls := "GateLifterModel", name := "tries", desc := "(II)V" } : Jvm.MethodName)) ∈ lw_all := lw_g (lw_at lw_m9 167 rfl) rfl
theorem q2251 : (Jvm.Cond.privateMethod ({ cls := "GateLifterModel", name := "tries", desc := "(II)V" } : Jvm.MethodName)) ∈ lw_tbl := lw_at lw_m9 168 rfl
theorem q2252 : (Jvm.Cond.instanceMethod ({ cls := "GateLifterModel", name := "tries", desc := "(II)V" } : Jvm.MethodName)) ∈ lw_all := lw_g (lw_at lw_m9 169 rfl) rfl
theorem q2253 : (Jvm.Cond.code ({ cls := "GateLifterModel", name := "tries", desc := "(II)V" } : Jvm.MethodName) prog_11_method_99_code (3 : Nat) (Option.none : Option Jvm.ClassFile.FieldType)) ∈ lw_all := lw_g (lw_at lw_m9 170 rfl) rfl
theorem q2255 : (Jvm.Cond.instanceMethod ({ cls := "GateLifterModel", name := "best", desc := "(I)I" } : Jvm.MethodName)) ∈ lw_all := lw_g (lw_at lw_m9 172 rfl) rfl
theorem q2256 : (Jvm.Cond.selects "GateLifterModel" ({ cls := "GateLifterModel", name := "best", desc := "(I)I" } : Jvm.MethodName) ({ cls := "GateLifterModel", name := "best", desc := "(I)I" } : Jvm.MethodName)) ∈ lw_all := lw_g (lw_at lw_m9 173 rfl) rfl
theorem q2257 : (Jvm.Cond.code ({ cls := "GateLifterModel", name := "best", desc := "(I)I" } : Jvm.MethodName) prog_11_method_105_code (7 : Nat) (Option.some Jvm.ClassFile.FieldType.int)) ∈ lw_all := lw_g (lw_at lw_m9 174 rfl) rfl
theorem q2259 : (Jvm.Cond.instanceMethod ({ cls := "GateLifterModel", name := "text", desc := "(I)I" } : Jvm.MethodName)) ∈ lw_all := lw_g (lw_at lw_m9 176 rfl) rfl
theorem q2260 : (Jvm.Cond.selects "GateLifterModel" ({ cls := "GateLifterModel", name := "text", desc := "(I)I" } : Jvm.MethodName) ({ cls := "GateLifterModel", name := "text", desc := "(I)I" } : Jvm.MethodName)) ∈ lw_all := lw_g (lw_at lw_m9 177 rfl) rfl
theorem q2261 : (Jvm.Cond.code ({ cls := "GateLifterModel", name := "text", desc := "(I)I" } : Jvm.MethodName) prog_11_method_107_code (4 : Nat) (Option.some Jvm.ClassFile.FieldType.int)) ∈ lw_all := lw_g (lw_at lw_m9 178 rfl) rfl
theorem q2262 : (Jvm.Cond.methodLink "GateLifterModel" (388 : Nat) ({ cls := "GateLifterModel", name := "writes", desc := "(I)V" } : Jvm.MethodName)) ∈ lw_all := lw_g (lw_at lw_m9 179 rfl) rfl
theorem q2263 : (Jvm.Cond.privateMethod ({ cls := "GateLifterModel", name := "writes", desc := "(I)V" } : Jvm.MethodName)) ∈ lw_tbl := lw_at lw_m9 180 rfl
theorem q2264 : (Jvm.Cond.instanceMethod ({ cls := "GateLifterModel", name := "writes", desc := "(I)V" } : Jvm.MethodName)) ∈ lw_all := lw_g (lw_at lw_m9 181 rfl) rfl
theorem q2265 : (Jvm.Cond.code ({ cls := "GateLifterModel", name := "writes", desc := "(I)V" } : Jvm.MethodName) prog_11_method_106_code (2 : Nat) (Option.none : Option Jvm.ClassFile.FieldType)) ∈ lw_all := lw_g (lw_at lw_m9 182 rfl) rfl
theorem q2267 : (Jvm.Cond.instanceMethod ({ cls := "GateLifterModel", name := "octet", desc := "(I)I" } : Jvm.MethodName)) ∈ lw_all := lw_g (lw_at lw_m9 184 rfl) rfl
theorem q2268 : (Jvm.Cond.selects "GateLifterModel" ({ cls := "GateLifterModel", name := "octet", desc := "(I)I" } : Jvm.MethodName) ({ cls := "GateLifterModel", name := "octet", desc := "(I)I" } : Jvm.MethodName)) ∈ lw_all := lw_g (lw_at lw_m9 185 rfl) rfl
theorem q2269 : (Jvm.Cond.code ({ cls := "GateLifterModel", name := "octet", desc := "(I)I" } : Jvm.MethodName) prog_11_method_108_code (2 : Nat) (Option.some Jvm.ClassFile.FieldType.int)) ∈ lw_all := lw_g (lw_at lw_m9 186 rfl) rfl
theorem q2271 : (Jvm.Cond.instanceMethod ({ cls := "GateLifterModel", name := "count", desc := "(I)I" } : Jvm.MethodName)) ∈ lw_all := lw_g (lw_at lw_m9 188 rfl) rfl
theorem q2272 : (Jvm.Cond.selects "GateLifterModel" ({ cls := "GateLifterModel", name := "count", desc := "(I)I" } : Jvm.MethodName) ({ cls := "GateLifterModel", name := "count", desc := "(I)I" } : Jvm.MethodName)) ∈ lw_all := lw_g (lw_at lw_m9 189 rfl) rfl
theorem q2273 : (Jvm.Cond.code ({ cls := "GateLifterModel", name := "count", desc := "(I)I" } : Jvm.MethodName) prog_11_method_120_code (2 : Nat) (Option.some Jvm.ClassFile.FieldType.int)) ∈ lw_all := lw_g (lw_at lw_m9 190 rfl) rfl
theorem q2274 : (Jvm.Cond.methodLink "GateLifterModel" (399 : Nat) ({ cls := "GateLifterModel", name := "openOnes", desc := "()I" } : Jvm.MethodName)) ∈ lw_all := lw_g (lw_at lw_m9 191 rfl) rfl
theorem q2275 : (Jvm.Cond.privateMethod ({ cls := "GateLifterModel", name := "openOnes", desc := "()I" } : Jvm.MethodName)) ∈ lw_tbl := lw_at lw_m9 192 rfl
theorem q2276 : (Jvm.Cond.instanceMethod ({ cls := "GateLifterModel", name := "openOnes", desc := "()I" } : Jvm.MethodName)) ∈ lw_all := lw_g (lw_at lw_m9 193 rfl) rfl
theorem q2277 : (Jvm.Cond.code ({ cls := "GateLifterModel", name := "openOnes", desc := "()I" } : Jvm.MethodName) prog_11_method_109_code (3 : Nat) (Option.some Jvm.ClassFile.FieldType.int)) ∈ lw_all := lw_g (lw_at lw_m9 194 rfl) rfl
theorem q2278 : (Jvm.Cond.methodLink "GateLifterModel" (402 : Nat) ({ cls := "GateLifterModel", name := "depths", desc := "(Z)I" } : Jvm.MethodName)) ∈ lw_all := lw_g (lw_at lw_m9 195 rfl) rfl
theorem q2279 : (Jvm.Cond.privateMethod ({ cls := "GateLifterModel", name := "depths", desc := "(Z)I" } : Jvm.MethodName)) ∈ lw_tbl := lw_at lw_m9 196 rfl
theorem q2280 : (Jvm.Cond.instanceMethod ({ cls := "GateLifterModel", name := "depths", desc := "(Z)I" } : Jvm.MethodName)) ∈ lw_all := lw_g (lw_at lw_m9 197 rfl) rfl
theorem q2281 : (Jvm.Cond.code ({ cls := "GateLifterModel", name := "depths", desc := "(Z)I" } : Jvm.MethodName) prog_11_method_113_code (4 : Nat) (Option.some Jvm.ClassFile.FieldType.int)) ∈ lw_all := lw_g (lw_at lw_m9 198 rfl) rfl
theorem q2282 : (Jvm.Cond.methodLink "GateLifterModel" (391 : Nat) ({ cls := "java/lang/Math", name := "max", desc := "(II)I" } : Jvm.MethodName)) ∈ lw_all := lw_g (lw_at lw_m9 199 rfl) rfl
theorem q2283 : (Jvm.Cond.methodLink "GateLifterModel" (406 : Nat) ({ cls := "GateLifterModel", name := "heads", desc := "()I" } : Jvm.MethodName)) ∈ lw_all := lw_g (lw_at lw_m9 200 rfl) rfl
theorem q2284 : (Jvm.Cond.privateMethod ({ cls := "GateLifterModel", name := "heads", desc := "()I" } : Jvm.MethodName)) ∈ lw_tbl := lw_at lw_m9 201 rfl
theorem q2285 : (Jvm.Cond.instanceMethod ({ cls := "GateLifterModel", name := "heads", desc := "()I" } : Jvm.MethodName)) ∈ lw_all := lw_g (lw_at lw_m9 202 rfl) rfl
theorem q2286 : (Jvm.Cond.code ({ cls := "GateLifterModel", name := "heads", desc := "()I" } : Jvm.MethodName) prog_11_method_110_code (3 : Nat) (Option.some Jvm.ClassFile.FieldType.int)) ∈ lw_all := lw_g (lw_at lw_m9 203 rfl) rfl
theorem q2287 : (Jvm.Cond.methodLink "GateLifterModel" (409 : Nat) ({ cls := "GateLifterModel", name := "manyArcs", desc := "(Z)I" } : Jvm.MethodName)) ∈ lw_all := lw_g (lw_at lw_m9 204 rfl) rfl
theorem q2288 : (Jvm.Cond.privateMethod ({ cls := "GateLifterModel", name := "manyArcs", desc := "(Z)I" } : Jvm.MethodName)) ∈ lw_tbl := lw_at lw_m9 205 rfl
theorem q2289 : (Jvm.Cond.instanceMethod ({ cls := "GateLifterModel", name := "manyArcs", desc := "(Z)I" } : Jvm.MethodName)) ∈ lw_all := lw_g (lw_at lw_m9 206 rfl) rfl
theorem q2290 : (Jvm.Cond.code ({ cls := "GateLifterModel", name := "manyArcs", desc := "(Z)I" } : Jvm.MethodName) prog_11_method_111_code (4 : Nat) (Option.some Jvm.ClassFile.FieldType.int)) ∈ lw_all := lw_g (lw_at lw_m9 207 rfl) rfl
theorem q2291 : (Jvm.Cond.methodLink "GateLifterModel" (412 : Nat) ({ cls := "GateLifterModel", name := "isSound", desc := "()Z" } : Jvm.MethodName)) ∈ lw_all := lw_g (lw_at lw_m9 208 rfl) rfl
theorem q2292 : (Jvm.Cond.privateMethod ({ cls := "GateLifterModel", name := "isSound", desc := "()Z" } : Jvm.MethodName)) ∈ lw_tbl := lw_at lw_m9 209 rfl
theorem q2293 : (Jvm.Cond.instanceMethod ({ cls := "GateLifterModel", name := "isSound", desc := "()Z" } : Jvm.MethodName)) ∈ lw_all := lw_g (lw_at lw_m9 210 rfl) rfl
theorem q2294 : (Jvm.Cond.code ({ cls := "GateLifterModel", name := "isSound", desc := "()Z" } : Jvm.MethodName) prog_11_method_112_code (5 : Nat) (Option.some Jvm.ClassFile.FieldType.boolean)) ∈ lw_all := lw_g (lw_at lw_m9 211 rfl) rfl
theorem q2295 : (Jvm.Cond.methodLink "GateLifterModel" (415 : Nat) ({ cls := "GateLifterModel", name := "leaves", desc := "()I" } : Jvm.MethodName)) ∈ lw_all := lw_g (lw_at lw_m9 212 rfl) rfl
theorem q2296 : (Jvm.Cond.privateMethod ({ cls := "GateLifterModel", name := "leaves", desc := "()I" } : Jvm.MethodName)) ∈ lw_tbl := lw_at lw_m9 213 rfl
theorem q2297 : (Jvm.Cond.instanceMethod ({ cls := "GateLifterModel", name := "leaves", desc := "()I" } : Jvm.MethodName)) ∈ lw_all := lw_g (lw_at lw_m9 214 rfl) rfl
theorem q2298 : (Jvm.Cond.code ({ cls := "GateLifterModel", name := "leaves", desc := "()I" } : Jvm.MethodName) prog_11_method_114_code (3 : Nat) (Option.some Jvm.ClassFile.FieldType.int)) ∈ lw_all := lw_g (lw_at lw_m9 215 rfl) rfl
theorem q2299 : (Jvm.Cond.methodLink "GateLifterModel" (418 : Nat) ({ cls := "GateLifterModel", name := "mostNest", desc := "()I" } : Jvm.MethodName)) ∈ lw_all := lw_g (lw_at lw_m9 216 rfl) rfl
theorem q2300 : (Jvm.Cond.privateMethod ({ cls := "GateLifterModel", name := "mostNest", desc := "()I" } : Jvm.MethodName)) ∈ lw_tbl := lw_at lw_m9 217 rfl
theorem q2301 : (Jvm.Cond.instanceMethod ({ cls := "GateLifterModel", name := "mostNest", desc := "()I" } : Jvm.MethodName)) ∈ lw_all := lw_g (lw_at lw_m9 218 rfl) rfl
theorem q2302 : (Jvm.Cond.code ({ cls := "GateLifterModel", name := "mostNest", desc := "()I" } : Jvm.MethodName) prog_11_method_115_code (3 : Nat) (Option.some Jvm.ClassFile.FieldType.int)) ∈ lw_all := lw_g (lw_at lw_m9 219 rfl) rfl
theorem q2303 : (Jvm.Cond.methodLink "GateLifterModel" (421 : Nat) ({ cls := "GateLifterModel", name := "spans", desc := "()I" } : Jvm.MethodName)) ∈ lw_all := lw_g (lw_at lw_m9 220 rfl) rfl
theorem q2304 : (Jvm.Cond.privateMethod ({ cls := "GateLifterModel", name := "spans", desc := "()I" } : Jvm.MethodName)) ∈ lw_tbl := lw_at lw_m9 221 rfl
theorem q2305 : (Jvm.Cond.instanceMethod ({ cls := "GateLifterModel", name := "spans", desc := "()I" } : Jvm.MethodName)) ∈ lw_all := lw_g (lw_at lw_m9 222 rfl) rfl
theorem q2306 : (Jvm.Cond.code ({ cls := "GateLifterModel", name := "spans", desc := "()I" } : Jvm.MethodName) prog_11_method_116_code (3 : Nat) (Option.some Jvm.ClassFile.FieldType.int)) ∈ lw_all := lw_g (lw_at lw_m9 223 rfl) rfl
theorem q2307 : (Jvm.Cond.methodLink "GateLifterModel" (396 : Nat) ({ cls := "GateLifterModel", name := "outGates", desc := "(I)I" } : Jvm.MethodName)) ∈ lw_all := lw_g (lw_at lw_m9 224 rfl) rfl
theorem q2308 : (Jvm.Cond.privateMethod ({ cls := "GateLifterModel", name := "outGates", desc := "(I)I" } : Jvm.MethodName)) ∈ lw_tbl := lw_at lw_m9 225 rfl
theorem q2309 : (Jvm.Cond.instanceMethod ({ cls := "GateLifterModel", name := "outGates", desc := "(I)I" } : Jvm.MethodName)) ∈ lw_all := lw_g (lw_at lw_m9 226 rfl) rfl
theorem q2310 : (Jvm.Cond.code ({ cls := "GateLifterModel", name := "outGates", desc := "(I)I" } : Jvm.MethodName) prog_11_method_117_code (2 : Nat) (Option.some Jvm.ClassFile.FieldType.int)) ∈ lw_all := lw_g (lw_at lw_m9 227 rfl) rfl
theorem q2311 : (Jvm.Cond.methodLink "GateLifterModel" (424 : Nat) ({ cls := "GateLifterModel", name := "rings", desc := "()I" } : Jvm.MethodName)) ∈ lw_all := lw_g (lw_at lw_m9 228 rfl) rfl
theorem q2312 : (Jvm.Cond.privateMethod ({ cls := "GateLifterModel", name := "rings", desc := "()I" } : Jvm.MethodName)) ∈ lw_tbl := lw_at lw_m9 229 rfl
theorem q2313 : (Jvm.Cond.instanceMethod ({ cls := "GateLifterModel", name := "rings", desc := "()I" } : Jvm.MethodName)) ∈ lw_all := lw_g (lw_at lw_m9 230 rfl) rfl
theorem q2314 : (Jvm.Cond.code ({ cls := "GateLifterModel", name := "rings", desc := "()I" } : Jvm.MethodName) prog_11_method_118_code (3 : Nat) (Option.some Jvm.ClassFile.FieldType.int)) ∈ lw_all := lw_g (lw_at lw_m9 231 rfl) rfl
theorem q2315 : (Jvm.Cond.methodLink "GateLifterModel" (427 : Nat) ({ cls := "GateLifterModel", name := "tolls", desc := "()I" } : Jvm.MethodName)) ∈ lw_all := lw_g (lw_at lw_m9 232 rfl) rfl
theorem q2316 : (Jvm.Cond.privateMethod ({ cls := "GateLifterModel", name := "tolls", desc := "()I" } : Jvm.MethodName)) ∈ lw_tbl := lw_at lw_m9 233 rfl
theorem q2317 : (Jvm.Cond.instanceMethod ({ cls := "GateLifterModel", name := "tolls", desc := "()I" } : Jvm.MethodName)) ∈ lw_all := lw_g (lw_at lw_m9 234 rfl) rfl
theorem q2318 : (Jvm.Cond.code ({ cls := "GateLifterModel", name := "tolls", desc := "()I" } : Jvm.MethodName) prog_11_method_119_code (3 : Nat) (Option.some Jvm.ClassFile.FieldType.int)) ∈ lw_all := lw_g (lw_at lw_m9 235 rfl) rfl
theorem q2319 : (Jvm.Cond.methodLink "GateLifterModel" (430 : Nat) ({ cls := "GateLifterModel", name := "spareOnes", desc := "()I" } : Jvm.MethodName)) ∈ lw_all := lw_g (lw_at lw_m9 236 rfl) rfl
theorem q2320 : (Jvm.Cond.privateMethod ({ cls := "GateLifterModel", name := "spareOnes", desc := "()I" } : Jvm.MethodName)) ∈ lw_tbl := lw_at lw_m9 237 rfl
theorem q2321 : (Jvm.Cond.instanceMethod ({ cls := "GateLifterModel", name := "spareOnes", desc := "()I" } : Jvm.MethodName)) ∈ lw_all := lw_g (lw_at lw_m9 238 rfl) rfl
theorem q2322 : (Jvm.Cond.code ({ cls := "GateLifterModel", name := "spareOnes", desc := "()I" } : Jvm.MethodName) prog_11_method_103_code (3 : Nat) (Option.some Jvm.ClassFile.FieldType.int)) ∈ lw_all := lw_g (lw_at lw_m9 239 rfl) rfl
theorem q2346 : (Jvm.Cond.castable "GateLifterModel" "java/lang/Object") ∈ lw_tbl := lw_at lw_m10 23 rfl
theorem in_X7 : ∀ w ∈ wsX70, w ∈ lw_all := lw_in wsX70 [1754, 1756, 1758, 1760, 1762, 1764, 1766, 1768, 1770, 1772, 1774, 1776, 1778, 1780, 1782, 1784, 1786, 1788, 1790, 1792, 1794, 1796, 1798, 1800, 1802, 1804, 1806, 1808, 1810, 1812, 1814, 1816, 1818, 1820, 1822, 1824, 1826, 1828, 1830, 1832, 1834, 1836] (by decide +kernel) (by decide +kernel)
