/-! GateLifter$Tree -/
set_option maxRecDepth 100000
def RX5 : String := "GateLifter$Tree"
def TX5 : u_T := fun k => match k with
  | 0 => ("GateLifter$Tree", "keeper", "[I", true)
  | 1 => ("GateLifter$Tree", "depth", "[I", true)
  | 2 => ("GateLifter$Tree", "rows", "[I", true)
  | 3 => ("GateLifter$Tree", "waiting", "[I", true)
  | 4 => ("GateLifter$Tree", "sets", "[I", true)
  | 5 => ("GateLifter$Tree", "nodes", "I", false)
  | 6 => ("GateLifter$Tree", "root", "I", false)
  | 7 => ("GateLifter$Tree", "reached", "I", false)
  | 8 => ("GateLifter$Tree", "moved", "I", false)
  | _ => ("GateLifter$Tree", "seen", "I", false)
def tyX5 : Nat → FieldType := fun k => match k with
  | 0 => .array .int
  | 1 => .array .int
  | 2 => .array .int
  | 3 => .array .int
  | 4 => .array .int
  | 5 => .int
  | 6 => .int
  | 7 => .int
  | 8 => .int
  | _ => .int
abbrev wsX50 : List Cond := u_ws RX5 TX5 10
theorem nmX5 : ∀ a, a < 10 → ∀ b, b < 10 → a ≠ b → (TX5 a).2.1 ≠ (TX5 b).2.1 := by decide +kernel
theorem tyX5_ok : ∀ k, k < 10 → parseFieldDescriptor (TX5 k).2.2.1 = some (tyX5 k) := by decide +kernel
abbrev cX5_init : ByteArray := prog_7_method_1_code
def yX5_init : MethodName := ⟨RX5, "<init>", "()V"⟩
def dkwX5_init_1 : List UInt8 := [188, 10, 181, 0, 18, 42, 16, 16, 188, 10, 181, 0, 21, 42, 16, 16, 188, 10, 181, 0, 24, 177]
abbrev dktX5_init_1 : List UInt8 := dkwX5_init_1 ++ []
def dkwX5_init_0 : List UInt8 := [42, 183, 0, 3, 42, 16, 16, 188, 10, 181, 0, 9, 42, 16, 16, 188, 10, 181, 0, 15, 42, 16, 16]
abbrev dktX5_init_0 : List UInt8 := dkwX5_init_0 ++ dktX5_init_1
theorem dksX5_init_0 : cX5_init.data.toList.drop 0 = dktX5_init_0 := by decide +kernel
theorem dksX5_init_1 : cX5_init.data.toList.drop 23 = dktX5_init_1 := dk_seg dksX5_init_0 23 rfl rfl
theorem dX5_init_0 : decode cX5_init 0 = .ok (.aload_n 0, 1) := dk_42 (dk_at dksX5_init_0 0 rfl rfl)
theorem dX5_init_1 : decode cX5_init 1 = .ok (.invokespecial 3, 3) := dk_183 0 3 (dk_at dksX5_init_0 1 rfl rfl)
theorem dX5_init_4 : decode cX5_init 4 = .ok (.aload_n 0, 1) := dk_42 (dk_at dksX5_init_0 4 rfl rfl)
theorem dX5_init_5 : decode cX5_init 5 = .ok (.bipush 16, 2) := dk_16 16 (dk_at dksX5_init_0 5 rfl rfl)
theorem dX5_init_7 : decode cX5_init 7 = .ok (.newarray .int, 2) := dk_188_10 (dk_at dksX5_init_0 7 rfl rfl)
theorem dX5_init_9 : decode cX5_init 9 = .ok (.putfield 9, 3) := dk_181 0 9 (dk_at dksX5_init_0 9 rfl rfl)
theorem dX5_init_12 : decode cX5_init 12 = .ok (.aload_n 0, 1) := dk_42 (dk_at dksX5_init_0 12 rfl rfl)
theorem dX5_init_13 : decode cX5_init 13 = .ok (.bipush 16, 2) := dk_16 16 (dk_at dksX5_init_0 13 rfl rfl)
theorem dX5_init_15 : decode cX5_init 15 = .ok (.newarray .int, 2) := dk_188_10 (dk_at dksX5_init_0 15 rfl rfl)
theorem dX5_init_17 : decode cX5_init 17 = .ok (.putfield 15, 3) := dk_181 0 15 (dk_at dksX5_init_0 17 rfl rfl)
theorem dX5_init_20 : decode cX5_init 20 = .ok (.aload_n 0, 1) := dk_42 (dk_at dksX5_init_0 20 rfl rfl)
theorem dX5_init_21 : decode cX5_init 21 = .ok (.bipush 16, 2) := dk_16 16 (dk_at dksX5_init_0 21 rfl rfl)
theorem dX5_init_23 : decode cX5_init 23 = .ok (.newarray .int, 2) := dk_188_10 (dk_at dksX5_init_1 0 rfl rfl)
theorem dX5_init_25 : decode cX5_init 25 = .ok (.putfield 18, 3) := dk_181 0 18 (dk_at dksX5_init_1 2 rfl rfl)
theorem dX5_init_28 : decode cX5_init 28 = .ok (.aload_n 0, 1) := dk_42 (dk_at dksX5_init_1 5 rfl rfl)
theorem dX5_init_29 : decode cX5_init 29 = .ok (.bipush 16, 2) := dk_16 16 (dk_at dksX5_init_1 6 rfl rfl)
theorem dX5_init_31 : decode cX5_init 31 = .ok (.newarray .int, 2) := dk_188_10 (dk_at dksX5_init_1 8 rfl rfl)
theorem dX5_init_33 : decode cX5_init 33 = .ok (.putfield 21, 3) := dk_181 0 21 (dk_at dksX5_init_1 10 rfl rfl)
theorem dX5_init_36 : decode cX5_init 36 = .ok (.aload_n 0, 1) := dk_42 (dk_at dksX5_init_1 13 rfl rfl)
theorem dX5_init_37 : decode cX5_init 37 = .ok (.bipush 16, 2) := dk_16 16 (dk_at dksX5_init_1 14 rfl rfl)
theorem dX5_init_39 : decode cX5_init 39 = .ok (.newarray .int, 2) := dk_188_10 (dk_at dksX5_init_1 16 rfl rfl)
theorem dX5_init_41 : decode cX5_init 41 = .ok (.putfield 24, 3) := dk_181 0 24 (dk_at dksX5_init_1 18 rfl rfl)
theorem dX5_init_44 : decode cX5_init 44 = .ok (.return_, 1) := dk_177 (dk_at dksX5_init_1 21 rfl rfl)
abbrev cX5_grows : ByteArray := prog_7_method_5_code
def yX5_grows : MethodName := ⟨RX5, "grows", "(LGateLifter$Net;)V"⟩
def dkwX5_grows_3 : List UInt8 := [42, 180, 0, 40, 2, 182, 0, 52, 177]
abbrev dktX5_grows_3 : List UInt8 := dkwX5_grows_3 ++ []
def dkwX5_grows_2 : List UInt8 := [28, 16, 16, 162, 0, 16, 42, 180, 0, 15, 28, 2, 79, 132, 2, 1, 167, 255, 240, 42, 42, 180, 0, 37]
abbrev dktX5_grows_2 : List UInt8 := dkwX5_grows_2 ++ dktX5_grows_3
def dkwX5_grows_1 : List UInt8 := [180, 0, 18, 3, 16, 16, 184, 0, 31, 42, 42, 42, 180, 0, 37, 3, 182, 0, 48, 181, 0, 40, 3, 61]
abbrev dktX5_grows_1 : List UInt8 := dkwX5_grows_1 ++ dktX5_grows_2
def dkwX5_grows_0 : List UInt8 := [42, 43, 180, 0, 43, 181, 0, 27, 42, 43, 180, 0, 46, 181, 0, 37, 43, 180, 0, 47, 3, 42]
abbrev dktX5_grows_0 : List UInt8 := dkwX5_grows_0 ++ dktX5_grows_1
theorem dksX5_grows_0 : cX5_grows.data.toList.drop 0 = dktX5_grows_0 := by decide +kernel
theorem dksX5_grows_1 : cX5_grows.data.toList.drop 22 = dktX5_grows_1 := dk_seg dksX5_grows_0 22 rfl rfl
theorem dksX5_grows_2 : cX5_grows.data.toList.drop 46 = dktX5_grows_2 := dk_seg dksX5_grows_1 24 rfl rfl
theorem dksX5_grows_3 : cX5_grows.data.toList.drop 70 = dktX5_grows_3 := dk_seg dksX5_grows_2 24 rfl rfl
theorem dX5_grows_0 : decode cX5_grows 0 = .ok (.aload_n 0, 1) := dk_42 (dk_at dksX5_grows_0 0 rfl rfl)
theorem dX5_grows_1 : decode cX5_grows 1 = .ok (.aload_n 1, 1) := dk_43 (dk_at dksX5_grows_0 1 rfl rfl)
theorem dX5_grows_2 : decode cX5_grows 2 = .ok (.getfield 43, 3) := dk_180 0 43 (dk_at dksX5_grows_0 2 rfl rfl)
theorem dX5_grows_5 : decode cX5_grows 5 = .ok (.putfield 27, 3) := dk_181 0 27 (dk_at dksX5_grows_0 5 rfl rfl)
theorem dX5_grows_8 : decode cX5_grows 8 = .ok (.aload_n 0, 1) := dk_42 (dk_at dksX5_grows_0 8 rfl rfl)
theorem dX5_grows_9 : decode cX5_grows 9 = .ok (.aload_n 1, 1) := dk_43 (dk_at dksX5_grows_0 9 rfl rfl)
theorem dX5_grows_10 : decode cX5_grows 10 = .ok (.getfield 46, 3) := dk_180 0 46 (dk_at dksX5_grows_0 10 rfl rfl)
theorem dX5_grows_13 : decode cX5_grows 13 = .ok (.putfield 37, 3) := dk_181 0 37 (dk_at dksX5_grows_0 13 rfl rfl)
theorem dX5_grows_16 : decode cX5_grows 16 = .ok (.aload_n 1, 1) := dk_43 (dk_at dksX5_grows_0 16 rfl rfl)
theorem dX5_grows_17 : decode cX5_grows 17 = .ok (.getfield 47, 3) := dk_180 0 47 (dk_at dksX5_grows_0 17 rfl rfl)
theorem dX5_grows_20 : decode cX5_grows 20 = .ok (.iconst 0, 1) := dk_3 (dk_at dksX5_grows_0 20 rfl rfl)
theorem dX5_grows_21 : decode cX5_grows 21 = .ok (.aload_n 0, 1) := dk_42 (dk_at dksX5_grows_0 21 rfl rfl)
theorem dX5_grows_22 : decode cX5_grows 22 = .ok (.getfield 18, 3) := dk_180 0 18 (dk_at dksX5_grows_1 0 rfl rfl)
theorem dX5_grows_25 : decode cX5_grows 25 = .ok (.iconst 0, 1) := dk_3 (dk_at dksX5_grows_1 3 rfl rfl)
theorem dX5_grows_26 : decode cX5_grows 26 = .ok (.bipush 16, 2) := dk_16 16 (dk_at dksX5_grows_1 4 rfl rfl)
theorem dX5_grows_28 : decode cX5_grows 28 = .ok (.invokestatic 31, 3) := dk_184 0 31 (dk_at dksX5_grows_1 6 rfl rfl)
theorem dX5_grows_31 : decode cX5_grows 31 = .ok (.aload_n 0, 1) := dk_42 (dk_at dksX5_grows_1 9 rfl rfl)
theorem dX5_grows_32 : decode cX5_grows 32 = .ok (.aload_n 0, 1) := dk_42 (dk_at dksX5_grows_1 10 rfl rfl)
theorem dX5_grows_33 : decode cX5_grows 33 = .ok (.aload_n 0, 1) := dk_42 (dk_at dksX5_grows_1 11 rfl rfl)
theorem dX5_grows_34 : decode cX5_grows 34 = .ok (.getfield 37, 3) := dk_180 0 37 (dk_at dksX5_grows_1 12 rfl rfl)
theorem dX5_grows_37 : decode cX5_grows 37 = .ok (.iconst 0, 1) := dk_3 (dk_at dksX5_grows_1 15 rfl rfl)
theorem dX5_grows_38 : decode cX5_grows 38 = .ok (.invokevirtual 48, 3) := dk_182 0 48 (dk_at dksX5_grows_1 16 rfl rfl)
theorem dX5_grows_41 : decode cX5_grows 41 = .ok (.putfield 40, 3) := dk_181 0 40 (dk_at dksX5_grows_1 19 rfl rfl)
theorem dX5_grows_44 : decode cX5_grows 44 = .ok (.iconst 0, 1) := dk_3 (dk_at dksX5_grows_1 22 rfl rfl)
theorem dX5_grows_45 : decode cX5_grows 45 = .ok (.istore_n 2, 1) := dk_61 (dk_at dksX5_grows_1 23 rfl rfl)
theorem dX5_grows_46 : decode cX5_grows 46 = .ok (.iload_n 2, 1) := dk_28 (dk_at dksX5_grows_2 0 rfl rfl)
theorem dX5_grows_47 : decode cX5_grows 47 = .ok (.bipush 16, 2) := dk_16 16 (dk_at dksX5_grows_2 1 rfl rfl)
theorem dX5_grows_49 : decode cX5_grows 49 = .ok (.if_icmp .ge 16, 3) := dk_162 0 16 (dk_at dksX5_grows_2 3 rfl rfl)
theorem dX5_grows_52 : decode cX5_grows 52 = .ok (.aload_n 0, 1) := dk_42 (dk_at dksX5_grows_2 6 rfl rfl)
theorem dX5_grows_53 : decode cX5_grows 53 = .ok (.getfield 15, 3) := dk_180 0 15 (dk_at dksX5_grows_2 7 rfl rfl)
theorem dX5_grows_56 : decode cX5_grows 56 = .ok (.iload_n 2, 1) := dk_28 (dk_at dksX5_grows_2 10 rfl rfl)
theorem dX5_grows_57 : decode cX5_grows 57 = .ok (.iconst (-1), 1) := dk_2 (dk_at dksX5_grows_2 11 rfl rfl)
theorem dX5_grows_58 : decode cX5_grows 58 = .ok (.iastore, 1) := dk_79 (dk_at dksX5_grows_2 12 rfl rfl)
theorem dX5_grows_59 : decode cX5_grows 59 = .ok (.iinc 2 1, 3) := dk_132 2 1 (dk_at dksX5_grows_2 13 rfl rfl)
theorem dX5_grows_62 : decode cX5_grows 62 = .ok (.goto (-16), 3) := dk_167 255 240 (dk_at dksX5_grows_2 16 rfl rfl)
theorem dX5_grows_65 : decode cX5_grows 65 = .ok (.aload_n 0, 1) := dk_42 (dk_at dksX5_grows_2 19 rfl rfl)
theorem dX5_grows_66 : decode cX5_grows 66 = .ok (.aload_n 0, 1) := dk_42 (dk_at dksX5_grows_2 20 rfl rfl)
theorem dX5_grows_67 : decode cX5_grows 67 = .ok (.getfield 37, 3) := dk_180 0 37 (dk_at dksX5_grows_2 21 rfl rfl)
theorem dX5_grows_70 : decode cX5_grows 70 = .ok (.aload_n 0, 1) := dk_42 (dk_at dksX5_grows_3 0 rfl rfl)
theorem dX5_grows_71 : decode cX5_grows 71 = .ok (.getfield 40, 3) := dk_180 0 40 (dk_at dksX5_grows_3 1 rfl rfl)
theorem dX5_grows_74 : decode cX5_grows 74 = .ok (.iconst (-1), 1) := dk_2 (dk_at dksX5_grows_3 4 rfl rfl)
theorem dX5_grows_75 : decode cX5_grows 75 = .ok (.invokevirtual 52, 3) := dk_182 0 52 (dk_at dksX5_grows_3 5 rfl rfl)
theorem dX5_grows_78 : decode cX5_grows 78 = .ok (.return_, 1) := dk_177 (dk_at dksX5_grows_3 8 rfl rfl)
abbrev cX5_nodes : ByteArray := prog_7_method_2_code
def yX5_nodes : MethodName := ⟨RX5, "nodes", "()I"⟩
theorem dX5_nodes_0 : decode cX5_nodes 0 = .ok (.aload_n 0, 1) := by decide +kernel
theorem dX5_nodes_1 : decode cX5_nodes 1 = .ok (.getfield 27, 3) := by decide +kernel
theorem dX5_nodes_4 : decode cX5_nodes 4 = .ok (.ireturn, 1) := by decide +kernel
abbrev cX5_next : ByteArray := prog_7_method_3_code
def yX5_next : MethodName := ⟨RX5, "next", "(I)I"⟩
def dkwX5_next_0 : List UInt8 := [42, 180, 0, 18, 27, 46, 172]
abbrev dktX5_next_0 : List UInt8 := dkwX5_next_0 ++ []
theorem dksX5_next_0 : cX5_next.data.toList.drop 0 = dktX5_next_0 := by decide +kernel
theorem dX5_next_0 : decode cX5_next 0 = .ok (.aload_n 0, 1) := dk_42 (dk_at dksX5_next_0 0 rfl rfl)
theorem dX5_next_1 : decode cX5_next 1 = .ok (.getfield 18, 3) := dk_180 0 18 (dk_at dksX5_next_0 1 rfl rfl)
theorem dX5_next_4 : decode cX5_next 4 = .ok (.iload_n 1, 1) := dk_27 (dk_at dksX5_next_0 4 rfl rfl)
theorem dX5_next_5 : decode cX5_next 5 = .ok (.iaload, 1) := dk_46 (dk_at dksX5_next_0 5 rfl rfl)
theorem dX5_next_6 : decode cX5_next 6 = .ok (.ireturn, 1) := dk_172 (dk_at dksX5_next_0 6 rfl rfl)
abbrev cX5_keepsAll : ByteArray := prog_7_method_6_code
def yX5_keepsAll : MethodName := ⟨RX5, "keepsAll", "(III)V"⟩
def dkwX5_keepsAll_3 : List UInt8 := [167, 255, 200, 42, 182, 0, 68, 177]
abbrev dktX5_keepsAll_3 : List UInt8 := dkwX5_keepsAll_3 ++ []
def dkwX5_keepsAll_2 : List UInt8 := [42, 42, 180, 0, 24, 21, 4, 46, 4, 21, 4, 120, 2, 130, 126, 182, 0, 64, 79, 132, 4, 1]
abbrev dktX5_keepsAll_2 : List UInt8 := dkwX5_keepsAll_2 ++ dktX5_keepsAll_3
def dkwX5_keepsAll_1 : List UInt8 := [21, 4, 184, 0, 60, 153, 0, 38, 42, 180, 0, 9, 21, 4, 21, 4, 27, 160, 0, 7, 29, 167, 0, 21]
abbrev dktX5_keepsAll_1 : List UInt8 := dkwX5_keepsAll_1 ++ dktX5_keepsAll_2
def dkwX5_keepsAll_0 : List UInt8 := [42, 27, 28, 42, 180, 0, 24, 184, 0, 56, 3, 54, 4, 21, 4, 42, 180, 0, 27, 162, 0, 53, 28]
abbrev dktX5_keepsAll_0 : List UInt8 := dkwX5_keepsAll_0 ++ dktX5_keepsAll_1
theorem dksX5_keepsAll_0 : cX5_keepsAll.data.toList.drop 0 = dktX5_keepsAll_0 := by decide +kernel
theorem dksX5_keepsAll_1 : cX5_keepsAll.data.toList.drop 23 = dktX5_keepsAll_1 := dk_seg dksX5_keepsAll_0 23 rfl rfl
theorem dksX5_keepsAll_2 : cX5_keepsAll.data.toList.drop 47 = dktX5_keepsAll_2 := dk_seg dksX5_keepsAll_1 24 rfl rfl
theorem dksX5_keepsAll_3 : cX5_keepsAll.data.toList.drop 69 = dktX5_keepsAll_3 := dk_seg dksX5_keepsAll_2 22 rfl rfl
theorem dX5_keepsAll_0 : decode cX5_keepsAll 0 = .ok (.aload_n 0, 1) := dk_42 (dk_at dksX5_keepsAll_0 0 rfl rfl)
theorem dX5_keepsAll_1 : decode cX5_keepsAll 1 = .ok (.iload_n 1, 1) := dk_27 (dk_at dksX5_keepsAll_0 1 rfl rfl)
theorem dX5_keepsAll_2 : decode cX5_keepsAll 2 = .ok (.iload_n 2, 1) := dk_28 (dk_at dksX5_keepsAll_0 2 rfl rfl)
theorem dX5_keepsAll_3 : decode cX5_keepsAll 3 = .ok (.aload_n 0, 1) := dk_42 (dk_at dksX5_keepsAll_0 3 rfl rfl)
theorem dX5_keepsAll_4 : decode cX5_keepsAll 4 = .ok (.getfield 24, 3) := dk_180 0 24 (dk_at dksX5_keepsAll_0 4 rfl rfl)
theorem dX5_keepsAll_7 : decode cX5_keepsAll 7 = .ok (.invokestatic 56, 3) := dk_184 0 56 (dk_at dksX5_keepsAll_0 7 rfl rfl)
theorem dX5_keepsAll_10 : decode cX5_keepsAll 10 = .ok (.iconst 0, 1) := dk_3 (dk_at dksX5_keepsAll_0 10 rfl rfl)
theorem dX5_keepsAll_11 : decode cX5_keepsAll 11 = .ok (.istore 4, 2) := dk_54 4 (dk_at dksX5_keepsAll_0 11 rfl rfl)
theorem dX5_keepsAll_13 : decode cX5_keepsAll 13 = .ok (.iload 4, 2) := dk_21 4 (dk_at dksX5_keepsAll_0 13 rfl rfl)
theorem dX5_keepsAll_15 : decode cX5_keepsAll 15 = .ok (.aload_n 0, 1) := dk_42 (dk_at dksX5_keepsAll_0 15 rfl rfl)
theorem dX5_keepsAll_16 : decode cX5_keepsAll 16 = .ok (.getfield 27, 3) := dk_180 0 27 (dk_at dksX5_keepsAll_0 16 rfl rfl)
theorem dX5_keepsAll_19 : decode cX5_keepsAll 19 = .ok (.if_icmp .ge 53, 3) := dk_162 0 53 (dk_at dksX5_keepsAll_0 19 rfl rfl)
theorem dX5_keepsAll_22 : decode cX5_keepsAll 22 = .ok (.iload_n 2, 1) := dk_28 (dk_at dksX5_keepsAll_0 22 rfl rfl)
theorem dX5_keepsAll_23 : decode cX5_keepsAll 23 = .ok (.iload 4, 2) := dk_21 4 (dk_at dksX5_keepsAll_1 0 rfl rfl)
theorem dX5_keepsAll_25 : decode cX5_keepsAll 25 = .ok (.invokestatic 60, 3) := dk_184 0 60 (dk_at dksX5_keepsAll_1 2 rfl rfl)
theorem dX5_keepsAll_28 : decode cX5_keepsAll 28 = .ok (.ifCond .eq 38, 3) := dk_153 0 38 (dk_at dksX5_keepsAll_1 5 rfl rfl)
theorem dX5_keepsAll_31 : decode cX5_keepsAll 31 = .ok (.aload_n 0, 1) := dk_42 (dk_at dksX5_keepsAll_1 8 rfl rfl)
theorem dX5_keepsAll_32 : decode cX5_keepsAll 32 = .ok (.getfield 9, 3) := dk_180 0 9 (dk_at dksX5_keepsAll_1 9 rfl rfl)
theorem dX5_keepsAll_35 : decode cX5_keepsAll 35 = .ok (.iload 4, 2) := dk_21 4 (dk_at dksX5_keepsAll_1 12 rfl rfl)
theorem dX5_keepsAll_37 : decode cX5_keepsAll 37 = .ok (.iload 4, 2) := dk_21 4 (dk_at dksX5_keepsAll_1 14 rfl rfl)
theorem dX5_keepsAll_39 : decode cX5_keepsAll 39 = .ok (.iload_n 1, 1) := dk_27 (dk_at dksX5_keepsAll_1 16 rfl rfl)
theorem dX5_keepsAll_40 : decode cX5_keepsAll 40 = .ok (.if_icmp .ne 7, 3) := dk_160 0 7 (dk_at dksX5_keepsAll_1 17 rfl rfl)
theorem dX5_keepsAll_43 : decode cX5_keepsAll 43 = .ok (.iload_n 3, 1) := dk_29 (dk_at dksX5_keepsAll_1 20 rfl rfl)
theorem dX5_keepsAll_44 : decode cX5_keepsAll 44 = .ok (.goto 21, 3) := dk_167 0 21 (dk_at dksX5_keepsAll_1 21 rfl rfl)
theorem dX5_keepsAll_47 : decode cX5_keepsAll 47 = .ok (.aload_n 0, 1) := dk_42 (dk_at dksX5_keepsAll_2 0 rfl rfl)
theorem dX5_keepsAll_48 : decode cX5_keepsAll 48 = .ok (.aload_n 0, 1) := dk_42 (dk_at dksX5_keepsAll_2 1 rfl rfl)
theorem dX5_keepsAll_49 : decode cX5_keepsAll 49 = .ok (.getfield 24, 3) := dk_180 0 24 (dk_at dksX5_keepsAll_2 2 rfl rfl)
theorem dX5_keepsAll_52 : decode cX5_keepsAll 52 = .ok (.iload 4, 2) := dk_21 4 (dk_at dksX5_keepsAll_2 5 rfl rfl)
theorem dX5_keepsAll_54 : decode cX5_keepsAll 54 = .ok (.iaload, 1) := dk_46 (dk_at dksX5_keepsAll_2 7 rfl rfl)
theorem dX5_keepsAll_55 : decode cX5_keepsAll 55 = .ok (.iconst 1, 1) := dk_4 (dk_at dksX5_keepsAll_2 8 rfl rfl)
theorem dX5_keepsAll_56 : decode cX5_keepsAll 56 = .ok (.iload 4, 2) := dk_21 4 (dk_at dksX5_keepsAll_2 9 rfl rfl)
theorem dX5_keepsAll_58 : decode cX5_keepsAll 58 = .ok (.ishl, 1) := dk_120 (dk_at dksX5_keepsAll_2 11 rfl rfl)
theorem dX5_keepsAll_59 : decode cX5_keepsAll 59 = .ok (.iconst (-1), 1) := dk_2 (dk_at dksX5_keepsAll_2 12 rfl rfl)
theorem dX5_keepsAll_60 : decode cX5_keepsAll 60 = .ok (.ixor, 1) := dk_130 (dk_at dksX5_keepsAll_2 13 rfl rfl)
theorem dX5_keepsAll_61 : decode cX5_keepsAll 61 = .ok (.iand, 1) := dk_126 (dk_at dksX5_keepsAll_2 14 rfl rfl)
theorem dX5_keepsAll_62 : decode cX5_keepsAll 62 = .ok (.invokevirtual 64, 3) := dk_182 0 64 (dk_at dksX5_keepsAll_2 15 rfl rfl)
theorem dX5_keepsAll_65 : decode cX5_keepsAll 65 = .ok (.iastore, 1) := dk_79 (dk_at dksX5_keepsAll_2 18 rfl rfl)
theorem dX5_keepsAll_66 : decode cX5_keepsAll 66 = .ok (.iinc 4 1, 3) := dk_132 4 1 (dk_at dksX5_keepsAll_2 19 rfl rfl)
theorem dX5_keepsAll_69 : decode cX5_keepsAll 69 = .ok (.goto (-56), 3) := dk_167 255 200 (dk_at dksX5_keepsAll_3 0 rfl rfl)
theorem dX5_keepsAll_72 : decode cX5_keepsAll 72 = .ok (.aload_n 0, 1) := dk_42 (dk_at dksX5_keepsAll_3 3 rfl rfl)
theorem dX5_keepsAll_73 : decode cX5_keepsAll 73 = .ok (.invokevirtual 68, 3) := dk_182 0 68 (dk_at dksX5_keepsAll_3 4 rfl rfl)
theorem dX5_keepsAll_76 : decode cX5_keepsAll 76 = .ok (.return_, 1) := dk_177 (dk_at dksX5_keepsAll_3 7 rfl rfl)
abbrev cX5_deepest : ByteArray := prog_7_method_7_code
def yX5_deepest : MethodName := ⟨RX5, "deepest", "(I)I"⟩
def dkwX5_deepest_2 : List UInt8 := [29, 61, 132, 3, 1, 167, 255, 209, 28, 172]
abbrev dktX5_deepest_2 : List UInt8 := dkwX5_deepest_2 ++ []
def dkwX5_deepest_1 : List UInt8 := [159, 0, 24, 42, 180, 0, 24, 29, 46, 184, 0, 71, 42, 180, 0, 24, 28, 46, 184, 0, 71, 164, 0, 5]
abbrev dktX5_deepest_1 : List UInt8 := dkwX5_deepest_1 ++ dktX5_deepest_2
def dkwX5_deepest_0 : List UInt8 := [2, 61, 3, 62, 29, 42, 180, 0, 27, 162, 0, 45, 27, 29, 184, 0, 60, 153, 0, 31, 28, 2]
abbrev dktX5_deepest_0 : List UInt8 := dkwX5_deepest_0 ++ dktX5_deepest_1
theorem dksX5_deepest_0 : cX5_deepest.data.toList.drop 0 = dktX5_deepest_0 := by decide +kernel
theorem dksX5_deepest_1 : cX5_deepest.data.toList.drop 22 = dktX5_deepest_1 := dk_seg dksX5_deepest_0 22 rfl rfl
theorem dksX5_deepest_2 : cX5_deepest.data.toList.drop 46 = dktX5_deepest_2 := dk_seg dksX5_deepest_1 24 rfl rfl
theorem dX5_deepest_0 : decode cX5_deepest 0 = .ok (.iconst (-1), 1) := dk_2 (dk_at dksX5_deepest_0 0 rfl rfl)
theorem dX5_deepest_1 : decode cX5_deepest 1 = .ok (.istore_n 2, 1) := dk_61 (dk_at dksX5_deepest_0 1 rfl rfl)
theorem dX5_deepest_2 : decode cX5_deepest 2 = .ok (.iconst 0, 1) := dk_3 (dk_at dksX5_deepest_0 2 rfl rfl)
theorem dX5_deepest_3 : decode cX5_deepest 3 = .ok (.istore_n 3, 1) := dk_62 (dk_at dksX5_deepest_0 3 rfl rfl)
theorem dX5_deepest_4 : decode cX5_deepest 4 = .ok (.iload_n 3, 1) := dk_29 (dk_at dksX5_deepest_0 4 rfl rfl)
theorem dX5_deepest_5 : decode cX5_deepest 5 = .ok (.aload_n 0, 1) := dk_42 (dk_at dksX5_deepest_0 5 rfl rfl)
theorem dX5_deepest_6 : decode cX5_deepest 6 = .ok (.getfield 27, 3) := dk_180 0 27 (dk_at dksX5_deepest_0 6 rfl rfl)
theorem dX5_deepest_9 : decode cX5_deepest 9 = .ok (.if_icmp .ge 45, 3) := dk_162 0 45 (dk_at dksX5_deepest_0 9 rfl rfl)
theorem dX5_deepest_12 : decode cX5_deepest 12 = .ok (.iload_n 1, 1) := dk_27 (dk_at dksX5_deepest_0 12 rfl rfl)
theorem dX5_deepest_13 : decode cX5_deepest 13 = .ok (.iload_n 3, 1) := dk_29 (dk_at dksX5_deepest_0 13 rfl rfl)
theorem dX5_deepest_14 : decode cX5_deepest 14 = .ok (.invokestatic 60, 3) := dk_184 0 60 (dk_at dksX5_deepest_0 14 rfl rfl)
theorem dX5_deepest_17 : decode cX5_deepest 17 = .ok (.ifCond .eq 31, 3) := dk_153 0 31 (dk_at dksX5_deepest_0 17 rfl rfl)
theorem dX5_deepest_20 : decode cX5_deepest 20 = .ok (.iload_n 2, 1) := dk_28 (dk_at dksX5_deepest_0 20 rfl rfl)
theorem dX5_deepest_21 : decode cX5_deepest 21 = .ok (.iconst (-1), 1) := dk_2 (dk_at dksX5_deepest_0 21 rfl rfl)
theorem dX5_deepest_22 : decode cX5_deepest 22 = .ok (.if_icmp .eq 24, 3) := dk_159 0 24 (dk_at dksX5_deepest_1 0 rfl rfl)
theorem dX5_deepest_25 : decode cX5_deepest 25 = .ok (.aload_n 0, 1) := dk_42 (dk_at dksX5_deepest_1 3 rfl rfl)
theorem dX5_deepest_26 : decode cX5_deepest 26 = .ok (.getfield 24, 3) := dk_180 0 24 (dk_at dksX5_deepest_1 4 rfl rfl)
theorem dX5_deepest_29 : decode cX5_deepest 29 = .ok (.iload_n 3, 1) := dk_29 (dk_at dksX5_deepest_1 7 rfl rfl)
theorem dX5_deepest_30 : decode cX5_deepest 30 = .ok (.iaload, 1) := dk_46 (dk_at dksX5_deepest_1 8 rfl rfl)
theorem dX5_deepest_31 : decode cX5_deepest 31 = .ok (.invokestatic 71, 3) := dk_184 0 71 (dk_at dksX5_deepest_1 9 rfl rfl)
theorem dX5_deepest_34 : decode cX5_deepest 34 = .ok (.aload_n 0, 1) := dk_42 (dk_at dksX5_deepest_1 12 rfl rfl)
theorem dX5_deepest_35 : decode cX5_deepest 35 = .ok (.getfield 24, 3) := dk_180 0 24 (dk_at dksX5_deepest_1 13 rfl rfl)
theorem dX5_deepest_38 : decode cX5_deepest 38 = .ok (.iload_n 2, 1) := dk_28 (dk_at dksX5_deepest_1 16 rfl rfl)
theorem dX5_deepest_39 : decode cX5_deepest 39 = .ok (.iaload, 1) := dk_46 (dk_at dksX5_deepest_1 17 rfl rfl)
theorem dX5_deepest_40 : decode cX5_deepest 40 = .ok (.invokestatic 71, 3) := dk_184 0 71 (dk_at dksX5_deepest_1 18 rfl rfl)
theorem dX5_deepest_43 : decode cX5_deepest 43 = .ok (.if_icmp .le 5, 3) := dk_164 0 5 (dk_at dksX5_deepest_1 21 rfl rfl)
theorem dX5_deepest_46 : decode cX5_deepest 46 = .ok (.iload_n 3, 1) := dk_29 (dk_at dksX5_deepest_2 0 rfl rfl)
theorem dX5_deepest_47 : decode cX5_deepest 47 = .ok (.istore_n 2, 1) := dk_61 (dk_at dksX5_deepest_2 1 rfl rfl)
theorem dX5_deepest_48 : decode cX5_deepest 48 = .ok (.iinc 3 1, 3) := dk_132 3 1 (dk_at dksX5_deepest_2 2 rfl rfl)
theorem dX5_deepest_51 : decode cX5_deepest 51 = .ok (.goto (-47), 3) := dk_167 255 209 (dk_at dksX5_deepest_2 5 rfl rfl)
theorem dX5_deepest_54 : decode cX5_deepest 54 = .ok (.iload_n 2, 1) := dk_28 (dk_at dksX5_deepest_2 8 rfl rfl)
theorem dX5_deepest_55 : decode cX5_deepest 55 = .ok (.ireturn, 1) := dk_172 (dk_at dksX5_deepest_2 9 rfl rfl)
abbrev cX5_deepens : ByteArray := prog_7_method_8_code
def yX5_deepens : MethodName := ⟨RX5, "deepens", "()V"⟩
def dkwX5_deepens_1 : List UInt8 := [180, 0, 15, 27, 42, 27, 182, 0, 76, 79, 132, 1, 1, 167, 255, 223, 177]
abbrev dktX5_deepens_1 : List UInt8 := dkwX5_deepens_1 ++ []
def dkwX5_deepens_0 : List UInt8 := [3, 60, 27, 42, 180, 0, 27, 162, 0, 31, 42, 180, 0, 40, 27, 184, 0, 60, 153, 0, 14, 42]
abbrev dktX5_deepens_0 : List UInt8 := dkwX5_deepens_0 ++ dktX5_deepens_1
theorem dksX5_deepens_0 : cX5_deepens.data.toList.drop 0 = dktX5_deepens_0 := by decide +kernel
theorem dksX5_deepens_1 : cX5_deepens.data.toList.drop 22 = dktX5_deepens_1 := dk_seg dksX5_deepens_0 22 rfl rfl
theorem dX5_deepens_0 : decode cX5_deepens 0 = .ok (.iconst 0, 1) := dk_3 (dk_at dksX5_deepens_0 0 rfl rfl)
theorem dX5_deepens_1 : decode cX5_deepens 1 = .ok (.istore_n 1, 1) := dk_60 (dk_at dksX5_deepens_0 1 rfl rfl)
theorem dX5_deepens_2 : decode cX5_deepens 2 = .ok (.iload_n 1, 1) := dk_27 (dk_at dksX5_deepens_0 2 rfl rfl)
theorem dX5_deepens_3 : decode cX5_deepens 3 = .ok (.aload_n 0, 1) := dk_42 (dk_at dksX5_deepens_0 3 rfl rfl)
theorem dX5_deepens_4 : decode cX5_deepens 4 = .ok (.getfield 27, 3) := dk_180 0 27 (dk_at dksX5_deepens_0 4 rfl rfl)
theorem dX5_deepens_7 : decode cX5_deepens 7 = .ok (.if_icmp .ge 31, 3) := dk_162 0 31 (dk_at dksX5_deepens_0 7 rfl rfl)
theorem dX5_deepens_10 : decode cX5_deepens 10 = .ok (.aload_n 0, 1) := dk_42 (dk_at dksX5_deepens_0 10 rfl rfl)
theorem dX5_deepens_11 : decode cX5_deepens 11 = .ok (.getfield 40, 3) := dk_180 0 40 (dk_at dksX5_deepens_0 11 rfl rfl)
theorem dX5_deepens_14 : decode cX5_deepens 14 = .ok (.iload_n 1, 1) := dk_27 (dk_at dksX5_deepens_0 14 rfl rfl)
theorem dX5_deepens_15 : decode cX5_deepens 15 = .ok (.invokestatic 60, 3) := dk_184 0 60 (dk_at dksX5_deepens_0 15 rfl rfl)
theorem dX5_deepens_18 : decode cX5_deepens 18 = .ok (.ifCond .eq 14, 3) := dk_153 0 14 (dk_at dksX5_deepens_0 18 rfl rfl)
theorem dX5_deepens_21 : decode cX5_deepens 21 = .ok (.aload_n 0, 1) := dk_42 (dk_at dksX5_deepens_0 21 rfl rfl)
theorem dX5_deepens_22 : decode cX5_deepens 22 = .ok (.getfield 15, 3) := dk_180 0 15 (dk_at dksX5_deepens_1 0 rfl rfl)
theorem dX5_deepens_25 : decode cX5_deepens 25 = .ok (.iload_n 1, 1) := dk_27 (dk_at dksX5_deepens_1 3 rfl rfl)
theorem dX5_deepens_26 : decode cX5_deepens 26 = .ok (.aload_n 0, 1) := dk_42 (dk_at dksX5_deepens_1 4 rfl rfl)
theorem dX5_deepens_27 : decode cX5_deepens 27 = .ok (.iload_n 1, 1) := dk_27 (dk_at dksX5_deepens_1 5 rfl rfl)
theorem dX5_deepens_28 : decode cX5_deepens 28 = .ok (.invokevirtual 76, 3) := dk_182 0 76 (dk_at dksX5_deepens_1 6 rfl rfl)
theorem dX5_deepens_31 : decode cX5_deepens 31 = .ok (.iastore, 1) := dk_79 (dk_at dksX5_deepens_1 9 rfl rfl)
theorem dX5_deepens_32 : decode cX5_deepens 32 = .ok (.iinc 1 1, 3) := dk_132 1 1 (dk_at dksX5_deepens_1 10 rfl rfl)
theorem dX5_deepens_35 : decode cX5_deepens 35 = .ok (.goto (-33), 3) := dk_167 255 223 (dk_at dksX5_deepens_1 13 rfl rfl)
theorem dX5_deepens_38 : decode cX5_deepens 38 = .ok (.return_, 1) := dk_177 (dk_at dksX5_deepens_1 16 rfl rfl)
abbrev cX5_depthOf : ByteArray := prog_7_method_9_code
def yX5_depthOf : MethodName := ⟨RX5, "depthOf", "(I)I"⟩
def dkwX5_depthOf_1 : List UInt8 := [182, 0, 76, 96, 172]
abbrev dktX5_depthOf_1 : List UInt8 := dkwX5_depthOf_1 ++ []
def dkwX5_depthOf_0 : List UInt8 := [42, 180, 0, 9, 27, 46, 2, 160, 0, 7, 3, 167, 0, 15, 4, 42, 42, 180, 0, 9, 27, 46]
abbrev dktX5_depthOf_0 : List UInt8 := dkwX5_depthOf_0 ++ dktX5_depthOf_1
theorem dksX5_depthOf_0 : cX5_depthOf.data.toList.drop 0 = dktX5_depthOf_0 := by decide +kernel
theorem dksX5_depthOf_1 : cX5_depthOf.data.toList.drop 22 = dktX5_depthOf_1 := dk_seg dksX5_depthOf_0 22 rfl rfl
theorem dX5_depthOf_0 : decode cX5_depthOf 0 = .ok (.aload_n 0, 1) := dk_42 (dk_at dksX5_depthOf_0 0 rfl rfl)
theorem dX5_depthOf_1 : decode cX5_depthOf 1 = .ok (.getfield 9, 3) := dk_180 0 9 (dk_at dksX5_depthOf_0 1 rfl rfl)
theorem dX5_depthOf_4 : decode cX5_depthOf 4 = .ok (.iload_n 1, 1) := dk_27 (dk_at dksX5_depthOf_0 4 rfl rfl)
theorem dX5_depthOf_5 : decode cX5_depthOf 5 = .ok (.iaload, 1) := dk_46 (dk_at dksX5_depthOf_0 5 rfl rfl)
theorem dX5_depthOf_6 : decode cX5_depthOf 6 = .ok (.iconst (-1), 1) := dk_2 (dk_at dksX5_depthOf_0 6 rfl rfl)
theorem dX5_depthOf_7 : decode cX5_depthOf 7 = .ok (.if_icmp .ne 7, 3) := dk_160 0 7 (dk_at dksX5_depthOf_0 7 rfl rfl)
theorem dX5_depthOf_10 : decode cX5_depthOf 10 = .ok (.iconst 0, 1) := dk_3 (dk_at dksX5_depthOf_0 10 rfl rfl)
theorem dX5_depthOf_11 : decode cX5_depthOf 11 = .ok (.goto 15, 3) := dk_167 0 15 (dk_at dksX5_depthOf_0 11 rfl rfl)
theorem dX5_depthOf_14 : decode cX5_depthOf 14 = .ok (.iconst 1, 1) := dk_4 (dk_at dksX5_depthOf_0 14 rfl rfl)
theorem dX5_depthOf_15 : decode cX5_depthOf 15 = .ok (.aload_n 0, 1) := dk_42 (dk_at dksX5_depthOf_0 15 rfl rfl)
theorem dX5_depthOf_16 : decode cX5_depthOf 16 = .ok (.aload_n 0, 1) := dk_42 (dk_at dksX5_depthOf_0 16 rfl rfl)
theorem dX5_depthOf_17 : decode cX5_depthOf 17 = .ok (.getfield 9, 3) := dk_180 0 9 (dk_at dksX5_depthOf_0 17 rfl rfl)
theorem dX5_depthOf_20 : decode cX5_depthOf 20 = .ok (.iload_n 1, 1) := dk_27 (dk_at dksX5_depthOf_0 20 rfl rfl)
theorem dX5_depthOf_21 : decode cX5_depthOf 21 = .ok (.iaload, 1) := dk_46 (dk_at dksX5_depthOf_0 21 rfl rfl)
theorem dX5_depthOf_22 : decode cX5_depthOf 22 = .ok (.invokevirtual 76, 3) := dk_182 0 76 (dk_at dksX5_depthOf_1 0 rfl rfl)
theorem dX5_depthOf_25 : decode cX5_depthOf 25 = .ok (.iadd, 1) := dk_96 (dk_at dksX5_depthOf_1 3 rfl rfl)
theorem dX5_depthOf_26 : decode cX5_depthOf 26 = .ok (.ireturn, 1) := dk_172 (dk_at dksX5_depthOf_1 4 rfl rfl)
abbrev cX5_isBack : ByteArray := prog_7_method_16_code
def yX5_isBack : MethodName := ⟨RX5, "isBack", "(II)Z"⟩
def dkwX5_isBack_1 : List UInt8 := [153, 0, 7, 4, 167, 0, 4, 3, 172]
abbrev dktX5_isBack_1 : List UInt8 := dkwX5_isBack_1 ++ []
def dkwX5_isBack_0 : List UInt8 := [42, 180, 0, 40, 27, 184, 0, 60, 153, 0, 21, 27, 28, 159, 0, 12, 42, 28, 27, 182, 0, 101]
abbrev dktX5_isBack_0 : List UInt8 := dkwX5_isBack_0 ++ dktX5_isBack_1
theorem dksX5_isBack_0 : cX5_isBack.data.toList.drop 0 = dktX5_isBack_0 := by decide +kernel
theorem dksX5_isBack_1 : cX5_isBack.data.toList.drop 22 = dktX5_isBack_1 := dk_seg dksX5_isBack_0 22 rfl rfl
theorem dX5_isBack_0 : decode cX5_isBack 0 = .ok (.aload_n 0, 1) := dk_42 (dk_at dksX5_isBack_0 0 rfl rfl)
theorem dX5_isBack_1 : decode cX5_isBack 1 = .ok (.getfield 40, 3) := dk_180 0 40 (dk_at dksX5_isBack_0 1 rfl rfl)
theorem dX5_isBack_4 : decode cX5_isBack 4 = .ok (.iload_n 1, 1) := dk_27 (dk_at dksX5_isBack_0 4 rfl rfl)
theorem dX5_isBack_5 : decode cX5_isBack 5 = .ok (.invokestatic 60, 3) := dk_184 0 60 (dk_at dksX5_isBack_0 5 rfl rfl)
theorem dX5_isBack_8 : decode cX5_isBack 8 = .ok (.ifCond .eq 21, 3) := dk_153 0 21 (dk_at dksX5_isBack_0 8 rfl rfl)
theorem dX5_isBack_11 : decode cX5_isBack 11 = .ok (.iload_n 1, 1) := dk_27 (dk_at dksX5_isBack_0 11 rfl rfl)
theorem dX5_isBack_12 : decode cX5_isBack 12 = .ok (.iload_n 2, 1) := dk_28 (dk_at dksX5_isBack_0 12 rfl rfl)
theorem dX5_isBack_13 : decode cX5_isBack 13 = .ok (.if_icmp .eq 12, 3) := dk_159 0 12 (dk_at dksX5_isBack_0 13 rfl rfl)
theorem dX5_isBack_16 : decode cX5_isBack 16 = .ok (.aload_n 0, 1) := dk_42 (dk_at dksX5_isBack_0 16 rfl rfl)
theorem dX5_isBack_17 : decode cX5_isBack 17 = .ok (.iload_n 2, 1) := dk_28 (dk_at dksX5_isBack_0 17 rfl rfl)
theorem dX5_isBack_18 : decode cX5_isBack 18 = .ok (.iload_n 1, 1) := dk_27 (dk_at dksX5_isBack_0 18 rfl rfl)
theorem dX5_isBack_19 : decode cX5_isBack 19 = .ok (.invokevirtual 101, 3) := dk_182 0 101 (dk_at dksX5_isBack_0 19 rfl rfl)
theorem dX5_isBack_22 : decode cX5_isBack 22 = .ok (.ifCond .eq 7, 3) := dk_153 0 7 (dk_at dksX5_isBack_1 0 rfl rfl)
theorem dX5_isBack_25 : decode cX5_isBack 25 = .ok (.iconst 1, 1) := dk_4 (dk_at dksX5_isBack_1 3 rfl rfl)
theorem dX5_isBack_26 : decode cX5_isBack 26 = .ok (.goto 4, 3) := dk_167 0 4 (dk_at dksX5_isBack_1 4 rfl rfl)
theorem dX5_isBack_29 : decode cX5_isBack 29 = .ok (.iconst 0, 1) := dk_3 (dk_at dksX5_isBack_1 7 rfl rfl)
theorem dX5_isBack_30 : decode cX5_isBack 30 = .ok (.ireturn, 1) := dk_172 (dk_at dksX5_isBack_1 8 rfl rfl)
abbrev cX5_keeps : ByteArray := prog_7_method_15_code
def yX5_keeps : MethodName := ⟨RX5, "keeps", "(II)Z"⟩
def dkwX5_keeps_2 : List UInt8 := [167, 0, 4, 3, 172]
abbrev dktX5_keeps_2 : List UInt8 := dkwX5_keeps_2 ++ []
def dkwX5_keeps_1 : List UInt8 := [159, 0, 18, 29, 27, 159, 0, 13, 42, 180, 0, 9, 29, 46, 62, 167, 255, 239, 29, 2, 159, 0, 7, 4]
abbrev dktX5_keeps_1 : List UInt8 := dkwX5_keeps_1 ++ dktX5_keeps_2
def dkwX5_keeps_0 : List UInt8 := [42, 180, 0, 40, 28, 184, 0, 60, 154, 0, 5, 3, 172, 42, 180, 0, 9, 28, 46, 62, 29, 2]
abbrev dktX5_keeps_0 : List UInt8 := dkwX5_keeps_0 ++ dktX5_keeps_1
theorem dksX5_keeps_0 : cX5_keeps.data.toList.drop 0 = dktX5_keeps_0 := by decide +kernel
theorem dksX5_keeps_1 : cX5_keeps.data.toList.drop 22 = dktX5_keeps_1 := dk_seg dksX5_keeps_0 22 rfl rfl
theorem dksX5_keeps_2 : cX5_keeps.data.toList.drop 46 = dktX5_keeps_2 := dk_seg dksX5_keeps_1 24 rfl rfl
theorem dX5_keeps_0 : decode cX5_keeps 0 = .ok (.aload_n 0, 1) := dk_42 (dk_at dksX5_keeps_0 0 rfl rfl)
theorem dX5_keeps_1 : decode cX5_keeps 1 = .ok (.getfield 40, 3) := dk_180 0 40 (dk_at dksX5_keeps_0 1 rfl rfl)
theorem dX5_keeps_4 : decode cX5_keeps 4 = .ok (.iload_n 2, 1) := dk_28 (dk_at dksX5_keeps_0 4 rfl rfl)
theorem dX5_keeps_5 : decode cX5_keeps 5 = .ok (.invokestatic 60, 3) := dk_184 0 60 (dk_at dksX5_keeps_0 5 rfl rfl)
theorem dX5_keeps_8 : decode cX5_keeps 8 = .ok (.ifCond .ne 5, 3) := dk_154 0 5 (dk_at dksX5_keeps_0 8 rfl rfl)
theorem dX5_keeps_11 : decode cX5_keeps 11 = .ok (.iconst 0, 1) := dk_3 (dk_at dksX5_keeps_0 11 rfl rfl)
theorem dX5_keeps_12 : decode cX5_keeps 12 = .ok (.ireturn, 1) := dk_172 (dk_at dksX5_keeps_0 12 rfl rfl)
theorem dX5_keeps_13 : decode cX5_keeps 13 = .ok (.aload_n 0, 1) := dk_42 (dk_at dksX5_keeps_0 13 rfl rfl)
theorem dX5_keeps_14 : decode cX5_keeps 14 = .ok (.getfield 9, 3) := dk_180 0 9 (dk_at dksX5_keeps_0 14 rfl rfl)
theorem dX5_keeps_17 : decode cX5_keeps 17 = .ok (.iload_n 2, 1) := dk_28 (dk_at dksX5_keeps_0 17 rfl rfl)
theorem dX5_keeps_18 : decode cX5_keeps 18 = .ok (.iaload, 1) := dk_46 (dk_at dksX5_keeps_0 18 rfl rfl)
theorem dX5_keeps_19 : decode cX5_keeps 19 = .ok (.istore_n 3, 1) := dk_62 (dk_at dksX5_keeps_0 19 rfl rfl)
theorem dX5_keeps_20 : decode cX5_keeps 20 = .ok (.iload_n 3, 1) := dk_29 (dk_at dksX5_keeps_0 20 rfl rfl)
theorem dX5_keeps_21 : decode cX5_keeps 21 = .ok (.iconst (-1), 1) := dk_2 (dk_at dksX5_keeps_0 21 rfl rfl)
theorem dX5_keeps_22 : decode cX5_keeps 22 = .ok (.if_icmp .eq 18, 3) := dk_159 0 18 (dk_at dksX5_keeps_1 0 rfl rfl)
theorem dX5_keeps_25 : decode cX5_keeps 25 = .ok (.iload_n 3, 1) := dk_29 (dk_at dksX5_keeps_1 3 rfl rfl)
theorem dX5_keeps_26 : decode cX5_keeps 26 = .ok (.iload_n 1, 1) := dk_27 (dk_at dksX5_keeps_1 4 rfl rfl)
theorem dX5_keeps_27 : decode cX5_keeps 27 = .ok (.if_icmp .eq 13, 3) := dk_159 0 13 (dk_at dksX5_keeps_1 5 rfl rfl)
theorem dX5_keeps_30 : decode cX5_keeps 30 = .ok (.aload_n 0, 1) := dk_42 (dk_at dksX5_keeps_1 8 rfl rfl)
theorem dX5_keeps_31 : decode cX5_keeps 31 = .ok (.getfield 9, 3) := dk_180 0 9 (dk_at dksX5_keeps_1 9 rfl rfl)
theorem dX5_keeps_34 : decode cX5_keeps 34 = .ok (.iload_n 3, 1) := dk_29 (dk_at dksX5_keeps_1 12 rfl rfl)
theorem dX5_keeps_35 : decode cX5_keeps 35 = .ok (.iaload, 1) := dk_46 (dk_at dksX5_keeps_1 13 rfl rfl)
theorem dX5_keeps_36 : decode cX5_keeps 36 = .ok (.istore_n 3, 1) := dk_62 (dk_at dksX5_keeps_1 14 rfl rfl)
theorem dX5_keeps_37 : decode cX5_keeps 37 = .ok (.goto (-17), 3) := dk_167 255 239 (dk_at dksX5_keeps_1 15 rfl rfl)
theorem dX5_keeps_40 : decode cX5_keeps 40 = .ok (.iload_n 3, 1) := dk_29 (dk_at dksX5_keeps_1 18 rfl rfl)
theorem dX5_keeps_41 : decode cX5_keeps 41 = .ok (.iconst (-1), 1) := dk_2 (dk_at dksX5_keeps_1 19 rfl rfl)
theorem dX5_keeps_42 : decode cX5_keeps 42 = .ok (.if_icmp .eq 7, 3) := dk_159 0 7 (dk_at dksX5_keeps_1 20 rfl rfl)
theorem dX5_keeps_45 : decode cX5_keeps 45 = .ok (.iconst 1, 1) := dk_4 (dk_at dksX5_keeps_1 23 rfl rfl)
theorem dX5_keeps_46 : decode cX5_keeps 46 = .ok (.goto 4, 3) := dk_167 0 4 (dk_at dksX5_keeps_2 0 rfl rfl)
theorem dX5_keeps_49 : decode cX5_keeps 49 = .ok (.iconst 0, 1) := dk_3 (dk_at dksX5_keeps_2 3 rfl rfl)
theorem dX5_keeps_50 : decode cX5_keeps 50 = .ok (.ireturn, 1) := dk_172 (dk_at dksX5_keeps_2 4 rfl rfl)
abbrev cX5_movedFrom : ByteArray := prog_7_method_17_code
def yX5_movedFrom : MethodName := ⟨RX5, "movedFrom", "(LGateLifter$Tree;)I"⟩
def dkwX5_movedFrom_2 : List UInt8 := [167, 0, 4, 3, 128, 61, 132, 3, 1, 167, 255, 204, 28, 172]
abbrev dktX5_movedFrom_2 : List UInt8 := dkwX5_movedFrom_2 ++ []
def dkwX5_movedFrom_1 : List UInt8 := [184, 0, 60, 153, 0, 24, 42, 180, 0, 9, 29, 46, 43, 180, 0, 9, 29, 46, 159, 0, 9, 4, 29, 120]
abbrev dktX5_movedFrom_1 : List UInt8 := dkwX5_movedFrom_1 ++ dktX5_movedFrom_2
def dkwX5_movedFrom_0 : List UInt8 := [3, 61, 3, 62, 29, 42, 180, 0, 27, 162, 0, 50, 28, 42, 180, 0, 40, 43, 180, 0, 40, 126, 29]
abbrev dktX5_movedFrom_0 : List UInt8 := dkwX5_movedFrom_0 ++ dktX5_movedFrom_1
theorem dksX5_movedFrom_0 : cX5_movedFrom.data.toList.drop 0 = dktX5_movedFrom_0 := by decide +kernel
theorem dksX5_movedFrom_1 : cX5_movedFrom.data.toList.drop 23 = dktX5_movedFrom_1 := dk_seg dksX5_movedFrom_0 23 rfl rfl
theorem dksX5_movedFrom_2 : cX5_movedFrom.data.toList.drop 47 = dktX5_movedFrom_2 := dk_seg dksX5_movedFrom_1 24 rfl rfl
theorem dX5_movedFrom_0 : decode cX5_movedFrom 0 = .ok (.iconst 0, 1) := dk_3 (dk_at dksX5_movedFrom_0 0 rfl rfl)
theorem dX5_movedFrom_1 : decode cX5_movedFrom 1 = .ok (.istore_n 2, 1) := dk_61 (dk_at dksX5_movedFrom_0 1 rfl rfl)
theorem dX5_movedFrom_2 : decode cX5_movedFrom 2 = .ok (.iconst 0, 1) := dk_3 (dk_at dksX5_movedFrom_0 2 rfl rfl)
theorem dX5_movedFrom_3 : decode cX5_movedFrom 3 = .ok (.istore_n 3, 1) := dk_62 (dk_at dksX5_movedFrom_0 3 rfl rfl)
theorem dX5_movedFrom_4 : decode cX5_movedFrom 4 = .ok (.iload_n 3, 1) := dk_29 (dk_at dksX5_movedFrom_0 4 rfl rfl)
theorem dX5_movedFrom_5 : decode cX5_movedFrom 5 = .ok (.aload_n 0, 1) := dk_42 (dk_at dksX5_movedFrom_0 5 rfl rfl)
theorem dX5_movedFrom_6 : decode cX5_movedFrom 6 = .ok (.getfield 27, 3) := dk_180 0 27 (dk_at dksX5_movedFrom_0 6 rfl rfl)
theorem dX5_movedFrom_9 : decode cX5_movedFrom 9 = .ok (.if_icmp .ge 50, 3) := dk_162 0 50 (dk_at dksX5_movedFrom_0 9 rfl rfl)
theorem dX5_movedFrom_12 : decode cX5_movedFrom 12 = .ok (.iload_n 2, 1) := dk_28 (dk_at dksX5_movedFrom_0 12 rfl rfl)
theorem dX5_movedFrom_13 : decode cX5_movedFrom 13 = .ok (.aload_n 0, 1) := dk_42 (dk_at dksX5_movedFrom_0 13 rfl rfl)
theorem dX5_movedFrom_14 : decode cX5_movedFrom 14 = .ok (.getfield 40, 3) := dk_180 0 40 (dk_at dksX5_movedFrom_0 14 rfl rfl)
theorem dX5_movedFrom_17 : decode cX5_movedFrom 17 = .ok (.aload_n 1, 1) := dk_43 (dk_at dksX5_movedFrom_0 17 rfl rfl)
theorem dX5_movedFrom_18 : decode cX5_movedFrom 18 = .ok (.getfield 40, 3) := dk_180 0 40 (dk_at dksX5_movedFrom_0 18 rfl rfl)
theorem dX5_movedFrom_21 : decode cX5_movedFrom 21 = .ok (.iand, 1) := dk_126 (dk_at dksX5_movedFrom_0 21 rfl rfl)
theorem dX5_movedFrom_22 : decode cX5_movedFrom 22 = .ok (.iload_n 3, 1) := dk_29 (dk_at dksX5_movedFrom_0 22 rfl rfl)
theorem dX5_movedFrom_23 : decode cX5_movedFrom 23 = .ok (.invokestatic 60, 3) := dk_184 0 60 (dk_at dksX5_movedFrom_1 0 rfl rfl)
theorem dX5_movedFrom_26 : decode cX5_movedFrom 26 = .ok (.ifCond .eq 24, 3) := dk_153 0 24 (dk_at dksX5_movedFrom_1 3 rfl rfl)
theorem dX5_movedFrom_29 : decode cX5_movedFrom 29 = .ok (.aload_n 0, 1) := dk_42 (dk_at dksX5_movedFrom_1 6 rfl rfl)
theorem dX5_movedFrom_30 : decode cX5_movedFrom 30 = .ok (.getfield 9, 3) := dk_180 0 9 (dk_at dksX5_movedFrom_1 7 rfl rfl)
theorem dX5_movedFrom_33 : decode cX5_movedFrom 33 = .ok (.iload_n 3, 1) := dk_29 (dk_at dksX5_movedFrom_1 10 rfl rfl)
theorem dX5_movedFrom_34 : decode cX5_movedFrom 34 = .ok (.iaload, 1) := dk_46 (dk_at dksX5_movedFrom_1 11 rfl rfl)
theorem dX5_movedFrom_35 : decode cX5_movedFrom 35 = .ok (.aload_n 1, 1) := dk_43 (dk_at dksX5_movedFrom_1 12 rfl rfl)
theorem dX5_movedFrom_36 : decode cX5_movedFrom 36 = .ok (.getfield 9, 3) := dk_180 0 9 (dk_at dksX5_movedFrom_1 13 rfl rfl)
theorem dX5_movedFrom_39 : decode cX5_movedFrom 39 = .ok (.iload_n 3, 1) := dk_29 (dk_at dksX5_movedFrom_1 16 rfl rfl)
theorem dX5_movedFrom_40 : decode cX5_movedFrom 40 = .ok (.iaload, 1) := dk_46 (dk_at dksX5_movedFrom_1 17 rfl rfl)
theorem dX5_movedFrom_41 : decode cX5_movedFrom 41 = .ok (.if_icmp .eq 9, 3) := dk_159 0 9 (dk_at dksX5_movedFrom_1 18 rfl rfl)
theorem dX5_movedFrom_44 : decode cX5_movedFrom 44 = .ok (.iconst 1, 1) := dk_4 (dk_at dksX5_movedFrom_1 21 rfl rfl)
theorem dX5_movedFrom_45 : decode cX5_movedFrom 45 = .ok (.iload_n 3, 1) := dk_29 (dk_at dksX5_movedFrom_1 22 rfl rfl)
theorem dX5_movedFrom_46 : decode cX5_movedFrom 46 = .ok (.ishl, 1) := dk_120 (dk_at dksX5_movedFrom_1 23 rfl rfl)
theorem dX5_movedFrom_47 : decode cX5_movedFrom 47 = .ok (.goto 4, 3) := dk_167 0 4 (dk_at dksX5_movedFrom_2 0 rfl rfl)
theorem dX5_movedFrom_50 : decode cX5_movedFrom 50 = .ok (.iconst 0, 1) := dk_3 (dk_at dksX5_movedFrom_2 3 rfl rfl)
theorem dX5_movedFrom_51 : decode cX5_movedFrom 51 = .ok (.ior, 1) := dk_128 (dk_at dksX5_movedFrom_2 4 rfl rfl)
theorem dX5_movedFrom_52 : decode cX5_movedFrom 52 = .ok (.istore_n 2, 1) := dk_61 (dk_at dksX5_movedFrom_2 5 rfl rfl)
theorem dX5_movedFrom_53 : decode cX5_movedFrom 53 = .ok (.iinc 3 1, 3) := dk_132 3 1 (dk_at dksX5_movedFrom_2 6 rfl rfl)
theorem dX5_movedFrom_56 : decode cX5_movedFrom 56 = .ok (.goto (-52), 3) := dk_167 255 204 (dk_at dksX5_movedFrom_2 9 rfl rfl)
theorem dX5_movedFrom_59 : decode cX5_movedFrom 59 = .ok (.iload_n 2, 1) := dk_28 (dk_at dksX5_movedFrom_2 12 rfl rfl)
theorem dX5_movedFrom_60 : decode cX5_movedFrom 60 = .ok (.ireturn, 1) := dk_172 (dk_at dksX5_movedFrom_2 13 rfl rfl)
abbrev cX5_be : ByteArray := prog_7_method_4_code
def yX5_be : MethodName := ⟨RX5, "be", "(LGateLifter$Tree;)V"⟩
def dkwX5_be_2 : List UInt8 := [180, 0, 27, 181, 0, 27, 42, 43, 180, 0, 37, 181, 0, 37, 42, 43, 180, 0, 40, 181, 0, 40, 177]
abbrev dktX5_be_2 : List UInt8 := dkwX5_be_2 ++ []
def dkwX5_be_1 : List UInt8 := [3, 16, 16, 184, 0, 31, 43, 180, 0, 18, 3, 42, 180, 0, 18, 3, 16, 16, 184, 0, 31, 42, 43]
abbrev dktX5_be_1 : List UInt8 := dkwX5_be_1 ++ dktX5_be_2
def dkwX5_be_0 : List UInt8 := [43, 180, 0, 9, 3, 42, 180, 0, 9, 3, 16, 16, 184, 0, 31, 43, 180, 0, 15, 3, 42, 180, 0, 15]
abbrev dktX5_be_0 : List UInt8 := dkwX5_be_0 ++ dktX5_be_1
theorem dksX5_be_0 : cX5_be.data.toList.drop 0 = dktX5_be_0 := by decide +kernel
theorem dksX5_be_1 : cX5_be.data.toList.drop 24 = dktX5_be_1 := dk_seg dksX5_be_0 24 rfl rfl
theorem dksX5_be_2 : cX5_be.data.toList.drop 47 = dktX5_be_2 := dk_seg dksX5_be_1 23 rfl rfl
theorem dX5_be_0 : decode cX5_be 0 = .ok (.aload_n 1, 1) := dk_43 (dk_at dksX5_be_0 0 rfl rfl)
theorem dX5_be_1 : decode cX5_be 1 = .ok (.getfield 9, 3) := dk_180 0 9 (dk_at dksX5_be_0 1 rfl rfl)
theorem dX5_be_4 : decode cX5_be 4 = .ok (.iconst 0, 1) := dk_3 (dk_at dksX5_be_0 4 rfl rfl)
theorem dX5_be_5 : decode cX5_be 5 = .ok (.aload_n 0, 1) := dk_42 (dk_at dksX5_be_0 5 rfl rfl)
theorem dX5_be_6 : decode cX5_be 6 = .ok (.getfield 9, 3) := dk_180 0 9 (dk_at dksX5_be_0 6 rfl rfl)
theorem dX5_be_9 : decode cX5_be 9 = .ok (.iconst 0, 1) := dk_3 (dk_at dksX5_be_0 9 rfl rfl)
theorem dX5_be_10 : decode cX5_be 10 = .ok (.bipush 16, 2) := dk_16 16 (dk_at dksX5_be_0 10 rfl rfl)
theorem dX5_be_12 : decode cX5_be 12 = .ok (.invokestatic 31, 3) := dk_184 0 31 (dk_at dksX5_be_0 12 rfl rfl)
theorem dX5_be_15 : decode cX5_be 15 = .ok (.aload_n 1, 1) := dk_43 (dk_at dksX5_be_0 15 rfl rfl)
theorem dX5_be_16 : decode cX5_be 16 = .ok (.getfield 15, 3) := dk_180 0 15 (dk_at dksX5_be_0 16 rfl rfl)
theorem dX5_be_19 : decode cX5_be 19 = .ok (.iconst 0, 1) := dk_3 (dk_at dksX5_be_0 19 rfl rfl)
theorem dX5_be_20 : decode cX5_be 20 = .ok (.aload_n 0, 1) := dk_42 (dk_at dksX5_be_0 20 rfl rfl)
theorem dX5_be_21 : decode cX5_be 21 = .ok (.getfield 15, 3) := dk_180 0 15 (dk_at dksX5_be_0 21 rfl rfl)
theorem dX5_be_24 : decode cX5_be 24 = .ok (.iconst 0, 1) := dk_3 (dk_at dksX5_be_1 0 rfl rfl)
theorem dX5_be_25 : decode cX5_be 25 = .ok (.bipush 16, 2) := dk_16 16 (dk_at dksX5_be_1 1 rfl rfl)
theorem dX5_be_27 : decode cX5_be 27 = .ok (.invokestatic 31, 3) := dk_184 0 31 (dk_at dksX5_be_1 3 rfl rfl)
theorem dX5_be_30 : decode cX5_be 30 = .ok (.aload_n 1, 1) := dk_43 (dk_at dksX5_be_1 6 rfl rfl)
theorem dX5_be_31 : decode cX5_be 31 = .ok (.getfield 18, 3) := dk_180 0 18 (dk_at dksX5_be_1 7 rfl rfl)
theorem dX5_be_34 : decode cX5_be 34 = .ok (.iconst 0, 1) := dk_3 (dk_at dksX5_be_1 10 rfl rfl)
theorem dX5_be_35 : decode cX5_be 35 = .ok (.aload_n 0, 1) := dk_42 (dk_at dksX5_be_1 11 rfl rfl)
theorem dX5_be_36 : decode cX5_be 36 = .ok (.getfield 18, 3) := dk_180 0 18 (dk_at dksX5_be_1 12 rfl rfl)
theorem dX5_be_39 : decode cX5_be 39 = .ok (.iconst 0, 1) := dk_3 (dk_at dksX5_be_1 15 rfl rfl)
theorem dX5_be_40 : decode cX5_be 40 = .ok (.bipush 16, 2) := dk_16 16 (dk_at dksX5_be_1 16 rfl rfl)
theorem dX5_be_42 : decode cX5_be 42 = .ok (.invokestatic 31, 3) := dk_184 0 31 (dk_at dksX5_be_1 18 rfl rfl)
theorem dX5_be_45 : decode cX5_be 45 = .ok (.aload_n 0, 1) := dk_42 (dk_at dksX5_be_1 21 rfl rfl)
theorem dX5_be_46 : decode cX5_be 46 = .ok (.aload_n 1, 1) := dk_43 (dk_at dksX5_be_1 22 rfl rfl)
theorem dX5_be_47 : decode cX5_be 47 = .ok (.getfield 27, 3) := dk_180 0 27 (dk_at dksX5_be_2 0 rfl rfl)
theorem dX5_be_50 : decode cX5_be 50 = .ok (.putfield 27, 3) := dk_181 0 27 (dk_at dksX5_be_2 3 rfl rfl)
theorem dX5_be_53 : decode cX5_be 53 = .ok (.aload_n 0, 1) := dk_42 (dk_at dksX5_be_2 6 rfl rfl)
theorem dX5_be_54 : decode cX5_be 54 = .ok (.aload_n 1, 1) := dk_43 (dk_at dksX5_be_2 7 rfl rfl)
theorem dX5_be_55 : decode cX5_be 55 = .ok (.getfield 37, 3) := dk_180 0 37 (dk_at dksX5_be_2 8 rfl rfl)
theorem dX5_be_58 : decode cX5_be 58 = .ok (.putfield 37, 3) := dk_181 0 37 (dk_at dksX5_be_2 11 rfl rfl)
theorem dX5_be_61 : decode cX5_be 61 = .ok (.aload_n 0, 1) := dk_42 (dk_at dksX5_be_2 14 rfl rfl)
theorem dX5_be_62 : decode cX5_be 62 = .ok (.aload_n 1, 1) := dk_43 (dk_at dksX5_be_2 15 rfl rfl)
theorem dX5_be_63 : decode cX5_be 63 = .ok (.getfield 40, 3) := dk_180 0 40 (dk_at dksX5_be_2 16 rfl rfl)
theorem dX5_be_66 : decode cX5_be 66 = .ok (.putfield 40, 3) := dk_181 0 40 (dk_at dksX5_be_2 19 rfl rfl)
theorem dX5_be_69 : decode cX5_be 69 = .ok (.return_, 1) := dk_177 (dk_at dksX5_be_2 22 rfl rfl)
abbrev cX5_lays : ByteArray := prog_7_method_11_code
def yX5_lays : MethodName := ⟨RX5, "lays", "(II)V"⟩
def dkwX5_lays_2 : List UInt8 := [182, 0, 83, 177]
abbrev dktX5_lays_2 : List UInt8 := dkwX5_lays_2 ++ []
def dkwX5_lays_1 : List UInt8 := [42, 180, 0, 40, 28, 184, 0, 60, 153, 0, 12, 42, 27, 28, 182, 0, 79, 167, 0, 9, 42, 27, 28]
abbrev dktX5_lays_1 : List UInt8 := dkwX5_lays_1 ++ dktX5_lays_2
def dkwX5_lays_0 : List UInt8 := [42, 180, 0, 18, 27, 92, 46, 4, 28, 120, 128, 79, 42, 180, 0, 40, 27, 184, 0, 60, 154, 0, 4, 177]
abbrev dktX5_lays_0 : List UInt8 := dkwX5_lays_0 ++ dktX5_lays_1
theorem dksX5_lays_0 : cX5_lays.data.toList.drop 0 = dktX5_lays_0 := by decide +kernel
theorem dksX5_lays_1 : cX5_lays.data.toList.drop 24 = dktX5_lays_1 := dk_seg dksX5_lays_0 24 rfl rfl
theorem dksX5_lays_2 : cX5_lays.data.toList.drop 47 = dktX5_lays_2 := dk_seg dksX5_lays_1 23 rfl rfl
theorem dX5_lays_0 : decode cX5_lays 0 = .ok (.aload_n 0, 1) := dk_42 (dk_at dksX5_lays_0 0 rfl rfl)
theorem dX5_lays_1 : decode cX5_lays 1 = .ok (.getfield 18, 3) := dk_180 0 18 (dk_at dksX5_lays_0 1 rfl rfl)
theorem dX5_lays_4 : decode cX5_lays 4 = .ok (.iload_n 1, 1) := dk_27 (dk_at dksX5_lays_0 4 rfl rfl)
theorem dX5_lays_5 : decode cX5_lays 5 = .ok (.dup2, 1) := dk_92 (dk_at dksX5_lays_0 5 rfl rfl)
theorem dX5_lays_6 : decode cX5_lays 6 = .ok (.iaload, 1) := dk_46 (dk_at dksX5_lays_0 6 rfl rfl)
theorem dX5_lays_7 : decode cX5_lays 7 = .ok (.iconst 1, 1) := dk_4 (dk_at dksX5_lays_0 7 rfl rfl)
theorem dX5_lays_8 : decode cX5_lays 8 = .ok (.iload_n 2, 1) := dk_28 (dk_at dksX5_lays_0 8 rfl rfl)
theorem dX5_lays_9 : decode cX5_lays 9 = .ok (.ishl, 1) := dk_120 (dk_at dksX5_lays_0 9 rfl rfl)
theorem dX5_lays_10 : decode cX5_lays 10 = .ok (.ior, 1) := dk_128 (dk_at dksX5_lays_0 10 rfl rfl)
theorem dX5_lays_11 : decode cX5_lays 11 = .ok (.iastore, 1) := dk_79 (dk_at dksX5_lays_0 11 rfl rfl)
theorem dX5_lays_12 : decode cX5_lays 12 = .ok (.aload_n 0, 1) := dk_42 (dk_at dksX5_lays_0 12 rfl rfl)
theorem dX5_lays_13 : decode cX5_lays 13 = .ok (.getfield 40, 3) := dk_180 0 40 (dk_at dksX5_lays_0 13 rfl rfl)
theorem dX5_lays_16 : decode cX5_lays 16 = .ok (.iload_n 1, 1) := dk_27 (dk_at dksX5_lays_0 16 rfl rfl)
theorem dX5_lays_17 : decode cX5_lays 17 = .ok (.invokestatic 60, 3) := dk_184 0 60 (dk_at dksX5_lays_0 17 rfl rfl)
theorem dX5_lays_20 : decode cX5_lays 20 = .ok (.ifCond .ne 4, 3) := dk_154 0 4 (dk_at dksX5_lays_0 20 rfl rfl)
theorem dX5_lays_23 : decode cX5_lays 23 = .ok (.return_, 1) := dk_177 (dk_at dksX5_lays_0 23 rfl rfl)
theorem dX5_lays_24 : decode cX5_lays 24 = .ok (.aload_n 0, 1) := dk_42 (dk_at dksX5_lays_1 0 rfl rfl)
theorem dX5_lays_25 : decode cX5_lays 25 = .ok (.getfield 40, 3) := dk_180 0 40 (dk_at dksX5_lays_1 1 rfl rfl)
theorem dX5_lays_28 : decode cX5_lays 28 = .ok (.iload_n 2, 1) := dk_28 (dk_at dksX5_lays_1 4 rfl rfl)
theorem dX5_lays_29 : decode cX5_lays 29 = .ok (.invokestatic 60, 3) := dk_184 0 60 (dk_at dksX5_lays_1 5 rfl rfl)
theorem dX5_lays_32 : decode cX5_lays 32 = .ok (.ifCond .eq 12, 3) := dk_153 0 12 (dk_at dksX5_lays_1 8 rfl rfl)
theorem dX5_lays_35 : decode cX5_lays 35 = .ok (.aload_n 0, 1) := dk_42 (dk_at dksX5_lays_1 11 rfl rfl)
theorem dX5_lays_36 : decode cX5_lays 36 = .ok (.iload_n 1, 1) := dk_27 (dk_at dksX5_lays_1 12 rfl rfl)
theorem dX5_lays_37 : decode cX5_lays 37 = .ok (.iload_n 2, 1) := dk_28 (dk_at dksX5_lays_1 13 rfl rfl)
theorem dX5_lays_38 : decode cX5_lays 38 = .ok (.invokevirtual 79, 3) := dk_182 0 79 (dk_at dksX5_lays_1 14 rfl rfl)
theorem dX5_lays_41 : decode cX5_lays 41 = .ok (.goto 9, 3) := dk_167 0 9 (dk_at dksX5_lays_1 17 rfl rfl)
theorem dX5_lays_44 : decode cX5_lays 44 = .ok (.aload_n 0, 1) := dk_42 (dk_at dksX5_lays_1 20 rfl rfl)
theorem dX5_lays_45 : decode cX5_lays 45 = .ok (.iload_n 1, 1) := dk_27 (dk_at dksX5_lays_1 21 rfl rfl)
theorem dX5_lays_46 : decode cX5_lays 46 = .ok (.iload_n 2, 1) := dk_28 (dk_at dksX5_lays_1 22 rfl rfl)
theorem dX5_lays_47 : decode cX5_lays 47 = .ok (.invokevirtual 83, 3) := dk_182 0 83 (dk_at dksX5_lays_2 0 rfl rfl)
theorem dX5_lays_50 : decode cX5_lays 50 = .ok (.return_, 1) := dk_177 (dk_at dksX5_lays_2 3 rfl rfl)
abbrev cX5_lifts : ByteArray := prog_7_method_13_code
def yX5_lifts : MethodName := ⟨RX5, "lifts", "(II)V"⟩
def dkwX5_lifts_8 : List UInt8 := [21, 4, 29, 79, 132, 4, 1, 167, 255, 224, 42, 182, 0, 68, 177]
abbrev dktX5_lifts_8 : List UInt8 := dkwX5_lifts_8 ++ []
def dkwX5_lifts_7 : List UInt8 := [42, 180, 0, 27, 162, 0, 29, 42, 180, 0, 89, 21, 4, 184, 0, 60, 153, 0, 11, 42, 180, 0, 9]
abbrev dktX5_lifts_7 : List UInt8 := dkwX5_lifts_7 ++ dktX5_lifts_8
def dkwX5_lifts_6 : List UInt8 := [180, 0, 15, 29, 46, 4, 96, 182, 0, 98, 167, 255, 202, 132, 4, 255, 167, 255, 183, 3, 54, 4, 21, 4]
abbrev dktX5_lifts_6 : List UInt8 := dkwX5_lifts_6 ++ dktX5_lifts_7
def dkwX5_lifts_5 : List UInt8 := [54, 5, 42, 180, 0, 21, 21, 4, 92, 46, 4, 21, 5, 120, 2, 130, 126, 79, 42, 21, 5, 21, 4, 42]
abbrev dktX5_lifts_5 : List UInt8 := dkwX5_lifts_5 ++ dktX5_lifts_6
def dkwX5_lifts_4 : List UInt8 := [164, 0, 66, 42, 180, 0, 21, 21, 4, 46, 153, 0, 50, 42, 180, 0, 21, 21, 4, 46, 184, 0, 95]
abbrev dktX5_lifts_4 : List UInt8 := dkwX5_lifts_4 ++ dktX5_lifts_5
def dkwX5_lifts_3 : List UInt8 := [46, 4, 28, 120, 79, 42, 180, 0, 15, 28, 46, 54, 4, 21, 4, 42, 180, 0, 15, 29, 46, 4, 96]
abbrev dktX5_lifts_3 : List UInt8 := dkwX5_lifts_3 ++ dktX5_lifts_4
def dkwX5_lifts_2 : List UInt8 := [167, 255, 238, 42, 4, 28, 120, 181, 0, 89, 42, 3, 181, 0, 92, 42, 180, 0, 21, 42, 180, 0, 15, 28]
abbrev dktX5_lifts_2 : List UInt8 := dkwX5_lifts_2 ++ dktX5_lifts_3
def dkwX5_lifts_1 : List UInt8 := [177, 3, 54, 4, 21, 4, 16, 16, 162, 0, 17, 42, 180, 0, 21, 21, 4, 3, 79, 132, 4, 1]
abbrev dktX5_lifts_1 : List UInt8 := dkwX5_lifts_1 ++ dktX5_lifts_2
def dkwX5_lifts_0 : List UInt8 := [42, 27, 28, 182, 0, 86, 62, 42, 180, 0, 15, 28, 46, 42, 180, 0, 15, 29, 46, 4, 96, 163, 0, 4]
abbrev dktX5_lifts_0 : List UInt8 := dkwX5_lifts_0 ++ dktX5_lifts_1
theorem dksX5_lifts_0 : cX5_lifts.data.toList.drop 0 = dktX5_lifts_0 := by decide +kernel
theorem dksX5_lifts_1 : cX5_lifts.data.toList.drop 24 = dktX5_lifts_1 := dk_seg dksX5_lifts_0 24 rfl rfl
theorem dksX5_lifts_2 : cX5_lifts.data.toList.drop 46 = dktX5_lifts_2 := dk_seg dksX5_lifts_1 22 rfl rfl
theorem dksX5_lifts_3 : cX5_lifts.data.toList.drop 70 = dktX5_lifts_3 := dk_seg dksX5_lifts_2 24 rfl rfl
theorem dksX5_lifts_4 : cX5_lifts.data.toList.drop 93 = dktX5_lifts_4 := dk_seg dksX5_lifts_3 23 rfl rfl
theorem dksX5_lifts_5 : cX5_lifts.data.toList.drop 116 = dktX5_lifts_5 := dk_seg dksX5_lifts_4 23 rfl rfl
theorem dksX5_lifts_6 : cX5_lifts.data.toList.drop 140 = dktX5_lifts_6 := dk_seg dksX5_lifts_5 24 rfl rfl
theorem dksX5_lifts_7 : cX5_lifts.data.toList.drop 164 = dktX5_lifts_7 := dk_seg dksX5_lifts_6 24 rfl rfl
theorem dksX5_lifts_8 : cX5_lifts.data.toList.drop 187 = dktX5_lifts_8 := dk_seg dksX5_lifts_7 23 rfl rfl
theorem dX5_lifts_0 : decode cX5_lifts 0 = .ok (.aload_n 0, 1) := dk_42 (dk_at dksX5_lifts_0 0 rfl rfl)
theorem dX5_lifts_1 : decode cX5_lifts 1 = .ok (.iload_n 1, 1) := dk_27 (dk_at dksX5_lifts_0 1 rfl rfl)
theorem dX5_lifts_2 : decode cX5_lifts 2 = .ok (.iload_n 2, 1) := dk_28 (dk_at dksX5_lifts_0 2 rfl rfl)
theorem dX5_lifts_3 : decode cX5_lifts 3 = .ok (.invokevirtual 86, 3) := dk_182 0 86 (dk_at dksX5_lifts_0 3 rfl rfl)
theorem dX5_lifts_6 : decode cX5_lifts 6 = .ok (.istore_n 3, 1) := dk_62 (dk_at dksX5_lifts_0 6 rfl rfl)
theorem dX5_lifts_7 : decode cX5_lifts 7 = .ok (.aload_n 0, 1) := dk_42 (dk_at dksX5_lifts_0 7 rfl rfl)
theorem dX5_lifts_8 : decode cX5_lifts 8 = .ok (.getfield 15, 3) := dk_180 0 15 (dk_at dksX5_lifts_0 8 rfl rfl)
theorem dX5_lifts_11 : decode cX5_lifts 11 = .ok (.iload_n 2, 1) := dk_28 (dk_at dksX5_lifts_0 11 rfl rfl)
theorem dX5_lifts_12 : decode cX5_lifts 12 = .ok (.iaload, 1) := dk_46 (dk_at dksX5_lifts_0 12 rfl rfl)
theorem dX5_lifts_13 : decode cX5_lifts 13 = .ok (.aload_n 0, 1) := dk_42 (dk_at dksX5_lifts_0 13 rfl rfl)
theorem dX5_lifts_14 : decode cX5_lifts 14 = .ok (.getfield 15, 3) := dk_180 0 15 (dk_at dksX5_lifts_0 14 rfl rfl)
theorem dX5_lifts_17 : decode cX5_lifts 17 = .ok (.iload_n 3, 1) := dk_29 (dk_at dksX5_lifts_0 17 rfl rfl)
theorem dX5_lifts_18 : decode cX5_lifts 18 = .ok (.iaload, 1) := dk_46 (dk_at dksX5_lifts_0 18 rfl rfl)
theorem dX5_lifts_19 : decode cX5_lifts 19 = .ok (.iconst 1, 1) := dk_4 (dk_at dksX5_lifts_0 19 rfl rfl)
theorem dX5_lifts_20 : decode cX5_lifts 20 = .ok (.iadd, 1) := dk_96 (dk_at dksX5_lifts_0 20 rfl rfl)
theorem dX5_lifts_21 : decode cX5_lifts 21 = .ok (.if_icmp .gt 4, 3) := dk_163 0 4 (dk_at dksX5_lifts_0 21 rfl rfl)
theorem dX5_lifts_24 : decode cX5_lifts 24 = .ok (.return_, 1) := dk_177 (dk_at dksX5_lifts_1 0 rfl rfl)
theorem dX5_lifts_25 : decode cX5_lifts 25 = .ok (.iconst 0, 1) := dk_3 (dk_at dksX5_lifts_1 1 rfl rfl)
theorem dX5_lifts_26 : decode cX5_lifts 26 = .ok (.istore 4, 2) := dk_54 4 (dk_at dksX5_lifts_1 2 rfl rfl)
theorem dX5_lifts_28 : decode cX5_lifts 28 = .ok (.iload 4, 2) := dk_21 4 (dk_at dksX5_lifts_1 4 rfl rfl)
theorem dX5_lifts_30 : decode cX5_lifts 30 = .ok (.bipush 16, 2) := dk_16 16 (dk_at dksX5_lifts_1 6 rfl rfl)
theorem dX5_lifts_32 : decode cX5_lifts 32 = .ok (.if_icmp .ge 17, 3) := dk_162 0 17 (dk_at dksX5_lifts_1 8 rfl rfl)
theorem dX5_lifts_35 : decode cX5_lifts 35 = .ok (.aload_n 0, 1) := dk_42 (dk_at dksX5_lifts_1 11 rfl rfl)
theorem dX5_lifts_36 : decode cX5_lifts 36 = .ok (.getfield 21, 3) := dk_180 0 21 (dk_at dksX5_lifts_1 12 rfl rfl)
theorem dX5_lifts_39 : decode cX5_lifts 39 = .ok (.iload 4, 2) := dk_21 4 (dk_at dksX5_lifts_1 15 rfl rfl)
theorem dX5_lifts_41 : decode cX5_lifts 41 = .ok (.iconst 0, 1) := dk_3 (dk_at dksX5_lifts_1 17 rfl rfl)
theorem dX5_lifts_42 : decode cX5_lifts 42 = .ok (.iastore, 1) := dk_79 (dk_at dksX5_lifts_1 18 rfl rfl)
theorem dX5_lifts_43 : decode cX5_lifts 43 = .ok (.iinc 4 1, 3) := dk_132 4 1 (dk_at dksX5_lifts_1 19 rfl rfl)
theorem dX5_lifts_46 : decode cX5_lifts 46 = .ok (.goto (-18), 3) := dk_167 255 238 (dk_at dksX5_lifts_2 0 rfl rfl)
theorem dX5_lifts_49 : decode cX5_lifts 49 = .ok (.aload_n 0, 1) := dk_42 (dk_at dksX5_lifts_2 3 rfl rfl)
theorem dX5_lifts_50 : decode cX5_lifts 50 = .ok (.iconst 1, 1) := dk_4 (dk_at dksX5_lifts_2 4 rfl rfl)
theorem dX5_lifts_51 : decode cX5_lifts 51 = .ok (.iload_n 2, 1) := dk_28 (dk_at dksX5_lifts_2 5 rfl rfl)
theorem dX5_lifts_52 : decode cX5_lifts 52 = .ok (.ishl, 1) := dk_120 (dk_at dksX5_lifts_2 6 rfl rfl)
theorem dX5_lifts_53 : decode cX5_lifts 53 = .ok (.putfield 89, 3) := dk_181 0 89 (dk_at dksX5_lifts_2 7 rfl rfl)
theorem dX5_lifts_56 : decode cX5_lifts 56 = .ok (.aload_n 0, 1) := dk_42 (dk_at dksX5_lifts_2 10 rfl rfl)
theorem dX5_lifts_57 : decode cX5_lifts 57 = .ok (.iconst 0, 1) := dk_3 (dk_at dksX5_lifts_2 11 rfl rfl)
theorem dX5_lifts_58 : decode cX5_lifts 58 = .ok (.putfield 92, 3) := dk_181 0 92 (dk_at dksX5_lifts_2 12 rfl rfl)
theorem dX5_lifts_61 : decode cX5_lifts 61 = .ok (.aload_n 0, 1) := dk_42 (dk_at dksX5_lifts_2 15 rfl rfl)
theorem dX5_lifts_62 : decode cX5_lifts 62 = .ok (.getfield 21, 3) := dk_180 0 21 (dk_at dksX5_lifts_2 16 rfl rfl)
theorem dX5_lifts_65 : decode cX5_lifts 65 = .ok (.aload_n 0, 1) := dk_42 (dk_at dksX5_lifts_2 19 rfl rfl)
theorem dX5_lifts_66 : decode cX5_lifts 66 = .ok (.getfield 15, 3) := dk_180 0 15 (dk_at dksX5_lifts_2 20 rfl rfl)
theorem dX5_lifts_69 : decode cX5_lifts 69 = .ok (.iload_n 2, 1) := dk_28 (dk_at dksX5_lifts_2 23 rfl rfl)
theorem dX5_lifts_70 : decode cX5_lifts 70 = .ok (.iaload, 1) := dk_46 (dk_at dksX5_lifts_3 0 rfl rfl)
theorem dX5_lifts_71 : decode cX5_lifts 71 = .ok (.iconst 1, 1) := dk_4 (dk_at dksX5_lifts_3 1 rfl rfl)
theorem dX5_lifts_72 : decode cX5_lifts 72 = .ok (.iload_n 2, 1) := dk_28 (dk_at dksX5_lifts_3 2 rfl rfl)
theorem dX5_lifts_73 : decode cX5_lifts 73 = .ok (.ishl, 1) := dk_120 (dk_at dksX5_lifts_3 3 rfl rfl)
theorem dX5_lifts_74 : decode cX5_lifts 74 = .ok (.iastore, 1) := dk_79 (dk_at dksX5_lifts_3 4 rfl rfl)
theorem dX5_lifts_75 : decode cX5_lifts 75 = .ok (.aload_n 0, 1) := dk_42 (dk_at dksX5_lifts_3 5 rfl rfl)
theorem dX5_lifts_76 : decode cX5_lifts 76 = .ok (.getfield 15, 3) := dk_180 0 15 (dk_at dksX5_lifts_3 6 rfl rfl)
theorem dX5_lifts_79 : decode cX5_lifts 79 = .ok (.iload_n 2, 1) := dk_28 (dk_at dksX5_lifts_3 9 rfl rfl)
theorem dX5_lifts_80 : decode cX5_lifts 80 = .ok (.iaload, 1) := dk_46 (dk_at dksX5_lifts_3 10 rfl rfl)
theorem dX5_lifts_81 : decode cX5_lifts 81 = .ok (.istore 4, 2) := dk_54 4 (dk_at dksX5_lifts_3 11 rfl rfl)
theorem dX5_lifts_83 : decode cX5_lifts 83 = .ok (.iload 4, 2) := dk_21 4 (dk_at dksX5_lifts_3 13 rfl rfl)
theorem dX5_lifts_85 : decode cX5_lifts 85 = .ok (.aload_n 0, 1) := dk_42 (dk_at dksX5_lifts_3 15 rfl rfl)
theorem dX5_lifts_86 : decode cX5_lifts 86 = .ok (.getfield 15, 3) := dk_180 0 15 (dk_at dksX5_lifts_3 16 rfl rfl)
theorem dX5_lifts_89 : decode cX5_lifts 89 = .ok (.iload_n 3, 1) := dk_29 (dk_at dksX5_lifts_3 19 rfl rfl)
theorem dX5_lifts_90 : decode cX5_lifts 90 = .ok (.iaload, 1) := dk_46 (dk_at dksX5_lifts_3 20 rfl rfl)
theorem dX5_lifts_91 : decode cX5_lifts 91 = .ok (.iconst 1, 1) := dk_4 (dk_at dksX5_lifts_3 21 rfl rfl)
theorem dX5_lifts_92 : decode cX5_lifts 92 = .ok (.iadd, 1) := dk_96 (dk_at dksX5_lifts_3 22 rfl rfl)
theorem dX5_lifts_93 : decode cX5_lifts 93 = .ok (.if_icmp .le 66, 3) := dk_164 0 66 (dk_at dksX5_lifts_4 0 rfl rfl)
theorem dX5_lifts_96 : decode cX5_lifts 96 = .ok (.aload_n 0, 1) := dk_42 (dk_at dksX5_lifts_4 3 rfl rfl)
theorem dX5_lifts_97 : decode cX5_lifts 97 = .ok (.getfield 21, 3) := dk_180 0 21 (dk_at dksX5_lifts_4 4 rfl rfl)
theorem dX5_lifts_100 : decode cX5_lifts 100 = .ok (.iload 4, 2) := dk_21 4 (dk_at dksX5_lifts_4 7 rfl rfl)
theorem dX5_lifts_102 : decode cX5_lifts 102 = .ok (.iaload, 1) := dk_46 (dk_at dksX5_lifts_4 9 rfl rfl)
theorem dX5_lifts_103 : decode cX5_lifts 103 = .ok (.ifCond .eq 50, 3) := dk_153 0 50 (dk_at dksX5_lifts_4 10 rfl rfl)
theorem dX5_lifts_106 : decode cX5_lifts 106 = .ok (.aload_n 0, 1) := dk_42 (dk_at dksX5_lifts_4 13 rfl rfl)
theorem dX5_lifts_107 : decode cX5_lifts 107 = .ok (.getfield 21, 3) := dk_180 0 21 (dk_at dksX5_lifts_4 14 rfl rfl)
theorem dX5_lifts_110 : decode cX5_lifts 110 = .ok (.iload 4, 2) := dk_21 4 (dk_at dksX5_lifts_4 17 rfl rfl)
theorem dX5_lifts_112 : decode cX5_lifts 112 = .ok (.iaload, 1) := dk_46 (dk_at dksX5_lifts_4 19 rfl rfl)
theorem dX5_lifts_113 : decode cX5_lifts 113 = .ok (.invokestatic 95, 3) := dk_184 0 95 (dk_at dksX5_lifts_4 20 rfl rfl)
theorem dX5_lifts_116 : decode cX5_lifts 116 = .ok (.istore 5, 2) := dk_54 5 (dk_at dksX5_lifts_5 0 rfl rfl)
theorem dX5_lifts_118 : decode cX5_lifts 118 = .ok (.aload_n 0, 1) := dk_42 (dk_at dksX5_lifts_5 2 rfl rfl)
theorem dX5_lifts_119 : decode cX5_lifts 119 = .ok (.getfield 21, 3) := dk_180 0 21 (dk_at dksX5_lifts_5 3 rfl rfl)
theorem dX5_lifts_122 : decode cX5_lifts 122 = .ok (.iload 4, 2) := dk_21 4 (dk_at dksX5_lifts_5 6 rfl rfl)
theorem dX5_lifts_124 : decode cX5_lifts 124 = .ok (.dup2, 1) := dk_92 (dk_at dksX5_lifts_5 8 rfl rfl)
theorem dX5_lifts_125 : decode cX5_lifts 125 = .ok (.iaload, 1) := dk_46 (dk_at dksX5_lifts_5 9 rfl rfl)
theorem dX5_lifts_126 : decode cX5_lifts 126 = .ok (.iconst 1, 1) := dk_4 (dk_at dksX5_lifts_5 10 rfl rfl)
theorem dX5_lifts_127 : decode cX5_lifts 127 = .ok (.iload 5, 2) := dk_21 5 (dk_at dksX5_lifts_5 11 rfl rfl)
theorem dX5_lifts_129 : decode cX5_lifts 129 = .ok (.ishl, 1) := dk_120 (dk_at dksX5_lifts_5 13 rfl rfl)
theorem dX5_lifts_130 : decode cX5_lifts 130 = .ok (.iconst (-1), 1) := dk_2 (dk_at dksX5_lifts_5 14 rfl rfl)
theorem dX5_lifts_131 : decode cX5_lifts 131 = .ok (.ixor, 1) := dk_130 (dk_at dksX5_lifts_5 15 rfl rfl)
theorem dX5_lifts_132 : decode cX5_lifts 132 = .ok (.iand, 1) := dk_126 (dk_at dksX5_lifts_5 16 rfl rfl)
theorem dX5_lifts_133 : decode cX5_lifts 133 = .ok (.iastore, 1) := dk_79 (dk_at dksX5_lifts_5 17 rfl rfl)
theorem dX5_lifts_134 : decode cX5_lifts 134 = .ok (.aload_n 0, 1) := dk_42 (dk_at dksX5_lifts_5 18 rfl rfl)
theorem dX5_lifts_135 : decode cX5_lifts 135 = .ok (.iload 5, 2) := dk_21 5 (dk_at dksX5_lifts_5 19 rfl rfl)
theorem dX5_lifts_137 : decode cX5_lifts 137 = .ok (.iload 4, 2) := dk_21 4 (dk_at dksX5_lifts_5 21 rfl rfl)
theorem dX5_lifts_139 : decode cX5_lifts 139 = .ok (.aload_n 0, 1) := dk_42 (dk_at dksX5_lifts_5 23 rfl rfl)
theorem dX5_lifts_140 : decode cX5_lifts 140 = .ok (.getfield 15, 3) := dk_180 0 15 (dk_at dksX5_lifts_6 0 rfl rfl)
theorem dX5_lifts_143 : decode cX5_lifts 143 = .ok (.iload_n 3, 1) := dk_29 (dk_at dksX5_lifts_6 3 rfl rfl)
theorem dX5_lifts_144 : decode cX5_lifts 144 = .ok (.iaload, 1) := dk_46 (dk_at dksX5_lifts_6 4 rfl rfl)
theorem dX5_lifts_145 : decode cX5_lifts 145 = .ok (.iconst 1, 1) := dk_4 (dk_at dksX5_lifts_6 5 rfl rfl)
theorem dX5_lifts_146 : decode cX5_lifts 146 = .ok (.iadd, 1) := dk_96 (dk_at dksX5_lifts_6 6 rfl rfl)
theorem dX5_lifts_147 : decode cX5_lifts 147 = .ok (.invokevirtual 98, 3) := dk_182 0 98 (dk_at dksX5_lifts_6 7 rfl rfl)
theorem dX5_lifts_150 : decode cX5_lifts 150 = .ok (.goto (-54), 3) := dk_167 255 202 (dk_at dksX5_lifts_6 10 rfl rfl)
theorem dX5_lifts_153 : decode cX5_lifts 153 = .ok (.iinc 4 (-1), 3) := dk_132 4 255 (dk_at dksX5_lifts_6 13 rfl rfl)
theorem dX5_lifts_156 : decode cX5_lifts 156 = .ok (.goto (-73), 3) := dk_167 255 183 (dk_at dksX5_lifts_6 16 rfl rfl)
theorem dX5_lifts_159 : decode cX5_lifts 159 = .ok (.iconst 0, 1) := dk_3 (dk_at dksX5_lifts_6 19 rfl rfl)
theorem dX5_lifts_160 : decode cX5_lifts 160 = .ok (.istore 4, 2) := dk_54 4 (dk_at dksX5_lifts_6 20 rfl rfl)
theorem dX5_lifts_162 : decode cX5_lifts 162 = .ok (.iload 4, 2) := dk_21 4 (dk_at dksX5_lifts_6 22 rfl rfl)
theorem dX5_lifts_164 : decode cX5_lifts 164 = .ok (.aload_n 0, 1) := dk_42 (dk_at dksX5_lifts_7 0 rfl rfl)
theorem dX5_lifts_165 : decode cX5_lifts 165 = .ok (.getfield 27, 3) := dk_180 0 27 (dk_at dksX5_lifts_7 1 rfl rfl)
theorem dX5_lifts_168 : decode cX5_lifts 168 = .ok (.if_icmp .ge 29, 3) := dk_162 0 29 (dk_at dksX5_lifts_7 4 rfl rfl)
theorem dX5_lifts_171 : decode cX5_lifts 171 = .ok (.aload_n 0, 1) := dk_42 (dk_at dksX5_lifts_7 7 rfl rfl)
theorem dX5_lifts_172 : decode cX5_lifts 172 = .ok (.getfield 89, 3) := dk_180 0 89 (dk_at dksX5_lifts_7 8 rfl rfl)
theorem dX5_lifts_175 : decode cX5_lifts 175 = .ok (.iload 4, 2) := dk_21 4 (dk_at dksX5_lifts_7 11 rfl rfl)
theorem dX5_lifts_177 : decode cX5_lifts 177 = .ok (.invokestatic 60, 3) := dk_184 0 60 (dk_at dksX5_lifts_7 13 rfl rfl)
theorem dX5_lifts_180 : decode cX5_lifts 180 = .ok (.ifCond .eq 11, 3) := dk_153 0 11 (dk_at dksX5_lifts_7 16 rfl rfl)
theorem dX5_lifts_183 : decode cX5_lifts 183 = .ok (.aload_n 0, 1) := dk_42 (dk_at dksX5_lifts_7 19 rfl rfl)
theorem dX5_lifts_184 : decode cX5_lifts 184 = .ok (.getfield 9, 3) := dk_180 0 9 (dk_at dksX5_lifts_7 20 rfl rfl)
theorem dX5_lifts_187 : decode cX5_lifts 187 = .ok (.iload 4, 2) := dk_21 4 (dk_at dksX5_lifts_8 0 rfl rfl)
theorem dX5_lifts_189 : decode cX5_lifts 189 = .ok (.iload_n 3, 1) := dk_29 (dk_at dksX5_lifts_8 2 rfl rfl)
theorem dX5_lifts_190 : decode cX5_lifts 190 = .ok (.iastore, 1) := dk_79 (dk_at dksX5_lifts_8 3 rfl rfl)
theorem dX5_lifts_191 : decode cX5_lifts 191 = .ok (.iinc 4 1, 3) := dk_132 4 1 (dk_at dksX5_lifts_8 4 rfl rfl)
theorem dX5_lifts_194 : decode cX5_lifts 194 = .ok (.goto (-32), 3) := dk_167 255 224 (dk_at dksX5_lifts_8 7 rfl rfl)
theorem dX5_lifts_197 : decode cX5_lifts 197 = .ok (.aload_n 0, 1) := dk_42 (dk_at dksX5_lifts_8 10 rfl rfl)
theorem dX5_lifts_198 : decode cX5_lifts 198 = .ok (.invokevirtual 68, 3) := dk_182 0 68 (dk_at dksX5_lifts_8 11 rfl rfl)
theorem dX5_lifts_201 : decode cX5_lifts 201 = .ok (.return_, 1) := dk_177 (dk_at dksX5_lifts_8 14 rfl rfl)
abbrev cX5_common : ByteArray := prog_7_method_10_code
def yX5_common : MethodName := ⟨RX5, "common", "(II)I"⟩
def dkwX5_common_2 : List UInt8 := [167, 255, 215, 29, 172]
abbrev dktX5_common_2 : List UInt8 := dkwX5_common_2 ++ []
def dkwX5_common_1 : List UInt8 := [161, 0, 13, 42, 180, 0, 9, 29, 46, 62, 167, 255, 227, 42, 180, 0, 9, 21, 4, 46, 54, 4]
abbrev dktX5_common_1 : List UInt8 := dkwX5_common_1 ++ dktX5_common_2
def dkwX5_common_0 : List UInt8 := [27, 62, 28, 54, 4, 29, 21, 4, 159, 0, 41, 42, 180, 0, 15, 29, 46, 42, 180, 0, 15, 21, 4, 46]
abbrev dktX5_common_0 : List UInt8 := dkwX5_common_0 ++ dktX5_common_1
theorem dksX5_common_0 : cX5_common.data.toList.drop 0 = dktX5_common_0 := by decide +kernel
theorem dksX5_common_1 : cX5_common.data.toList.drop 24 = dktX5_common_1 := dk_seg dksX5_common_0 24 rfl rfl
theorem dksX5_common_2 : cX5_common.data.toList.drop 46 = dktX5_common_2 := dk_seg dksX5_common_1 22 rfl rfl
theorem dX5_common_0 : decode cX5_common 0 = .ok (.iload_n 1, 1) := dk_27 (dk_at dksX5_common_0 0 rfl rfl)
theorem dX5_common_1 : decode cX5_common 1 = .ok (.istore_n 3, 1) := dk_62 (dk_at dksX5_common_0 1 rfl rfl)
theorem dX5_common_2 : decode cX5_common 2 = .ok (.iload_n 2, 1) := dk_28 (dk_at dksX5_common_0 2 rfl rfl)
theorem dX5_common_3 : decode cX5_common 3 = .ok (.istore 4, 2) := dk_54 4 (dk_at dksX5_common_0 3 rfl rfl)
theorem dX5_common_5 : decode cX5_common 5 = .ok (.iload_n 3, 1) := dk_29 (dk_at dksX5_common_0 5 rfl rfl)
theorem dX5_common_6 : decode cX5_common 6 = .ok (.iload 4, 2) := dk_21 4 (dk_at dksX5_common_0 6 rfl rfl)
theorem dX5_common_8 : decode cX5_common 8 = .ok (.if_icmp .eq 41, 3) := dk_159 0 41 (dk_at dksX5_common_0 8 rfl rfl)
theorem dX5_common_11 : decode cX5_common 11 = .ok (.aload_n 0, 1) := dk_42 (dk_at dksX5_common_0 11 rfl rfl)
theorem dX5_common_12 : decode cX5_common 12 = .ok (.getfield 15, 3) := dk_180 0 15 (dk_at dksX5_common_0 12 rfl rfl)
theorem dX5_common_15 : decode cX5_common 15 = .ok (.iload_n 3, 1) := dk_29 (dk_at dksX5_common_0 15 rfl rfl)
theorem dX5_common_16 : decode cX5_common 16 = .ok (.iaload, 1) := dk_46 (dk_at dksX5_common_0 16 rfl rfl)
theorem dX5_common_17 : decode cX5_common 17 = .ok (.aload_n 0, 1) := dk_42 (dk_at dksX5_common_0 17 rfl rfl)
theorem dX5_common_18 : decode cX5_common 18 = .ok (.getfield 15, 3) := dk_180 0 15 (dk_at dksX5_common_0 18 rfl rfl)
theorem dX5_common_21 : decode cX5_common 21 = .ok (.iload 4, 2) := dk_21 4 (dk_at dksX5_common_0 21 rfl rfl)
theorem dX5_common_23 : decode cX5_common 23 = .ok (.iaload, 1) := dk_46 (dk_at dksX5_common_0 23 rfl rfl)
theorem dX5_common_24 : decode cX5_common 24 = .ok (.if_icmp .lt 13, 3) := dk_161 0 13 (dk_at dksX5_common_1 0 rfl rfl)
theorem dX5_common_27 : decode cX5_common 27 = .ok (.aload_n 0, 1) := dk_42 (dk_at dksX5_common_1 3 rfl rfl)
theorem dX5_common_28 : decode cX5_common 28 = .ok (.getfield 9, 3) := dk_180 0 9 (dk_at dksX5_common_1 4 rfl rfl)
theorem dX5_common_31 : decode cX5_common 31 = .ok (.iload_n 3, 1) := dk_29 (dk_at dksX5_common_1 7 rfl rfl)
theorem dX5_common_32 : decode cX5_common 32 = .ok (.iaload, 1) := dk_46 (dk_at dksX5_common_1 8 rfl rfl)
theorem dX5_common_33 : decode cX5_common 33 = .ok (.istore_n 3, 1) := dk_62 (dk_at dksX5_common_1 9 rfl rfl)
theorem dX5_common_34 : decode cX5_common 34 = .ok (.goto (-29), 3) := dk_167 255 227 (dk_at dksX5_common_1 10 rfl rfl)
theorem dX5_common_37 : decode cX5_common 37 = .ok (.aload_n 0, 1) := dk_42 (dk_at dksX5_common_1 13 rfl rfl)
theorem dX5_common_38 : decode cX5_common 38 = .ok (.getfield 9, 3) := dk_180 0 9 (dk_at dksX5_common_1 14 rfl rfl)
theorem dX5_common_41 : decode cX5_common 41 = .ok (.iload 4, 2) := dk_21 4 (dk_at dksX5_common_1 17 rfl rfl)
theorem dX5_common_43 : decode cX5_common 43 = .ok (.iaload, 1) := dk_46 (dk_at dksX5_common_1 19 rfl rfl)
theorem dX5_common_44 : decode cX5_common 44 = .ok (.istore 4, 2) := dk_54 4 (dk_at dksX5_common_1 20 rfl rfl)
theorem dX5_common_46 : decode cX5_common 46 = .ok (.goto (-41), 3) := dk_167 255 215 (dk_at dksX5_common_2 0 rfl rfl)
theorem dX5_common_49 : decode cX5_common 49 = .ok (.iload_n 3, 1) := dk_29 (dk_at dksX5_common_2 3 rfl rfl)
theorem dX5_common_50 : decode cX5_common 50 = .ok (.ireturn, 1) := dk_172 (dk_at dksX5_common_2 4 rfl rfl)
abbrev cX5_visits : ByteArray := prog_7_method_14_code
def yX5_visits : MethodName := ⟨RX5, "visits", "(III)V"⟩
def dkwX5_visits_5 : List UInt8 := [4, 21, 4, 120, 128, 79, 132, 4, 1, 167, 255, 145, 177]
abbrev dktX5_visits_5 : List UInt8 := dkwX5_visits_5 ++ []
def dkwX5_visits_4 : List UInt8 := [180, 0, 89, 4, 21, 4, 120, 128, 181, 0, 89, 42, 180, 0, 21, 42, 180, 0, 15, 21, 4, 46, 92, 46]
abbrev dktX5_visits_4 : List UInt8 := dkwX5_visits_4 ++ dktX5_visits_5
def dkwX5_visits_3 : List UInt8 := [180, 0, 15, 21, 4, 46, 28, 164, 0, 14, 42, 21, 4, 28, 29, 182, 0, 98, 167, 0, 35, 42, 89]
abbrev dktX5_visits_3 : List UInt8 := dkwX5_visits_3 ++ dktX5_visits_4
def dkwX5_visits_2 : List UInt8 := [21, 4, 184, 0, 60, 154, 0, 71, 42, 180, 0, 15, 21, 4, 46, 29, 163, 0, 6, 167, 0, 57, 42]
abbrev dktX5_visits_2 : List UInt8 := dkwX5_visits_2 ++ dktX5_visits_3
def dkwX5_visits_1 : List UInt8 := [42, 180, 0, 18, 27, 46, 21, 4, 184, 0, 60, 153, 0, 88, 42, 180, 0, 92, 42, 180, 0, 89, 128]
abbrev dktX5_visits_1 : List UInt8 := dkwX5_visits_1 ++ dktX5_visits_2
def dkwX5_visits_0 : List UInt8 := [42, 89, 180, 0, 92, 4, 27, 120, 128, 181, 0, 92, 3, 54, 4, 21, 4, 42, 180, 0, 27, 162, 0, 108]
abbrev dktX5_visits_0 : List UInt8 := dkwX5_visits_0 ++ dktX5_visits_1
theorem dksX5_visits_0 : cX5_visits.data.toList.drop 0 = dktX5_visits_0 := by decide +kernel
theorem dksX5_visits_1 : cX5_visits.data.toList.drop 24 = dktX5_visits_1 := dk_seg dksX5_visits_0 24 rfl rfl
theorem dksX5_visits_2 : cX5_visits.data.toList.drop 47 = dktX5_visits_2 := dk_seg dksX5_visits_1 23 rfl rfl
theorem dksX5_visits_3 : cX5_visits.data.toList.drop 70 = dktX5_visits_3 := dk_seg dksX5_visits_2 23 rfl rfl
theorem dksX5_visits_4 : cX5_visits.data.toList.drop 93 = dktX5_visits_4 := dk_seg dksX5_visits_3 23 rfl rfl
theorem dksX5_visits_5 : cX5_visits.data.toList.drop 117 = dktX5_visits_5 := dk_seg dksX5_visits_4 24 rfl rfl
theorem dX5_visits_0 : decode cX5_visits 0 = .ok (.aload_n 0, 1) := dk_42 (dk_at dksX5_visits_0 0 rfl rfl)
theorem dX5_visits_1 : decode cX5_visits 1 = .ok (.dup, 1) := dk_89 (dk_at dksX5_visits_0 1 rfl rfl)
theorem dX5_visits_2 : decode cX5_visits 2 = .ok (.getfield 92, 3) := dk_180 0 92 (dk_at dksX5_visits_0 2 rfl rfl)
theorem dX5_visits_5 : decode cX5_visits 5 = .ok (.iconst 1, 1) := dk_4 (dk_at dksX5_visits_0 5 rfl rfl)
theorem dX5_visits_6 : decode cX5_visits 6 = .ok (.iload_n 1, 1) := dk_27 (dk_at dksX5_visits_0 6 rfl rfl)
theorem dX5_visits_7 : decode cX5_visits 7 = .ok (.ishl, 1) := dk_120 (dk_at dksX5_visits_0 7 rfl rfl)
theorem dX5_visits_8 : decode cX5_visits 8 = .ok (.ior, 1) := dk_128 (dk_at dksX5_visits_0 8 rfl rfl)
theorem dX5_visits_9 : decode cX5_visits 9 = .ok (.putfield 92, 3) := dk_181 0 92 (dk_at dksX5_visits_0 9 rfl rfl)
theorem dX5_visits_12 : decode cX5_visits 12 = .ok (.iconst 0, 1) := dk_3 (dk_at dksX5_visits_0 12 rfl rfl)
theorem dX5_visits_13 : decode cX5_visits 13 = .ok (.istore 4, 2) := dk_54 4 (dk_at dksX5_visits_0 13 rfl rfl)
theorem dX5_visits_15 : decode cX5_visits 15 = .ok (.iload 4, 2) := dk_21 4 (dk_at dksX5_visits_0 15 rfl rfl)
theorem dX5_visits_17 : decode cX5_visits 17 = .ok (.aload_n 0, 1) := dk_42 (dk_at dksX5_visits_0 17 rfl rfl)
theorem dX5_visits_18 : decode cX5_visits 18 = .ok (.getfield 27, 3) := dk_180 0 27 (dk_at dksX5_visits_0 18 rfl rfl)
theorem dX5_visits_21 : decode cX5_visits 21 = .ok (.if_icmp .ge 108, 3) := dk_162 0 108 (dk_at dksX5_visits_0 21 rfl rfl)
theorem dX5_visits_24 : decode cX5_visits 24 = .ok (.aload_n 0, 1) := dk_42 (dk_at dksX5_visits_1 0 rfl rfl)
theorem dX5_visits_25 : decode cX5_visits 25 = .ok (.getfield 18, 3) := dk_180 0 18 (dk_at dksX5_visits_1 1 rfl rfl)
theorem dX5_visits_28 : decode cX5_visits 28 = .ok (.iload_n 1, 1) := dk_27 (dk_at dksX5_visits_1 4 rfl rfl)
theorem dX5_visits_29 : decode cX5_visits 29 = .ok (.iaload, 1) := dk_46 (dk_at dksX5_visits_1 5 rfl rfl)
theorem dX5_visits_30 : decode cX5_visits 30 = .ok (.iload 4, 2) := dk_21 4 (dk_at dksX5_visits_1 6 rfl rfl)
theorem dX5_visits_32 : decode cX5_visits 32 = .ok (.invokestatic 60, 3) := dk_184 0 60 (dk_at dksX5_visits_1 8 rfl rfl)
theorem dX5_visits_35 : decode cX5_visits 35 = .ok (.ifCond .eq 88, 3) := dk_153 0 88 (dk_at dksX5_visits_1 11 rfl rfl)
theorem dX5_visits_38 : decode cX5_visits 38 = .ok (.aload_n 0, 1) := dk_42 (dk_at dksX5_visits_1 14 rfl rfl)
theorem dX5_visits_39 : decode cX5_visits 39 = .ok (.getfield 92, 3) := dk_180 0 92 (dk_at dksX5_visits_1 15 rfl rfl)
theorem dX5_visits_42 : decode cX5_visits 42 = .ok (.aload_n 0, 1) := dk_42 (dk_at dksX5_visits_1 18 rfl rfl)
theorem dX5_visits_43 : decode cX5_visits 43 = .ok (.getfield 89, 3) := dk_180 0 89 (dk_at dksX5_visits_1 19 rfl rfl)
theorem dX5_visits_46 : decode cX5_visits 46 = .ok (.ior, 1) := dk_128 (dk_at dksX5_visits_1 22 rfl rfl)
theorem dX5_visits_47 : decode cX5_visits 47 = .ok (.iload 4, 2) := dk_21 4 (dk_at dksX5_visits_2 0 rfl rfl)
theorem dX5_visits_49 : decode cX5_visits 49 = .ok (.invokestatic 60, 3) := dk_184 0 60 (dk_at dksX5_visits_2 2 rfl rfl)
theorem dX5_visits_52 : decode cX5_visits 52 = .ok (.ifCond .ne 71, 3) := dk_154 0 71 (dk_at dksX5_visits_2 5 rfl rfl)
theorem dX5_visits_55 : decode cX5_visits 55 = .ok (.aload_n 0, 1) := dk_42 (dk_at dksX5_visits_2 8 rfl rfl)
theorem dX5_visits_56 : decode cX5_visits 56 = .ok (.getfield 15, 3) := dk_180 0 15 (dk_at dksX5_visits_2 9 rfl rfl)
theorem dX5_visits_59 : decode cX5_visits 59 = .ok (.iload 4, 2) := dk_21 4 (dk_at dksX5_visits_2 12 rfl rfl)
theorem dX5_visits_61 : decode cX5_visits 61 = .ok (.iaload, 1) := dk_46 (dk_at dksX5_visits_2 14 rfl rfl)
theorem dX5_visits_62 : decode cX5_visits 62 = .ok (.iload_n 3, 1) := dk_29 (dk_at dksX5_visits_2 15 rfl rfl)
theorem dX5_visits_63 : decode cX5_visits 63 = .ok (.if_icmp .gt 6, 3) := dk_163 0 6 (dk_at dksX5_visits_2 16 rfl rfl)
theorem dX5_visits_66 : decode cX5_visits 66 = .ok (.goto 57, 3) := dk_167 0 57 (dk_at dksX5_visits_2 19 rfl rfl)
theorem dX5_visits_69 : decode cX5_visits 69 = .ok (.aload_n 0, 1) := dk_42 (dk_at dksX5_visits_2 22 rfl rfl)
theorem dX5_visits_70 : decode cX5_visits 70 = .ok (.getfield 15, 3) := dk_180 0 15 (dk_at dksX5_visits_3 0 rfl rfl)
theorem dX5_visits_73 : decode cX5_visits 73 = .ok (.iload 4, 2) := dk_21 4 (dk_at dksX5_visits_3 3 rfl rfl)
theorem dX5_visits_75 : decode cX5_visits 75 = .ok (.iaload, 1) := dk_46 (dk_at dksX5_visits_3 5 rfl rfl)
theorem dX5_visits_76 : decode cX5_visits 76 = .ok (.iload_n 2, 1) := dk_28 (dk_at dksX5_visits_3 6 rfl rfl)
theorem dX5_visits_77 : decode cX5_visits 77 = .ok (.if_icmp .le 14, 3) := dk_164 0 14 (dk_at dksX5_visits_3 7 rfl rfl)
theorem dX5_visits_80 : decode cX5_visits 80 = .ok (.aload_n 0, 1) := dk_42 (dk_at dksX5_visits_3 10 rfl rfl)
theorem dX5_visits_81 : decode cX5_visits 81 = .ok (.iload 4, 2) := dk_21 4 (dk_at dksX5_visits_3 11 rfl rfl)
theorem dX5_visits_83 : decode cX5_visits 83 = .ok (.iload_n 2, 1) := dk_28 (dk_at dksX5_visits_3 13 rfl rfl)
theorem dX5_visits_84 : decode cX5_visits 84 = .ok (.iload_n 3, 1) := dk_29 (dk_at dksX5_visits_3 14 rfl rfl)
theorem dX5_visits_85 : decode cX5_visits 85 = .ok (.invokevirtual 98, 3) := dk_182 0 98 (dk_at dksX5_visits_3 15 rfl rfl)
theorem dX5_visits_88 : decode cX5_visits 88 = .ok (.goto 35, 3) := dk_167 0 35 (dk_at dksX5_visits_3 18 rfl rfl)
theorem dX5_visits_91 : decode cX5_visits 91 = .ok (.aload_n 0, 1) := dk_42 (dk_at dksX5_visits_3 21 rfl rfl)
theorem dX5_visits_92 : decode cX5_visits 92 = .ok (.dup, 1) := dk_89 (dk_at dksX5_visits_3 22 rfl rfl)
theorem dX5_visits_93 : decode cX5_visits 93 = .ok (.getfield 89, 3) := dk_180 0 89 (dk_at dksX5_visits_4 0 rfl rfl)
theorem dX5_visits_96 : decode cX5_visits 96 = .ok (.iconst 1, 1) := dk_4 (dk_at dksX5_visits_4 3 rfl rfl)
theorem dX5_visits_97 : decode cX5_visits 97 = .ok (.iload 4, 2) := dk_21 4 (dk_at dksX5_visits_4 4 rfl rfl)
theorem dX5_visits_99 : decode cX5_visits 99 = .ok (.ishl, 1) := dk_120 (dk_at dksX5_visits_4 6 rfl rfl)
theorem dX5_visits_100 : decode cX5_visits 100 = .ok (.ior, 1) := dk_128 (dk_at dksX5_visits_4 7 rfl rfl)
theorem dX5_visits_101 : decode cX5_visits 101 = .ok (.putfield 89, 3) := dk_181 0 89 (dk_at dksX5_visits_4 8 rfl rfl)
theorem dX5_visits_104 : decode cX5_visits 104 = .ok (.aload_n 0, 1) := dk_42 (dk_at dksX5_visits_4 11 rfl rfl)
theorem dX5_visits_105 : decode cX5_visits 105 = .ok (.getfield 21, 3) := dk_180 0 21 (dk_at dksX5_visits_4 12 rfl rfl)
theorem dX5_visits_108 : decode cX5_visits 108 = .ok (.aload_n 0, 1) := dk_42 (dk_at dksX5_visits_4 15 rfl rfl)
theorem dX5_visits_109 : decode cX5_visits 109 = .ok (.getfield 15, 3) := dk_180 0 15 (dk_at dksX5_visits_4 16 rfl rfl)
theorem dX5_visits_112 : decode cX5_visits 112 = .ok (.iload 4, 2) := dk_21 4 (dk_at dksX5_visits_4 19 rfl rfl)
theorem dX5_visits_114 : decode cX5_visits 114 = .ok (.iaload, 1) := dk_46 (dk_at dksX5_visits_4 21 rfl rfl)
theorem dX5_visits_115 : decode cX5_visits 115 = .ok (.dup2, 1) := dk_92 (dk_at dksX5_visits_4 22 rfl rfl)
theorem dX5_visits_116 : decode cX5_visits 116 = .ok (.iaload, 1) := dk_46 (dk_at dksX5_visits_4 23 rfl rfl)
theorem dX5_visits_117 : decode cX5_visits 117 = .ok (.iconst 1, 1) := dk_4 (dk_at dksX5_visits_5 0 rfl rfl)
theorem dX5_visits_118 : decode cX5_visits 118 = .ok (.iload 4, 2) := dk_21 4 (dk_at dksX5_visits_5 1 rfl rfl)
theorem dX5_visits_120 : decode cX5_visits 120 = .ok (.ishl, 1) := dk_120 (dk_at dksX5_visits_5 3 rfl rfl)
theorem dX5_visits_121 : decode cX5_visits 121 = .ok (.ior, 1) := dk_128 (dk_at dksX5_visits_5 4 rfl rfl)
theorem dX5_visits_122 : decode cX5_visits 122 = .ok (.iastore, 1) := dk_79 (dk_at dksX5_visits_5 5 rfl rfl)
theorem dX5_visits_123 : decode cX5_visits 123 = .ok (.iinc 4 1, 3) := dk_132 4 1 (dk_at dksX5_visits_5 6 rfl rfl)
theorem dX5_visits_126 : decode cX5_visits 126 = .ok (.goto (-111), 3) := dk_167 255 145 (dk_at dksX5_visits_5 9 rfl rfl)
theorem dX5_visits_129 : decode cX5_visits 129 = .ok (.return_, 1) := dk_177 (dk_at dksX5_visits_5 12 rfl rfl)
abbrev cX5_joins : ByteArray := prog_7_method_12_code
def yX5_joins : MethodName := ⟨RX5, "joins", "(II)V"⟩
def dkwX5_joins_7 : List UInt8 := [132, 6, 1, 167, 255, 188, 177]
abbrev dktX5_joins_7 : List UInt8 := dkwX5_joins_7 ++ []
def dkwX5_joins_6 : List UInt8 := [21, 6, 92, 46, 4, 21, 7, 120, 128, 79, 42, 21, 6, 21, 7, 182, 0, 79, 132, 7, 1, 167, 255, 206]
abbrev dktX5_joins_6 : List UInt8 := dkwX5_joins_6 ++ dktX5_joins_7
def dkwX5_joins_5 : List UInt8 := [162, 0, 47, 25, 5, 21, 6, 46, 21, 7, 184, 0, 60, 154, 0, 6, 167, 0, 25, 42, 180, 0, 18]
abbrev dktX5_joins_5 : List UInt8 := dkwX5_joins_5 ++ dktX5_joins_6
def dkwX5_joins_4 : List UInt8 := [182, 0, 52, 3, 54, 6, 21, 6, 42, 180, 0, 27, 162, 0, 65, 3, 54, 7, 21, 7, 42, 180, 0, 27]
abbrev dktX5_joins_4 : List UInt8 := dkwX5_joins_4 ++ dktX5_joins_5
def dkwX5_joins_3 : List UInt8 := [132, 6, 1, 167, 255, 207, 42, 89, 180, 0, 40, 21, 4, 128, 181, 0, 40, 42, 28, 21, 4, 27]
abbrev dktX5_joins_3 : List UInt8 := dkwX5_joins_3 ++ dktX5_joins_4
def dkwX5_joins_2 : List UInt8 := [180, 0, 18, 21, 6, 46, 29, 126, 79, 42, 180, 0, 18, 21, 6, 92, 46, 29, 2, 130, 126, 79]
abbrev dktX5_joins_2 : List UInt8 := dkwX5_joins_2 ++ dktX5_joins_3
def dkwX5_joins_1 : List UInt8 := [42, 180, 0, 27, 162, 0, 46, 21, 4, 21, 6, 184, 0, 60, 153, 0, 30, 25, 5, 21, 6, 42]
abbrev dktX5_joins_1 : List UInt8 := dkwX5_joins_1 ++ dktX5_joins_2
def dkwX5_joins_0 : List UInt8 := [42, 180, 0, 40, 62, 42, 28, 29, 182, 0, 48, 54, 4, 16, 16, 188, 10, 58, 5, 3, 54, 6, 21, 6]
abbrev dktX5_joins_0 : List UInt8 := dkwX5_joins_0 ++ dktX5_joins_1
theorem dksX5_joins_0 : cX5_joins.data.toList.drop 0 = dktX5_joins_0 := by decide +kernel
theorem dksX5_joins_1 : cX5_joins.data.toList.drop 24 = dktX5_joins_1 := dk_seg dksX5_joins_0 24 rfl rfl
theorem dksX5_joins_2 : cX5_joins.data.toList.drop 46 = dktX5_joins_2 := dk_seg dksX5_joins_1 22 rfl rfl
theorem dksX5_joins_3 : cX5_joins.data.toList.drop 68 = dktX5_joins_3 := dk_seg dksX5_joins_2 22 rfl rfl
theorem dksX5_joins_4 : cX5_joins.data.toList.drop 90 = dktX5_joins_4 := dk_seg dksX5_joins_3 22 rfl rfl
theorem dksX5_joins_5 : cX5_joins.data.toList.drop 114 = dktX5_joins_5 := dk_seg dksX5_joins_4 24 rfl rfl
theorem dksX5_joins_6 : cX5_joins.data.toList.drop 137 = dktX5_joins_6 := dk_seg dksX5_joins_5 23 rfl rfl
theorem dksX5_joins_7 : cX5_joins.data.toList.drop 161 = dktX5_joins_7 := dk_seg dksX5_joins_6 24 rfl rfl
theorem dX5_joins_0 : decode cX5_joins 0 = .ok (.aload_n 0, 1) := dk_42 (dk_at dksX5_joins_0 0 rfl rfl)
theorem dX5_joins_1 : decode cX5_joins 1 = .ok (.getfield 40, 3) := dk_180 0 40 (dk_at dksX5_joins_0 1 rfl rfl)
theorem dX5_joins_4 : decode cX5_joins 4 = .ok (.istore_n 3, 1) := dk_62 (dk_at dksX5_joins_0 4 rfl rfl)
theorem dX5_joins_5 : decode cX5_joins 5 = .ok (.aload_n 0, 1) := dk_42 (dk_at dksX5_joins_0 5 rfl rfl)
theorem dX5_joins_6 : decode cX5_joins 6 = .ok (.iload_n 2, 1) := dk_28 (dk_at dksX5_joins_0 6 rfl rfl)
theorem dX5_joins_7 : decode cX5_joins 7 = .ok (.iload_n 3, 1) := dk_29 (dk_at dksX5_joins_0 7 rfl rfl)
theorem dX5_joins_8 : decode cX5_joins 8 = .ok (.invokevirtual 48, 3) := dk_182 0 48 (dk_at dksX5_joins_0 8 rfl rfl)
theorem dX5_joins_11 : decode cX5_joins 11 = .ok (.istore 4, 2) := dk_54 4 (dk_at dksX5_joins_0 11 rfl rfl)
theorem dX5_joins_13 : decode cX5_joins 13 = .ok (.bipush 16, 2) := dk_16 16 (dk_at dksX5_joins_0 13 rfl rfl)
theorem dX5_joins_15 : decode cX5_joins 15 = .ok (.newarray .int, 2) := dk_188_10 (dk_at dksX5_joins_0 15 rfl rfl)
theorem dX5_joins_17 : decode cX5_joins 17 = .ok (.astore 5, 2) := dk_58 5 (dk_at dksX5_joins_0 17 rfl rfl)
theorem dX5_joins_19 : decode cX5_joins 19 = .ok (.iconst 0, 1) := dk_3 (dk_at dksX5_joins_0 19 rfl rfl)
theorem dX5_joins_20 : decode cX5_joins 20 = .ok (.istore 6, 2) := dk_54 6 (dk_at dksX5_joins_0 20 rfl rfl)
theorem dX5_joins_22 : decode cX5_joins 22 = .ok (.iload 6, 2) := dk_21 6 (dk_at dksX5_joins_0 22 rfl rfl)
theorem dX5_joins_24 : decode cX5_joins 24 = .ok (.aload_n 0, 1) := dk_42 (dk_at dksX5_joins_1 0 rfl rfl)
theorem dX5_joins_25 : decode cX5_joins 25 = .ok (.getfield 27, 3) := dk_180 0 27 (dk_at dksX5_joins_1 1 rfl rfl)
theorem dX5_joins_28 : decode cX5_joins 28 = .ok (.if_icmp .ge 46, 3) := dk_162 0 46 (dk_at dksX5_joins_1 4 rfl rfl)
theorem dX5_joins_31 : decode cX5_joins 31 = .ok (.iload 4, 2) := dk_21 4 (dk_at dksX5_joins_1 7 rfl rfl)
theorem dX5_joins_33 : decode cX5_joins 33 = .ok (.iload 6, 2) := dk_21 6 (dk_at dksX5_joins_1 9 rfl rfl)
theorem dX5_joins_35 : decode cX5_joins 35 = .ok (.invokestatic 60, 3) := dk_184 0 60 (dk_at dksX5_joins_1 11 rfl rfl)
theorem dX5_joins_38 : decode cX5_joins 38 = .ok (.ifCond .eq 30, 3) := dk_153 0 30 (dk_at dksX5_joins_1 14 rfl rfl)
theorem dX5_joins_41 : decode cX5_joins 41 = .ok (.aload 5, 2) := dk_25 5 (dk_at dksX5_joins_1 17 rfl rfl)
theorem dX5_joins_43 : decode cX5_joins 43 = .ok (.iload 6, 2) := dk_21 6 (dk_at dksX5_joins_1 19 rfl rfl)
theorem dX5_joins_45 : decode cX5_joins 45 = .ok (.aload_n 0, 1) := dk_42 (dk_at dksX5_joins_1 21 rfl rfl)
theorem dX5_joins_46 : decode cX5_joins 46 = .ok (.getfield 18, 3) := dk_180 0 18 (dk_at dksX5_joins_2 0 rfl rfl)
theorem dX5_joins_49 : decode cX5_joins 49 = .ok (.iload 6, 2) := dk_21 6 (dk_at dksX5_joins_2 3 rfl rfl)
theorem dX5_joins_51 : decode cX5_joins 51 = .ok (.iaload, 1) := dk_46 (dk_at dksX5_joins_2 5 rfl rfl)
theorem dX5_joins_52 : decode cX5_joins 52 = .ok (.iload_n 3, 1) := dk_29 (dk_at dksX5_joins_2 6 rfl rfl)
theorem dX5_joins_53 : decode cX5_joins 53 = .ok (.iand, 1) := dk_126 (dk_at dksX5_joins_2 7 rfl rfl)
theorem dX5_joins_54 : decode cX5_joins 54 = .ok (.iastore, 1) := dk_79 (dk_at dksX5_joins_2 8 rfl rfl)
theorem dX5_joins_55 : decode cX5_joins 55 = .ok (.aload_n 0, 1) := dk_42 (dk_at dksX5_joins_2 9 rfl rfl)
theorem dX5_joins_56 : decode cX5_joins 56 = .ok (.getfield 18, 3) := dk_180 0 18 (dk_at dksX5_joins_2 10 rfl rfl)
theorem dX5_joins_59 : decode cX5_joins 59 = .ok (.iload 6, 2) := dk_21 6 (dk_at dksX5_joins_2 13 rfl rfl)
theorem dX5_joins_61 : decode cX5_joins 61 = .ok (.dup2, 1) := dk_92 (dk_at dksX5_joins_2 15 rfl rfl)
theorem dX5_joins_62 : decode cX5_joins 62 = .ok (.iaload, 1) := dk_46 (dk_at dksX5_joins_2 16 rfl rfl)
theorem dX5_joins_63 : decode cX5_joins 63 = .ok (.iload_n 3, 1) := dk_29 (dk_at dksX5_joins_2 17 rfl rfl)
theorem dX5_joins_64 : decode cX5_joins 64 = .ok (.iconst (-1), 1) := dk_2 (dk_at dksX5_joins_2 18 rfl rfl)
theorem dX5_joins_65 : decode cX5_joins 65 = .ok (.ixor, 1) := dk_130 (dk_at dksX5_joins_2 19 rfl rfl)
theorem dX5_joins_66 : decode cX5_joins 66 = .ok (.iand, 1) := dk_126 (dk_at dksX5_joins_2 20 rfl rfl)
theorem dX5_joins_67 : decode cX5_joins 67 = .ok (.iastore, 1) := dk_79 (dk_at dksX5_joins_2 21 rfl rfl)
theorem dX5_joins_68 : decode cX5_joins 68 = .ok (.iinc 6 1, 3) := dk_132 6 1 (dk_at dksX5_joins_3 0 rfl rfl)
theorem dX5_joins_71 : decode cX5_joins 71 = .ok (.goto (-49), 3) := dk_167 255 207 (dk_at dksX5_joins_3 3 rfl rfl)
theorem dX5_joins_74 : decode cX5_joins 74 = .ok (.aload_n 0, 1) := dk_42 (dk_at dksX5_joins_3 6 rfl rfl)
theorem dX5_joins_75 : decode cX5_joins 75 = .ok (.dup, 1) := dk_89 (dk_at dksX5_joins_3 7 rfl rfl)
theorem dX5_joins_76 : decode cX5_joins 76 = .ok (.getfield 40, 3) := dk_180 0 40 (dk_at dksX5_joins_3 8 rfl rfl)
theorem dX5_joins_79 : decode cX5_joins 79 = .ok (.iload 4, 2) := dk_21 4 (dk_at dksX5_joins_3 11 rfl rfl)
theorem dX5_joins_81 : decode cX5_joins 81 = .ok (.ior, 1) := dk_128 (dk_at dksX5_joins_3 13 rfl rfl)
theorem dX5_joins_82 : decode cX5_joins 82 = .ok (.putfield 40, 3) := dk_181 0 40 (dk_at dksX5_joins_3 14 rfl rfl)
theorem dX5_joins_85 : decode cX5_joins 85 = .ok (.aload_n 0, 1) := dk_42 (dk_at dksX5_joins_3 17 rfl rfl)
theorem dX5_joins_86 : decode cX5_joins 86 = .ok (.iload_n 2, 1) := dk_28 (dk_at dksX5_joins_3 18 rfl rfl)
theorem dX5_joins_87 : decode cX5_joins 87 = .ok (.iload 4, 2) := dk_21 4 (dk_at dksX5_joins_3 19 rfl rfl)
theorem dX5_joins_89 : decode cX5_joins 89 = .ok (.iload_n 1, 1) := dk_27 (dk_at dksX5_joins_3 21 rfl rfl)
theorem dX5_joins_90 : decode cX5_joins 90 = .ok (.invokevirtual 52, 3) := dk_182 0 52 (dk_at dksX5_joins_4 0 rfl rfl)
theorem dX5_joins_93 : decode cX5_joins 93 = .ok (.iconst 0, 1) := dk_3 (dk_at dksX5_joins_4 3 rfl rfl)
theorem dX5_joins_94 : decode cX5_joins 94 = .ok (.istore 6, 2) := dk_54 6 (dk_at dksX5_joins_4 4 rfl rfl)
theorem dX5_joins_96 : decode cX5_joins 96 = .ok (.iload 6, 2) := dk_21 6 (dk_at dksX5_joins_4 6 rfl rfl)
theorem dX5_joins_98 : decode cX5_joins 98 = .ok (.aload_n 0, 1) := dk_42 (dk_at dksX5_joins_4 8 rfl rfl)
theorem dX5_joins_99 : decode cX5_joins 99 = .ok (.getfield 27, 3) := dk_180 0 27 (dk_at dksX5_joins_4 9 rfl rfl)
theorem dX5_joins_102 : decode cX5_joins 102 = .ok (.if_icmp .ge 65, 3) := dk_162 0 65 (dk_at dksX5_joins_4 12 rfl rfl)
theorem dX5_joins_105 : decode cX5_joins 105 = .ok (.iconst 0, 1) := dk_3 (dk_at dksX5_joins_4 15 rfl rfl)
theorem dX5_joins_106 : decode cX5_joins 106 = .ok (.istore 7, 2) := dk_54 7 (dk_at dksX5_joins_4 16 rfl rfl)
theorem dX5_joins_108 : decode cX5_joins 108 = .ok (.iload 7, 2) := dk_21 7 (dk_at dksX5_joins_4 18 rfl rfl)
theorem dX5_joins_110 : decode cX5_joins 110 = .ok (.aload_n 0, 1) := dk_42 (dk_at dksX5_joins_4 20 rfl rfl)
theorem dX5_joins_111 : decode cX5_joins 111 = .ok (.getfield 27, 3) := dk_180 0 27 (dk_at dksX5_joins_4 21 rfl rfl)
theorem dX5_joins_114 : decode cX5_joins 114 = .ok (.if_icmp .ge 47, 3) := dk_162 0 47 (dk_at dksX5_joins_5 0 rfl rfl)
theorem dX5_joins_117 : decode cX5_joins 117 = .ok (.aload 5, 2) := dk_25 5 (dk_at dksX5_joins_5 3 rfl rfl)
theorem dX5_joins_119 : decode cX5_joins 119 = .ok (.iload 6, 2) := dk_21 6 (dk_at dksX5_joins_5 5 rfl rfl)
theorem dX5_joins_121 : decode cX5_joins 121 = .ok (.iaload, 1) := dk_46 (dk_at dksX5_joins_5 7 rfl rfl)
theorem dX5_joins_122 : decode cX5_joins 122 = .ok (.iload 7, 2) := dk_21 7 (dk_at dksX5_joins_5 8 rfl rfl)
theorem dX5_joins_124 : decode cX5_joins 124 = .ok (.invokestatic 60, 3) := dk_184 0 60 (dk_at dksX5_joins_5 10 rfl rfl)
theorem dX5_joins_127 : decode cX5_joins 127 = .ok (.ifCond .ne 6, 3) := dk_154 0 6 (dk_at dksX5_joins_5 13 rfl rfl)
theorem dX5_joins_130 : decode cX5_joins 130 = .ok (.goto 25, 3) := dk_167 0 25 (dk_at dksX5_joins_5 16 rfl rfl)
theorem dX5_joins_133 : decode cX5_joins 133 = .ok (.aload_n 0, 1) := dk_42 (dk_at dksX5_joins_5 19 rfl rfl)
theorem dX5_joins_134 : decode cX5_joins 134 = .ok (.getfield 18, 3) := dk_180 0 18 (dk_at dksX5_joins_5 20 rfl rfl)
theorem dX5_joins_137 : decode cX5_joins 137 = .ok (.iload 6, 2) := dk_21 6 (dk_at dksX5_joins_6 0 rfl rfl)
theorem dX5_joins_139 : decode cX5_joins 139 = .ok (.dup2, 1) := dk_92 (dk_at dksX5_joins_6 2 rfl rfl)
theorem dX5_joins_140 : decode cX5_joins 140 = .ok (.iaload, 1) := dk_46 (dk_at dksX5_joins_6 3 rfl rfl)
theorem dX5_joins_141 : decode cX5_joins 141 = .ok (.iconst 1, 1) := dk_4 (dk_at dksX5_joins_6 4 rfl rfl)
theorem dX5_joins_142 : decode cX5_joins 142 = .ok (.iload 7, 2) := dk_21 7 (dk_at dksX5_joins_6 5 rfl rfl)
theorem dX5_joins_144 : decode cX5_joins 144 = .ok (.ishl, 1) := dk_120 (dk_at dksX5_joins_6 7 rfl rfl)
theorem dX5_joins_145 : decode cX5_joins 145 = .ok (.ior, 1) := dk_128 (dk_at dksX5_joins_6 8 rfl rfl)
theorem dX5_joins_146 : decode cX5_joins 146 = .ok (.iastore, 1) := dk_79 (dk_at dksX5_joins_6 9 rfl rfl)
theorem dX5_joins_147 : decode cX5_joins 147 = .ok (.aload_n 0, 1) := dk_42 (dk_at dksX5_joins_6 10 rfl rfl)
theorem dX5_joins_148 : decode cX5_joins 148 = .ok (.iload 6, 2) := dk_21 6 (dk_at dksX5_joins_6 11 rfl rfl)
theorem dX5_joins_150 : decode cX5_joins 150 = .ok (.iload 7, 2) := dk_21 7 (dk_at dksX5_joins_6 13 rfl rfl)
theorem dX5_joins_152 : decode cX5_joins 152 = .ok (.invokevirtual 79, 3) := dk_182 0 79 (dk_at dksX5_joins_6 15 rfl rfl)
theorem dX5_joins_155 : decode cX5_joins 155 = .ok (.iinc 7 1, 3) := dk_132 7 1 (dk_at dksX5_joins_6 18 rfl rfl)
theorem dX5_joins_158 : decode cX5_joins 158 = .ok (.goto (-50), 3) := dk_167 255 206 (dk_at dksX5_joins_6 21 rfl rfl)
theorem dX5_joins_161 : decode cX5_joins 161 = .ok (.iinc 6 1, 3) := dk_132 6 1 (dk_at dksX5_joins_7 0 rfl rfl)
theorem dX5_joins_164 : decode cX5_joins 164 = .ok (.goto (-68), 3) := dk_167 255 188 (dk_at dksX5_joins_7 3 rfl rfl)
theorem dX5_joins_167 : decode cX5_joins 167 = .ok (.return_, 1) := dk_177 (dk_at dksX5_joins_7 6 rfl rfl)
abbrev cX5_liftFrom : ByteArray := prog_7_method_18_code
def yX5_liftFrom : MethodName := ⟨RX5, "liftFrom", "(LGateLifter$Tree;)I"⟩
def dkwX5_liftFrom_2 : List UInt8 := [61, 132, 3, 1, 167, 255, 209, 28, 172]
abbrev dktX5_liftFrom_2 : List UInt8 := dkwX5_liftFrom_2 ++ []
def dkwX5_liftFrom_1 : List UInt8 := [184, 0, 60, 153, 0, 19, 43, 180, 0, 15, 29, 46, 42, 180, 0, 15, 29, 46, 100, 167, 0, 4, 3, 96]
abbrev dktX5_liftFrom_1 : List UInt8 := dkwX5_liftFrom_1 ++ dktX5_liftFrom_2
def dkwX5_liftFrom_0 : List UInt8 := [3, 61, 3, 62, 29, 42, 180, 0, 27, 162, 0, 45, 28, 42, 180, 0, 40, 43, 180, 0, 40, 126, 29]
abbrev dktX5_liftFrom_0 : List UInt8 := dkwX5_liftFrom_0 ++ dktX5_liftFrom_1
theorem dksX5_liftFrom_0 : cX5_liftFrom.data.toList.drop 0 = dktX5_liftFrom_0 := by decide +kernel
theorem dksX5_liftFrom_1 : cX5_liftFrom.data.toList.drop 23 = dktX5_liftFrom_1 := dk_seg dksX5_liftFrom_0 23 rfl rfl
theorem dksX5_liftFrom_2 : cX5_liftFrom.data.toList.drop 47 = dktX5_liftFrom_2 := dk_seg dksX5_liftFrom_1 24 rfl rfl
theorem dX5_liftFrom_0 : decode cX5_liftFrom 0 = .ok (.iconst 0, 1) := dk_3 (dk_at dksX5_liftFrom_0 0 rfl rfl)
theorem dX5_liftFrom_1 : decode cX5_liftFrom 1 = .ok (.istore_n 2, 1) := dk_61 (dk_at dksX5_liftFrom_0 1 rfl rfl)
theorem dX5_liftFrom_2 : decode cX5_liftFrom 2 = .ok (.iconst 0, 1) := dk_3 (dk_at dksX5_liftFrom_0 2 rfl rfl)
theorem dX5_liftFrom_3 : decode cX5_liftFrom 3 = .ok (.istore_n 3, 1) := dk_62 (dk_at dksX5_liftFrom_0 3 rfl rfl)
theorem dX5_liftFrom_4 : decode cX5_liftFrom 4 = .ok (.iload_n 3, 1) := dk_29 (dk_at dksX5_liftFrom_0 4 rfl rfl)
theorem dX5_liftFrom_5 : decode cX5_liftFrom 5 = .ok (.aload_n 0, 1) := dk_42 (dk_at dksX5_liftFrom_0 5 rfl rfl)
theorem dX5_liftFrom_6 : decode cX5_liftFrom 6 = .ok (.getfield 27, 3) := dk_180 0 27 (dk_at dksX5_liftFrom_0 6 rfl rfl)
theorem dX5_liftFrom_9 : decode cX5_liftFrom 9 = .ok (.if_icmp .ge 45, 3) := dk_162 0 45 (dk_at dksX5_liftFrom_0 9 rfl rfl)
theorem dX5_liftFrom_12 : decode cX5_liftFrom 12 = .ok (.iload_n 2, 1) := dk_28 (dk_at dksX5_liftFrom_0 12 rfl rfl)
theorem dX5_liftFrom_13 : decode cX5_liftFrom 13 = .ok (.aload_n 0, 1) := dk_42 (dk_at dksX5_liftFrom_0 13 rfl rfl)
theorem dX5_liftFrom_14 : decode cX5_liftFrom 14 = .ok (.getfield 40, 3) := dk_180 0 40 (dk_at dksX5_liftFrom_0 14 rfl rfl)
theorem dX5_liftFrom_17 : decode cX5_liftFrom 17 = .ok (.aload_n 1, 1) := dk_43 (dk_at dksX5_liftFrom_0 17 rfl rfl)
theorem dX5_liftFrom_18 : decode cX5_liftFrom 18 = .ok (.getfield 40, 3) := dk_180 0 40 (dk_at dksX5_liftFrom_0 18 rfl rfl)
theorem dX5_liftFrom_21 : decode cX5_liftFrom 21 = .ok (.iand, 1) := dk_126 (dk_at dksX5_liftFrom_0 21 rfl rfl)
theorem dX5_liftFrom_22 : decode cX5_liftFrom 22 = .ok (.iload_n 3, 1) := dk_29 (dk_at dksX5_liftFrom_0 22 rfl rfl)
theorem dX5_liftFrom_23 : decode cX5_liftFrom 23 = .ok (.invokestatic 60, 3) := dk_184 0 60 (dk_at dksX5_liftFrom_1 0 rfl rfl)
theorem dX5_liftFrom_26 : decode cX5_liftFrom 26 = .ok (.ifCond .eq 19, 3) := dk_153 0 19 (dk_at dksX5_liftFrom_1 3 rfl rfl)
theorem dX5_liftFrom_29 : decode cX5_liftFrom 29 = .ok (.aload_n 1, 1) := dk_43 (dk_at dksX5_liftFrom_1 6 rfl rfl)
theorem dX5_liftFrom_30 : decode cX5_liftFrom 30 = .ok (.getfield 15, 3) := dk_180 0 15 (dk_at dksX5_liftFrom_1 7 rfl rfl)
theorem dX5_liftFrom_33 : decode cX5_liftFrom 33 = .ok (.iload_n 3, 1) := dk_29 (dk_at dksX5_liftFrom_1 10 rfl rfl)
theorem dX5_liftFrom_34 : decode cX5_liftFrom 34 = .ok (.iaload, 1) := dk_46 (dk_at dksX5_liftFrom_1 11 rfl rfl)
theorem dX5_liftFrom_35 : decode cX5_liftFrom 35 = .ok (.aload_n 0, 1) := dk_42 (dk_at dksX5_liftFrom_1 12 rfl rfl)
theorem dX5_liftFrom_36 : decode cX5_liftFrom 36 = .ok (.getfield 15, 3) := dk_180 0 15 (dk_at dksX5_liftFrom_1 13 rfl rfl)
theorem dX5_liftFrom_39 : decode cX5_liftFrom 39 = .ok (.iload_n 3, 1) := dk_29 (dk_at dksX5_liftFrom_1 16 rfl rfl)
theorem dX5_liftFrom_40 : decode cX5_liftFrom 40 = .ok (.iaload, 1) := dk_46 (dk_at dksX5_liftFrom_1 17 rfl rfl)
theorem dX5_liftFrom_41 : decode cX5_liftFrom 41 = .ok (.isub, 1) := dk_100 (dk_at dksX5_liftFrom_1 18 rfl rfl)
theorem dX5_liftFrom_42 : decode cX5_liftFrom 42 = .ok (.goto 4, 3) := dk_167 0 4 (dk_at dksX5_liftFrom_1 19 rfl rfl)
theorem dX5_liftFrom_45 : decode cX5_liftFrom 45 = .ok (.iconst 0, 1) := dk_3 (dk_at dksX5_liftFrom_1 22 rfl rfl)
theorem dX5_liftFrom_46 : decode cX5_liftFrom 46 = .ok (.iadd, 1) := dk_96 (dk_at dksX5_liftFrom_1 23 rfl rfl)
theorem dX5_liftFrom_47 : decode cX5_liftFrom 47 = .ok (.istore_n 2, 1) := dk_61 (dk_at dksX5_liftFrom_2 0 rfl rfl)
theorem dX5_liftFrom_48 : decode cX5_liftFrom 48 = .ok (.iinc 3 1, 3) := dk_132 3 1 (dk_at dksX5_liftFrom_2 1 rfl rfl)
theorem dX5_liftFrom_51 : decode cX5_liftFrom 51 = .ok (.goto (-47), 3) := dk_167 255 209 (dk_at dksX5_liftFrom_2 4 rfl rfl)
theorem dX5_liftFrom_54 : decode cX5_liftFrom 54 = .ok (.iload_n 2, 1) := dk_28 (dk_at dksX5_liftFrom_2 7 rfl rfl)
theorem dX5_liftFrom_55 : decode cX5_liftFrom 55 = .ok (.ireturn, 1) := dk_172 (dk_at dksX5_liftFrom_2 8 rfl rfl)
theorem q171 : (Jvm.Cond.initialized "GateLifter$Tree") ∈ lw_all := lw_g (lw_at lw_m1 8 rfl) rfl
theorem q218 : (Jvm.Cond.fieldLinkNest "GateLifter$Tree" (47 : Nat) "GateLifter$Net" "rows" "[I" "GateLifter") ∈ lw_tbl := lw_at lw_m1 55 rfl
theorem q225 : (Jvm.Cond.fieldLinkNest "GateLifter$Tree" (43 : Nat) "GateLifter$Net" "nodes" "I" "GateLifter") ∈ lw_tbl := lw_at lw_m1 62 rfl
theorem q228 : (Jvm.Cond.fieldLinkNest "GateLifter$Tree" (46 : Nat) "GateLifter$Net" "root" "I" "GateLifter") ∈ lw_tbl := lw_at lw_m1 65 rfl
theorem q367 : (Jvm.Cond.instantiable "GateLifter$Tree" (10 : Nat)) ∈ lw_all := lw_g (lw_at lw_m1 204 rfl) rfl
theorem q369 : (Jvm.Cond.instanceMethod ({ cls := "GateLifter$Tree", name := "<init>", desc := "()V" } : Jvm.MethodName)) ∈ lw_all := lw_g (lw_at lw_m1 206 rfl) rfl
theorem q370 : (Jvm.Cond.code ({ cls := "GateLifter$Tree", name := "<init>", desc := "()V" } : Jvm.MethodName) prog_7_method_1_code (1 : Nat) (Option.none : Option Jvm.ClassFile.FieldType)) ∈ lw_all := lw_g (lw_at lw_m1 207 rfl) rfl
theorem q371 : (Jvm.Cond.methodLink "GateLifter$Tree" (3 : Nat) ({ cls := "java/lang/Object", name := "<init>", desc := "()V" } : Jvm.MethodName)) ∈ lw_all := lw_g (lw_at lw_m1 208 rfl) rfl
theorem q372 : (Jvm.Cond.fieldLink "GateLifter$Tree" (9 : Nat) "GateLifter$Tree" "keeper" "[I") ∈ lw_all := lw_g (lw_at lw_m1 209 rfl) rfl
theorem q374 : (Jvm.Cond.fieldLink "GateLifter$Tree" (15 : Nat) "GateLifter$Tree" "depth" "[I") ∈ lw_all := lw_g (lw_at lw_m1 211 rfl) rfl
theorem q376 : (Jvm.Cond.fieldLink "GateLifter$Tree" (18 : Nat) "GateLifter$Tree" "rows" "[I") ∈ lw_all := lw_g (lw_at lw_m1 213 rfl) rfl
theorem q377 : (Jvm.Cond.fieldLink "GateLifter$Tree" (21 : Nat) "GateLifter$Tree" "waiting" "[I") ∈ lw_all := lw_g (lw_at lw_m1 214 rfl) rfl
theorem q378 : (Jvm.Cond.fieldLink "GateLifter$Tree" (24 : Nat) "GateLifter$Tree" "sets" "[I") ∈ lw_all := lw_g (lw_at lw_m1 215 rfl) rfl
theorem q379 : (Jvm.Cond.fieldLink "GateLifter$Tree" (27 : Nat) "GateLifter$Tree" "nodes" "I") ∈ lw_all := lw_g (lw_at lw_m1 216 rfl) rfl
theorem q380 : (Jvm.Cond.fieldLink "GateLifter$Tree" (37 : Nat) "GateLifter$Tree" "root" "I") ∈ lw_all := lw_g (lw_at lw_m1 217 rfl) rfl
theorem q381 : (Jvm.Cond.fieldLink "GateLifter$Tree" (40 : Nat) "GateLifter$Tree" "reached" "I") ∈ lw_all := lw_g (lw_at lw_m1 218 rfl) rfl
theorem q383 : (Jvm.Cond.fieldLink "GateLifter$Tree" (89 : Nat) "GateLifter$Tree" "moved" "I") ∈ lw_all := lw_g (lw_at lw_m1 220 rfl) rfl
theorem q384 : (Jvm.Cond.fieldLink "GateLifter$Tree" (92 : Nat) "GateLifter$Tree" "seen" "I") ∈ lw_all := lw_g (lw_at lw_m1 221 rfl) rfl
theorem q385 : (Jvm.Cond.laysFinal "GateLifter$Tree" "GateLifter$Tree" "keeper" "[I") ∈ lw_all := lw_g (lw_at lw_m1 222 rfl) rfl
theorem q386 : (Jvm.Cond.soleField "GateLifter$Tree" "keeper") ∈ lw_all := lw_g (lw_at lw_m1 223 rfl) rfl
theorem q387 : (Jvm.Cond.laysFinal "GateLifter$Tree" "GateLifter$Tree" "depth" "[I") ∈ lw_all := lw_g (lw_at lw_m1 224 rfl) rfl
theorem q388 : (Jvm.Cond.soleField "GateLifter$Tree" "depth") ∈ lw_all := lw_g (lw_at lw_m1 225 rfl) rfl
theorem q389 : (Jvm.Cond.laysFinal "GateLifter$Tree" "GateLifter$Tree" "rows" "[I") ∈ lw_all := lw_g (lw_at lw_m1 226 rfl) rfl
theorem q390 : (Jvm.Cond.soleField "GateLifter$Tree" "rows") ∈ lw_all := lw_g (lw_at lw_m1 227 rfl) rfl
theorem q391 : (Jvm.Cond.laysFinal "GateLifter$Tree" "GateLifter$Tree" "waiting" "[I") ∈ lw_all := lw_g (lw_at lw_m1 228 rfl) rfl
theorem q392 : (Jvm.Cond.soleField "GateLifter$Tree" "waiting") ∈ lw_all := lw_g (lw_at lw_m1 229 rfl) rfl
theorem q393 : (Jvm.Cond.laysFinal "GateLifter$Tree" "GateLifter$Tree" "sets" "[I") ∈ lw_all := lw_g (lw_at lw_m1 230 rfl) rfl
theorem q394 : (Jvm.Cond.soleField "GateLifter$Tree" "sets") ∈ lw_all := lw_g (lw_at lw_m1 231 rfl) rfl
theorem q395 : (Jvm.Cond.lays "GateLifter$Tree" "GateLifter$Tree" "nodes" "I") ∈ lw_all := lw_g (lw_at lw_m1 232 rfl) rfl
theorem q396 : (Jvm.Cond.soleField "GateLifter$Tree" "nodes") ∈ lw_all := lw_g (lw_at lw_m1 233 rfl) rfl
theorem q397 : (Jvm.Cond.lays "GateLifter$Tree" "GateLifter$Tree" "root" "I") ∈ lw_all := lw_g (lw_at lw_m1 234 rfl) rfl
theorem q398 : (Jvm.Cond.soleField "GateLifter$Tree" "root") ∈ lw_all := lw_g (lw_at lw_m1 235 rfl) rfl
theorem q399 : (Jvm.Cond.lays "GateLifter$Tree" "GateLifter$Tree" "reached" "I") ∈ lw_all := lw_g (lw_at lw_m1 236 rfl) rfl
theorem q400 : (Jvm.Cond.soleField "GateLifter$Tree" "reached") ∈ lw_all := lw_g (lw_at lw_m1 237 rfl) rfl
theorem q401 : (Jvm.Cond.lays "GateLifter$Tree" "GateLifter$Tree" "moved" "I") ∈ lw_all := lw_g (lw_at lw_m1 238 rfl) rfl
theorem q402 : (Jvm.Cond.soleField "GateLifter$Tree" "moved") ∈ lw_all := lw_g (lw_at lw_m1 239 rfl) rfl
theorem q403 : (Jvm.Cond.lays "GateLifter$Tree" "GateLifter$Tree" "seen" "I") ∈ lw_all := lw_g (lw_at lw_m2 0 rfl) rfl
theorem q404 : (Jvm.Cond.soleField "GateLifter$Tree" "seen") ∈ lw_all := lw_g (lw_at lw_m2 1 rfl) rfl
theorem q405 : (Jvm.Cond.superclass "GateLifter$Tree" "java/lang/Object") ∈ lw_all := lw_g (lw_at lw_m2 2 rfl) rfl
theorem q465 : (Jvm.Cond.instanceMethod ({ cls := "GateLifter$Tree", name := "grows", desc := "(LGateLifter$Net;)V" } : Jvm.MethodName)) ∈ lw_all := lw_g (lw_at lw_m2 62 rfl) rfl
theorem q466 : (Jvm.Cond.selects "GateLifter$Tree" ({ cls := "GateLifter$Tree", name := "grows", desc := "(LGateLifter$Net;)V" } : Jvm.MethodName) ({ cls := "GateLifter$Tree", name := "grows", desc := "(LGateLifter$Net;)V" } : Jvm.MethodName)) ∈ lw_all := lw_g (lw_at lw_m2 63 rfl) rfl
theorem q467 : (Jvm.Cond.code ({ cls := "GateLifter$Tree", name := "grows", desc := "(LGateLifter$Net;)V" } : Jvm.MethodName) prog_7_method_5_code (3 : Nat) (Option.none : Option Jvm.ClassFile.FieldType)) ∈ lw_all := lw_g (lw_at lw_m2 64 rfl) rfl
theorem q468 : (Jvm.Cond.methodLink "GateLifter$Tree" (31 : Nat) ({ cls := "java/lang/System", name := "arraycopy", desc := "(Ljava/lang/Object;ILjava/lang/Object;II)V" } : Jvm.MethodName)) ∈ lw_all := lw_g (lw_at lw_m2 65 rfl) rfl
theorem q472 : (Jvm.Cond.unhidden "GateLifter$Tree" "reach" "(II)I") ∈ lw_tbl := lw_at lw_m2 69 rfl
theorem q486 : (Jvm.Cond.castable "GateLifter$Tree" "GateLifter$Flow") ∈ lw_tbl := lw_at lw_m2 83 rfl
theorem q487 : (Jvm.Cond.selects "GateLifter$Tree" ({ cls := "GateLifter$Flow", name := "nodes", desc := "()I" } : Jvm.MethodName) ({ cls := "GateLifter$Tree", name := "nodes", desc := "()I" } : Jvm.MethodName)) ∈ lw_all := lw_g (lw_at lw_m2 84 rfl) rfl
theorem q488 : (Jvm.Cond.unhidden "GateLifter$Tree" "nodes" "()I") ∈ lw_tbl := lw_at lw_m2 85 rfl
theorem q489 : (Jvm.Cond.instanceMethod ({ cls := "GateLifter$Tree", name := "nodes", desc := "()I" } : Jvm.MethodName)) ∈ lw_all := lw_g (lw_at lw_m2 86 rfl) rfl
theorem q490 : (Jvm.Cond.publicMethod ({ cls := "GateLifter$Tree", name := "nodes", desc := "()I" } : Jvm.MethodName)) ∈ lw_tbl := lw_at lw_m2 87 rfl
theorem q491 : (Jvm.Cond.code ({ cls := "GateLifter$Tree", name := "nodes", desc := "()I" } : Jvm.MethodName) prog_7_method_2_code (1 : Nat) (Option.some Jvm.ClassFile.FieldType.int)) ∈ lw_all := lw_g (lw_at lw_m2 88 rfl) rfl
theorem q512 : (Jvm.Cond.selects "GateLifter$Tree" ({ cls := "GateLifter$Flow", name := "next", desc := "(I)I" } : Jvm.MethodName) ({ cls := "GateLifter$Tree", name := "next", desc := "(I)I" } : Jvm.MethodName)) ∈ lw_all := lw_g (lw_at lw_m2 109 rfl) rfl
theorem q513 : (Jvm.Cond.unhidden "GateLifter$Tree" "next" "(I)I") ∈ lw_tbl := lw_at lw_m2 110 rfl
theorem q514 : (Jvm.Cond.instanceMethod ({ cls := "GateLifter$Tree", name := "next", desc := "(I)I" } : Jvm.MethodName)) ∈ lw_all := lw_g (lw_at lw_m2 111 rfl) rfl
theorem q515 : (Jvm.Cond.publicMethod ({ cls := "GateLifter$Tree", name := "next", desc := "(I)I" } : Jvm.MethodName)) ∈ lw_tbl := lw_at lw_m2 112 rfl
theorem q516 : (Jvm.Cond.code ({ cls := "GateLifter$Tree", name := "next", desc := "(I)I" } : Jvm.MethodName) prog_7_method_3_code (2 : Nat) (Option.some Jvm.ClassFile.FieldType.int)) ∈ lw_all := lw_g (lw_at lw_m2 113 rfl) rfl
theorem q525 : (Jvm.Cond.methodLink "GateLifter$Tree" (52 : Nat) ({ cls := "GateLifter$Tree", name := "keepsAll", desc := "(III)V" } : Jvm.MethodName)) ∈ lw_all := lw_g (lw_at lw_m2 122 rfl) rfl
theorem q526 : (Jvm.Cond.privateMethod ({ cls := "GateLifter$Tree", name := "keepsAll", desc := "(III)V" } : Jvm.MethodName)) ∈ lw_tbl := lw_at lw_m2 123 rfl
theorem q527 : (Jvm.Cond.instanceMethod ({ cls := "GateLifter$Tree", name := "keepsAll", desc := "(III)V" } : Jvm.MethodName)) ∈ lw_all := lw_g (lw_at lw_m2 124 rfl) rfl
theorem q528 : (Jvm.Cond.code ({ cls := "GateLifter$Tree", name := "keepsAll", desc := "(III)V" } : Jvm.MethodName) prog_7_method_6_code (5 : Nat) (Option.none : Option Jvm.ClassFile.FieldType)) ∈ lw_all := lw_g (lw_at lw_m2 125 rfl) rfl
theorem q529 : (Jvm.Cond.methodLinkNest "GateLifter$Tree" (56 : Nat) ({ cls := "GateLifter", name := "gates", desc := "(LGateLifter$Flow;II[I)V" } : Jvm.MethodName) "GateLifter") ∈ lw_tbl := lw_at lw_m2 126 rfl
theorem q537 : (Jvm.Cond.methodLinkNest "GateLifter$Tree" (60 : Nat) ({ cls := "GateLifter", name := "has", desc := "(II)Z" } : Jvm.MethodName) "GateLifter") ∈ lw_tbl := lw_at lw_m2 134 rfl
theorem q538 : (Jvm.Cond.methodLink "GateLifter$Tree" (64 : Nat) ({ cls := "GateLifter$Tree", name := "deepest", desc := "(I)I" } : Jvm.MethodName)) ∈ lw_all := lw_g (lw_at lw_m2 135 rfl) rfl
theorem q539 : (Jvm.Cond.privateMethod ({ cls := "GateLifter$Tree", name := "deepest", desc := "(I)I" } : Jvm.MethodName)) ∈ lw_tbl := lw_at lw_m2 136 rfl
theorem q540 : (Jvm.Cond.instanceMethod ({ cls := "GateLifter$Tree", name := "deepest", desc := "(I)I" } : Jvm.MethodName)) ∈ lw_all := lw_g (lw_at lw_m2 137 rfl) rfl
theorem q541 : (Jvm.Cond.code ({ cls := "GateLifter$Tree", name := "deepest", desc := "(I)I" } : Jvm.MethodName) prog_7_method_7_code (4 : Nat) (Option.some Jvm.ClassFile.FieldType.int)) ∈ lw_all := lw_g (lw_at lw_m2 138 rfl) rfl
theorem q542 : (Jvm.Cond.methodLink "GateLifter$Tree" (71 : Nat) ({ cls := "java/lang/Integer", name := "bitCount", desc := "(I)I" } : Jvm.MethodName)) ∈ lw_all := lw_g (lw_at lw_m2 139 rfl) rfl
theorem q548 : (Jvm.Cond.methodLink "GateLifter$Tree" (68 : Nat) ({ cls := "GateLifter$Tree", name := "deepens", desc := "()V" } : Jvm.MethodName)) ∈ lw_all := lw_g (lw_at lw_m2 145 rfl) rfl
theorem q549 : (Jvm.Cond.privateMethod ({ cls := "GateLifter$Tree", name := "deepens", desc := "()V" } : Jvm.MethodName)) ∈ lw_tbl := lw_at lw_m2 146 rfl
theorem q550 : (Jvm.Cond.instanceMethod ({ cls := "GateLifter$Tree", name := "deepens", desc := "()V" } : Jvm.MethodName)) ∈ lw_all := lw_g (lw_at lw_m2 147 rfl) rfl
theorem q551 : (Jvm.Cond.code ({ cls := "GateLifter$Tree", name := "deepens", desc := "()V" } : Jvm.MethodName) prog_7_method_8_code (2 : Nat) (Option.none : Option Jvm.ClassFile.FieldType)) ∈ lw_all := lw_g (lw_at lw_m2 148 rfl) rfl
theorem q552 : (Jvm.Cond.methodLink "GateLifter$Tree" (76 : Nat) ({ cls := "GateLifter$Tree", name := "depthOf", desc := "(I)I" } : Jvm.MethodName)) ∈ lw_all := lw_g (lw_at lw_m2 149 rfl) rfl
theorem q553 : (Jvm.Cond.privateMethod ({ cls := "GateLifter$Tree", name := "depthOf", desc := "(I)I" } : Jvm.MethodName)) ∈ lw_tbl := lw_at lw_m2 150 rfl
theorem q554 : (Jvm.Cond.instanceMethod ({ cls := "GateLifter$Tree", name := "depthOf", desc := "(I)I" } : Jvm.MethodName)) ∈ lw_all := lw_g (lw_at lw_m2 151 rfl) rfl
theorem q555 : (Jvm.Cond.code ({ cls := "GateLifter$Tree", name := "depthOf", desc := "(I)I" } : Jvm.MethodName) prog_7_method_9_code (2 : Nat) (Option.some Jvm.ClassFile.FieldType.int)) ∈ lw_all := lw_g (lw_at lw_m2 152 rfl) rfl
theorem q765 : (Jvm.Cond.instanceMethod ({ cls := "GateLifter$Tree", name := "isBack", desc := "(II)Z" } : Jvm.MethodName)) ∈ lw_all := lw_g (lw_at lw_m3 122 rfl) rfl
theorem q766 : (Jvm.Cond.selects "GateLifter$Tree" ({ cls := "GateLifter$Tree", name := "isBack", desc := "(II)Z" } : Jvm.MethodName) ({ cls := "GateLifter$Tree", name := "isBack", desc := "(II)Z" } : Jvm.MethodName)) ∈ lw_all := lw_g (lw_at lw_m3 123 rfl) rfl
theorem q767 : (Jvm.Cond.code ({ cls := "GateLifter$Tree", name := "isBack", desc := "(II)Z" } : Jvm.MethodName) prog_7_method_16_code (3 : Nat) (Option.some Jvm.ClassFile.FieldType.boolean)) ∈ lw_all := lw_g (lw_at lw_m3 124 rfl) rfl
theorem q768 : (Jvm.Cond.methodLink "GateLifter$Tree" (101 : Nat) ({ cls := "GateLifter$Tree", name := "keeps", desc := "(II)Z" } : Jvm.MethodName)) ∈ lw_all := lw_g (lw_at lw_m3 125 rfl) rfl
theorem q769 : (Jvm.Cond.instanceMethod ({ cls := "GateLifter$Tree", name := "keeps", desc := "(II)Z" } : Jvm.MethodName)) ∈ lw_all := lw_g (lw_at lw_m3 126 rfl) rfl
theorem q770 : (Jvm.Cond.selects "GateLifter$Tree" ({ cls := "GateLifter$Tree", name := "keeps", desc := "(II)Z" } : Jvm.MethodName) ({ cls := "GateLifter$Tree", name := "keeps", desc := "(II)Z" } : Jvm.MethodName)) ∈ lw_all := lw_g (lw_at lw_m3 127 rfl) rfl
theorem q771 : (Jvm.Cond.code ({ cls := "GateLifter$Tree", name := "keeps", desc := "(II)Z" } : Jvm.MethodName) prog_7_method_15_code (4 : Nat) (Option.some Jvm.ClassFile.FieldType.boolean)) ∈ lw_all := lw_g (lw_at lw_m3 128 rfl) rfl
theorem q901 : (Jvm.Cond.instanceMethod ({ cls := "GateLifter$Tree", name := "movedFrom", desc := "(LGateLifter$Tree;)I" } : Jvm.MethodName)) ∈ lw_all := lw_g (lw_at lw_m4 18 rfl) rfl
theorem q902 : (Jvm.Cond.selects "GateLifter$Tree" ({ cls := "GateLifter$Tree", name := "movedFrom", desc := "(LGateLifter$Tree;)I" } : Jvm.MethodName) ({ cls := "GateLifter$Tree", name := "movedFrom", desc := "(LGateLifter$Tree;)I" } : Jvm.MethodName)) ∈ lw_all := lw_g (lw_at lw_m4 19 rfl) rfl
theorem q903 : (Jvm.Cond.code ({ cls := "GateLifter$Tree", name := "movedFrom", desc := "(LGateLifter$Tree;)I" } : Jvm.MethodName) prog_7_method_17_code (4 : Nat) (Option.some Jvm.ClassFile.FieldType.int)) ∈ lw_all := lw_g (lw_at lw_m4 20 rfl) rfl
theorem q1337 : (Jvm.Cond.instanceMethod ({ cls := "GateLifter$Tree", name := "be", desc := "(LGateLifter$Tree;)V" } : Jvm.MethodName)) ∈ lw_all := lw_g (lw_at lw_m5 214 rfl) rfl
theorem q1338 : (Jvm.Cond.selects "GateLifter$Tree" ({ cls := "GateLifter$Tree", name := "be", desc := "(LGateLifter$Tree;)V" } : Jvm.MethodName) ({ cls := "GateLifter$Tree", name := "be", desc := "(LGateLifter$Tree;)V" } : Jvm.MethodName)) ∈ lw_all := lw_g (lw_at lw_m5 215 rfl) rfl
theorem q1339 : (Jvm.Cond.code ({ cls := "GateLifter$Tree", name := "be", desc := "(LGateLifter$Tree;)V" } : Jvm.MethodName) prog_7_method_4_code (2 : Nat) (Option.none : Option Jvm.ClassFile.FieldType)) ∈ lw_all := lw_g (lw_at lw_m5 216 rfl) rfl
theorem q1369 : (Jvm.Cond.instanceMethod ({ cls := "GateLifter$Tree", name := "lays", desc := "(II)V" } : Jvm.MethodName)) ∈ lw_all := lw_g (lw_at lw_m6 6 rfl) rfl
theorem q1370 : (Jvm.Cond.selects "GateLifter$Tree" ({ cls := "GateLifter$Tree", name := "lays", desc := "(II)V" } : Jvm.MethodName) ({ cls := "GateLifter$Tree", name := "lays", desc := "(II)V" } : Jvm.MethodName)) ∈ lw_all := lw_g (lw_at lw_m6 7 rfl) rfl
theorem q1371 : (Jvm.Cond.code ({ cls := "GateLifter$Tree", name := "lays", desc := "(II)V" } : Jvm.MethodName) prog_7_method_11_code (3 : Nat) (Option.none : Option Jvm.ClassFile.FieldType)) ∈ lw_all := lw_g (lw_at lw_m6 8 rfl) rfl
theorem q1372 : (Jvm.Cond.methodLink "GateLifter$Tree" (79 : Nat) ({ cls := "GateLifter$Tree", name := "lifts", desc := "(II)V" } : Jvm.MethodName)) ∈ lw_all := lw_g (lw_at lw_m6 9 rfl) rfl
theorem q1373 : (Jvm.Cond.privateMethod ({ cls := "GateLifter$Tree", name := "lifts", desc := "(II)V" } : Jvm.MethodName)) ∈ lw_tbl := lw_at lw_m6 10 rfl
theorem q1374 : (Jvm.Cond.instanceMethod ({ cls := "GateLifter$Tree", name := "lifts", desc := "(II)V" } : Jvm.MethodName)) ∈ lw_all := lw_g (lw_at lw_m6 11 rfl) rfl
theorem q1375 : (Jvm.Cond.code ({ cls := "GateLifter$Tree", name := "lifts", desc := "(II)V" } : Jvm.MethodName) prog_7_method_13_code (6 : Nat) (Option.none : Option Jvm.ClassFile.FieldType)) ∈ lw_all := lw_g (lw_at lw_m6 12 rfl) rfl
theorem q1376 : (Jvm.Cond.methodLink "GateLifter$Tree" (86 : Nat) ({ cls := "GateLifter$Tree", name := "common", desc := "(II)I" } : Jvm.MethodName)) ∈ lw_all := lw_g (lw_at lw_m6 13 rfl) rfl
theorem q1377 : (Jvm.Cond.instanceMethod ({ cls := "GateLifter$Tree", name := "common", desc := "(II)I" } : Jvm.MethodName)) ∈ lw_all := lw_g (lw_at lw_m6 14 rfl) rfl
theorem q1378 : (Jvm.Cond.selects "GateLifter$Tree" ({ cls := "GateLifter$Tree", name := "common", desc := "(II)I" } : Jvm.MethodName) ({ cls := "GateLifter$Tree", name := "common", desc := "(II)I" } : Jvm.MethodName)) ∈ lw_all := lw_g (lw_at lw_m6 15 rfl) rfl
theorem q1379 : (Jvm.Cond.code ({ cls := "GateLifter$Tree", name := "common", desc := "(II)I" } : Jvm.MethodName) prog_7_method_10_code (5 : Nat) (Option.some Jvm.ClassFile.FieldType.int)) ∈ lw_all := lw_g (lw_at lw_m6 16 rfl) rfl
theorem q1380 : (Jvm.Cond.methodLink "GateLifter$Tree" (95 : Nat) ({ cls := "java/lang/Integer", name := "numberOfTrailingZeros", desc := "(I)I" } : Jvm.MethodName)) ∈ lw_all := lw_g (lw_at lw_m6 17 rfl) rfl
theorem q1381 : (Jvm.Cond.methodLink "GateLifter$Tree" (98 : Nat) ({ cls := "GateLifter$Tree", name := "visits", desc := "(III)V" } : Jvm.MethodName)) ∈ lw_all := lw_g (lw_at lw_m6 18 rfl) rfl
theorem q1382 : (Jvm.Cond.privateMethod ({ cls := "GateLifter$Tree", name := "visits", desc := "(III)V" } : Jvm.MethodName)) ∈ lw_tbl := lw_at lw_m6 19 rfl
theorem q1383 : (Jvm.Cond.instanceMethod ({ cls := "GateLifter$Tree", name := "visits", desc := "(III)V" } : Jvm.MethodName)) ∈ lw_all := lw_g (lw_at lw_m6 20 rfl) rfl
theorem q1384 : (Jvm.Cond.code ({ cls := "GateLifter$Tree", name := "visits", desc := "(III)V" } : Jvm.MethodName) prog_7_method_14_code (5 : Nat) (Option.none : Option Jvm.ClassFile.FieldType)) ∈ lw_all := lw_g (lw_at lw_m6 21 rfl) rfl
theorem q1385 : (Jvm.Cond.methodLink "GateLifter$Tree" (83 : Nat) ({ cls := "GateLifter$Tree", name := "joins", desc := "(II)V" } : Jvm.MethodName)) ∈ lw_all := lw_g (lw_at lw_m6 22 rfl) rfl
theorem q1386 : (Jvm.Cond.privateMethod ({ cls := "GateLifter$Tree", name := "joins", desc := "(II)V" } : Jvm.MethodName)) ∈ lw_tbl := lw_at lw_m6 23 rfl
theorem q1387 : (Jvm.Cond.instanceMethod ({ cls := "GateLifter$Tree", name := "joins", desc := "(II)V" } : Jvm.MethodName)) ∈ lw_all := lw_g (lw_at lw_m6 24 rfl) rfl
theorem q1388 : (Jvm.Cond.code ({ cls := "GateLifter$Tree", name := "joins", desc := "(II)V" } : Jvm.MethodName) prog_7_method_12_code (8 : Nat) (Option.none : Option Jvm.ClassFile.FieldType)) ∈ lw_all := lw_g (lw_at lw_m6 25 rfl) rfl
theorem q1394 : (Jvm.Cond.instanceMethod ({ cls := "GateLifter$Tree", name := "liftFrom", desc := "(LGateLifter$Tree;)I" } : Jvm.MethodName)) ∈ lw_all := lw_g (lw_at lw_m6 31 rfl) rfl
theorem q1395 : (Jvm.Cond.selects "GateLifter$Tree" ({ cls := "GateLifter$Tree", name := "liftFrom", desc := "(LGateLifter$Tree;)I" } : Jvm.MethodName) ({ cls := "GateLifter$Tree", name := "liftFrom", desc := "(LGateLifter$Tree;)I" } : Jvm.MethodName)) ∈ lw_all := lw_g (lw_at lw_m6 32 rfl) rfl
theorem q1396 : (Jvm.Cond.code ({ cls := "GateLifter$Tree", name := "liftFrom", desc := "(LGateLifter$Tree;)I" } : Jvm.MethodName) prog_7_method_18_code (4 : Nat) (Option.some Jvm.ClassFile.FieldType.int)) ∈ lw_all := lw_g (lw_at lw_m6 33 rfl) rfl
theorem q2343 : (Jvm.Cond.castable "GateLifter$Tree" "java/lang/Object") ∈ lw_tbl := lw_at lw_m10 20 rfl
theorem in_X5 : ∀ w ∈ wsX50, w ∈ lw_all := lw_in wsX50 [385, 387, 389, 391, 393, 395, 397, 399, 401, 403] (by decide +kernel) (by decide +kernel)
/-! GateLifter$Pipes -/
set_option maxRecDepth 100000
def RX6 : String := "GateLifter$Pipes"
def TX6 : u_T := fun k => match k with
  | 0 => ("GateLifter$Pipes", "room", "[[I", true)
  | 1 => ("GateLifter$Pipes", "by", "[I", true)
  | _ => ("GateLifter$Pipes", "row", "[I", true)
def tyX6 : Nat → FieldType := fun k => match k with
  | 0 => .array (.array .int)
  | 1 => .array .int
  | _ => .array .int
abbrev wsX60 : List Cond := u_ws RX6 TX6 3
theorem nmX6 : ∀ a, a < 3 → ∀ b, b < 3 → a ≠ b → (TX6 a).2.1 ≠ (TX6 b).2.1 := by decide +kernel
theorem tyX6_ok : ∀ k, k < 3 → parseFieldDescriptor (TX6 k).2.2.1 = some (tyX6 k) := by decide +kernel
abbrev cX6_init : ByteArray := prog_5_method_1_code
def yX6_init : MethodName := ⟨RX6, "<init>", "()V"⟩
def dkwX6_init_1 : List UInt8 := [42, 16, 32, 188, 10, 181, 0, 20, 177]
abbrev dktX6_init_1 : List UInt8 := dkwX6_init_1 ++ []
def dkwX6_init_0 : List UInt8 := [42, 183, 0, 3, 42, 16, 32, 16, 32, 197, 0, 9, 2, 181, 0, 11, 42, 16, 32, 188, 10, 181, 0, 16]
abbrev dktX6_init_0 : List UInt8 := dkwX6_init_0 ++ dktX6_init_1
theorem dksX6_init_0 : cX6_init.data.toList.drop 0 = dktX6_init_0 := by decide +kernel
theorem dksX6_init_1 : cX6_init.data.toList.drop 24 = dktX6_init_1 := dk_seg dksX6_init_0 24 rfl rfl
theorem dX6_init_0 : decode cX6_init 0 = .ok (.aload_n 0, 1) := dk_42 (dk_at dksX6_init_0 0 rfl rfl)
theorem dX6_init_1 : decode cX6_init 1 = .ok (.invokespecial 3, 3) := dk_183 0 3 (dk_at dksX6_init_0 1 rfl rfl)
theorem dX6_init_4 : decode cX6_init 4 = .ok (.aload_n 0, 1) := dk_42 (dk_at dksX6_init_0 4 rfl rfl)
theorem dX6_init_5 : decode cX6_init 5 = .ok (.bipush 32, 2) := dk_16 32 (dk_at dksX6_init_0 5 rfl rfl)
theorem dX6_init_7 : decode cX6_init 7 = .ok (.bipush 32, 2) := dk_16 32 (dk_at dksX6_init_0 7 rfl rfl)
theorem dX6_init_9 : decode cX6_init 9 = .ok (.multianewarray 9 2, 4) := by decide +kernel
theorem dX6_init_13 : decode cX6_init 13 = .ok (.putfield 11, 3) := dk_181 0 11 (dk_at dksX6_init_0 13 rfl rfl)
theorem dX6_init_16 : decode cX6_init 16 = .ok (.aload_n 0, 1) := dk_42 (dk_at dksX6_init_0 16 rfl rfl)
theorem dX6_init_17 : decode cX6_init 17 = .ok (.bipush 32, 2) := dk_16 32 (dk_at dksX6_init_0 17 rfl rfl)
theorem dX6_init_19 : decode cX6_init 19 = .ok (.newarray .int, 2) := dk_188_10 (dk_at dksX6_init_0 19 rfl rfl)
theorem dX6_init_21 : decode cX6_init 21 = .ok (.putfield 16, 3) := dk_181 0 16 (dk_at dksX6_init_0 21 rfl rfl)
theorem dX6_init_24 : decode cX6_init 24 = .ok (.aload_n 0, 1) := dk_42 (dk_at dksX6_init_1 0 rfl rfl)
theorem dX6_init_25 : decode cX6_init 25 = .ok (.bipush 32, 2) := dk_16 32 (dk_at dksX6_init_1 1 rfl rfl)
theorem dX6_init_27 : decode cX6_init 27 = .ok (.newarray .int, 2) := dk_188_10 (dk_at dksX6_init_1 3 rfl rfl)
theorem dX6_init_29 : decode cX6_init 29 = .ok (.putfield 20, 3) := dk_181 0 20 (dk_at dksX6_init_1 5 rfl rfl)
theorem dX6_init_32 : decode cX6_init 32 = .ok (.return_, 1) := dk_177 (dk_at dksX6_init_1 8 rfl rfl)
abbrev cX6_empties : ByteArray := prog_5_method_2_code
def yX6_empties : MethodName := ⟨RX6, "empties", "()V"⟩
def dkwX6_empties_1 : List UInt8 := [79, 132, 2, 1, 167, 255, 238, 132, 1, 1, 167, 255, 224, 177]
abbrev dktX6_empties_1 : List UInt8 := dkwX6_empties_1 ++ []
def dkwX6_empties_0 : List UInt8 := [3, 60, 27, 16, 32, 162, 0, 32, 3, 61, 28, 16, 32, 162, 0, 18, 42, 180, 0, 11, 27, 50, 28, 3]
abbrev dktX6_empties_0 : List UInt8 := dkwX6_empties_0 ++ dktX6_empties_1
theorem dksX6_empties_0 : cX6_empties.data.toList.drop 0 = dktX6_empties_0 := by decide +kernel
theorem dksX6_empties_1 : cX6_empties.data.toList.drop 24 = dktX6_empties_1 := dk_seg dksX6_empties_0 24 rfl rfl
theorem dX6_empties_0 : decode cX6_empties 0 = .ok (.iconst 0, 1) := dk_3 (dk_at dksX6_empties_0 0 rfl rfl)
theorem dX6_empties_1 : decode cX6_empties 1 = .ok (.istore_n 1, 1) := dk_60 (dk_at dksX6_empties_0 1 rfl rfl)
theorem dX6_empties_2 : decode cX6_empties 2 = .ok (.iload_n 1, 1) := dk_27 (dk_at dksX6_empties_0 2 rfl rfl)
theorem dX6_empties_3 : decode cX6_empties 3 = .ok (.bipush 32, 2) := dk_16 32 (dk_at dksX6_empties_0 3 rfl rfl)
theorem dX6_empties_5 : decode cX6_empties 5 = .ok (.if_icmp .ge 32, 3) := dk_162 0 32 (dk_at dksX6_empties_0 5 rfl rfl)
theorem dX6_empties_8 : decode cX6_empties 8 = .ok (.iconst 0, 1) := dk_3 (dk_at dksX6_empties_0 8 rfl rfl)
theorem dX6_empties_9 : decode cX6_empties 9 = .ok (.istore_n 2, 1) := dk_61 (dk_at dksX6_empties_0 9 rfl rfl)
theorem dX6_empties_10 : decode cX6_empties 10 = .ok (.iload_n 2, 1) := dk_28 (dk_at dksX6_empties_0 10 rfl rfl)
theorem dX6_empties_11 : decode cX6_empties 11 = .ok (.bipush 32, 2) := dk_16 32 (dk_at dksX6_empties_0 11 rfl rfl)
theorem dX6_empties_13 : decode cX6_empties 13 = .ok (.if_icmp .ge 18, 3) := dk_162 0 18 (dk_at dksX6_empties_0 13 rfl rfl)
theorem dX6_empties_16 : decode cX6_empties 16 = .ok (.aload_n 0, 1) := dk_42 (dk_at dksX6_empties_0 16 rfl rfl)
theorem dX6_empties_17 : decode cX6_empties 17 = .ok (.getfield 11, 3) := dk_180 0 11 (dk_at dksX6_empties_0 17 rfl rfl)
theorem dX6_empties_20 : decode cX6_empties 20 = .ok (.iload_n 1, 1) := dk_27 (dk_at dksX6_empties_0 20 rfl rfl)
theorem dX6_empties_21 : decode cX6_empties 21 = .ok (.aaload, 1) := dk_50 (dk_at dksX6_empties_0 21 rfl rfl)
theorem dX6_empties_22 : decode cX6_empties 22 = .ok (.iload_n 2, 1) := dk_28 (dk_at dksX6_empties_0 22 rfl rfl)
theorem dX6_empties_23 : decode cX6_empties 23 = .ok (.iconst 0, 1) := dk_3 (dk_at dksX6_empties_0 23 rfl rfl)
theorem dX6_empties_24 : decode cX6_empties 24 = .ok (.iastore, 1) := dk_79 (dk_at dksX6_empties_1 0 rfl rfl)
theorem dX6_empties_25 : decode cX6_empties 25 = .ok (.iinc 2 1, 3) := dk_132 2 1 (dk_at dksX6_empties_1 1 rfl rfl)
theorem dX6_empties_28 : decode cX6_empties 28 = .ok (.goto (-18), 3) := dk_167 255 238 (dk_at dksX6_empties_1 4 rfl rfl)
theorem dX6_empties_31 : decode cX6_empties 31 = .ok (.iinc 1 1, 3) := dk_132 1 1 (dk_at dksX6_empties_1 7 rfl rfl)
theorem dX6_empties_34 : decode cX6_empties 34 = .ok (.goto (-32), 3) := dk_167 255 224 (dk_at dksX6_empties_1 10 rfl rfl)
theorem dX6_empties_37 : decode cX6_empties 37 = .ok (.return_, 1) := dk_177 (dk_at dksX6_empties_1 13 rfl rfl)
abbrev cX6_most : ByteArray := prog_5_method_4_code
def yX6_most : MethodName := ⟨RX6, "most", "(II)I"⟩
def dkwX6_most_0 : List UInt8 := [3, 62, 42, 27, 28, 182, 0, 23, 153, 0, 9, 132, 3, 1, 167, 255, 244, 29, 172]
abbrev dktX6_most_0 : List UInt8 := dkwX6_most_0 ++ []
theorem dksX6_most_0 : cX6_most.data.toList.drop 0 = dktX6_most_0 := by decide +kernel
theorem dX6_most_0 : decode cX6_most 0 = .ok (.iconst 0, 1) := dk_3 (dk_at dksX6_most_0 0 rfl rfl)
theorem dX6_most_1 : decode cX6_most 1 = .ok (.istore_n 3, 1) := dk_62 (dk_at dksX6_most_0 1 rfl rfl)
theorem dX6_most_2 : decode cX6_most 2 = .ok (.aload_n 0, 1) := dk_42 (dk_at dksX6_most_0 2 rfl rfl)
theorem dX6_most_3 : decode cX6_most 3 = .ok (.iload_n 1, 1) := dk_27 (dk_at dksX6_most_0 3 rfl rfl)
theorem dX6_most_4 : decode cX6_most 4 = .ok (.iload_n 2, 1) := dk_28 (dk_at dksX6_most_0 4 rfl rfl)
theorem dX6_most_5 : decode cX6_most 5 = .ok (.invokevirtual 23, 3) := dk_182 0 23 (dk_at dksX6_most_0 5 rfl rfl)
theorem dX6_most_8 : decode cX6_most 8 = .ok (.ifCond .eq 9, 3) := dk_153 0 9 (dk_at dksX6_most_0 8 rfl rfl)
theorem dX6_most_11 : decode cX6_most 11 = .ok (.iinc 3 1, 3) := dk_132 3 1 (dk_at dksX6_most_0 11 rfl rfl)
theorem dX6_most_14 : decode cX6_most 14 = .ok (.goto (-12), 3) := dk_167 255 244 (dk_at dksX6_most_0 14 rfl rfl)
theorem dX6_most_17 : decode cX6_most 17 = .ok (.iload_n 3, 1) := dk_29 (dk_at dksX6_most_0 17 rfl rfl)
theorem dX6_most_18 : decode cX6_most 18 = .ok (.ireturn, 1) := dk_172 (dk_at dksX6_most_0 18 rfl rfl)
abbrev cX6_goes : ByteArray := prog_5_method_3_code
def yX6_goes : MethodName := ⟨RX6, "goes", "(II)Z"⟩
def dkwX6_goes_8 : List UInt8 := [46, 92, 46, 4, 96, 79, 42, 180, 0, 16, 21, 4, 46, 54, 4, 167, 255, 203, 4, 172]
abbrev dktX6_goes_8 : List UInt8 := dkwX6_goes_8 ++ []
def dkwX6_goes_7 : List UInt8 := [21, 4, 46, 50, 21, 4, 92, 46, 4, 100, 79, 42, 180, 0, 11, 21, 4, 50, 42, 180, 0, 16, 21, 4]
abbrev dktX6_goes_7 : List UInt8 := dkwX6_goes_7 ++ dktX6_goes_8
def dkwX6_goes_6 : List UInt8 := [46, 2, 160, 0, 5, 3, 172, 28, 54, 4, 21, 4, 27, 159, 0, 53, 42, 180, 0, 11, 42, 180, 0, 16]
abbrev dktX6_goes_6 : List UInt8 := dkwX6_goes_6 ++ dktX6_goes_7
def dkwX6_goes_5 : List UInt8 := [29, 21, 5, 79, 132, 3, 1, 132, 5, 1, 167, 255, 189, 132, 4, 1, 167, 255, 164, 42, 180, 0, 16, 28]
abbrev dktX6_goes_5 : List UInt8 := dkwX6_goes_5 ++ dktX6_goes_6
def dkwX6_goes_4 : List UInt8 := [154, 0, 6, 167, 0, 28, 42, 180, 0, 16, 21, 5, 42, 180, 0, 20, 21, 4, 46, 79, 42, 180, 0, 20]
abbrev dktX6_goes_4 : List UInt8 := dkwX6_goes_4 ++ dktX6_goes_5
def dkwX6_goes_3 : List UInt8 := [21, 5, 46, 2, 160, 0, 49, 42, 180, 0, 11, 42, 180, 0, 20, 21, 4, 46, 50, 21, 5, 46]
abbrev dktX6_goes_3 : List UInt8 := dkwX6_goes_3 ++ dktX6_goes_4
def dkwX6_goes_2 : List UInt8 := [42, 180, 0, 16, 28, 46, 2, 160, 0, 82, 3, 54, 5, 21, 5, 16, 32, 162, 0, 66, 42, 180, 0, 16]
abbrev dktX6_goes_2 : List UInt8 := dkwX6_goes_2 ++ dktX6_goes_3
def dkwX6_goes_1 : List UInt8 := [180, 0, 16, 27, 27, 79, 42, 180, 0, 20, 3, 27, 79, 4, 62, 3, 54, 4, 21, 4, 29, 162, 0, 92]
abbrev dktX6_goes_1 : List UInt8 := dkwX6_goes_1 ++ dktX6_goes_2
def dkwX6_goes_0 : List UInt8 := [3, 62, 29, 16, 32, 162, 0, 16, 42, 180, 0, 16, 29, 2, 79, 132, 3, 1, 167, 255, 240, 42]
abbrev dktX6_goes_0 : List UInt8 := dkwX6_goes_0 ++ dktX6_goes_1
theorem dksX6_goes_0 : cX6_goes.data.toList.drop 0 = dktX6_goes_0 := by decide +kernel
theorem dksX6_goes_1 : cX6_goes.data.toList.drop 22 = dktX6_goes_1 := dk_seg dksX6_goes_0 22 rfl rfl
theorem dksX6_goes_2 : cX6_goes.data.toList.drop 46 = dktX6_goes_2 := dk_seg dksX6_goes_1 24 rfl rfl
theorem dksX6_goes_3 : cX6_goes.data.toList.drop 70 = dktX6_goes_3 := dk_seg dksX6_goes_2 24 rfl rfl
theorem dksX6_goes_4 : cX6_goes.data.toList.drop 92 = dktX6_goes_4 := dk_seg dksX6_goes_3 22 rfl rfl
theorem dksX6_goes_5 : cX6_goes.data.toList.drop 116 = dktX6_goes_5 := dk_seg dksX6_goes_4 24 rfl rfl
theorem dksX6_goes_6 : cX6_goes.data.toList.drop 140 = dktX6_goes_6 := dk_seg dksX6_goes_5 24 rfl rfl
theorem dksX6_goes_7 : cX6_goes.data.toList.drop 164 = dktX6_goes_7 := dk_seg dksX6_goes_6 24 rfl rfl
theorem dksX6_goes_8 : cX6_goes.data.toList.drop 188 = dktX6_goes_8 := dk_seg dksX6_goes_7 24 rfl rfl
theorem dX6_goes_0 : decode cX6_goes 0 = .ok (.iconst 0, 1) := dk_3 (dk_at dksX6_goes_0 0 rfl rfl)
theorem dX6_goes_1 : decode cX6_goes 1 = .ok (.istore_n 3, 1) := dk_62 (dk_at dksX6_goes_0 1 rfl rfl)
theorem dX6_goes_2 : decode cX6_goes 2 = .ok (.iload_n 3, 1) := dk_29 (dk_at dksX6_goes_0 2 rfl rfl)
theorem dX6_goes_3 : decode cX6_goes 3 = .ok (.bipush 32, 2) := dk_16 32 (dk_at dksX6_goes_0 3 rfl rfl)
theorem dX6_goes_5 : decode cX6_goes 5 = .ok (.if_icmp .ge 16, 3) := dk_162 0 16 (dk_at dksX6_goes_0 5 rfl rfl)
theorem dX6_goes_8 : decode cX6_goes 8 = .ok (.aload_n 0, 1) := dk_42 (dk_at dksX6_goes_0 8 rfl rfl)
theorem dX6_goes_9 : decode cX6_goes 9 = .ok (.getfield 16, 3) := dk_180 0 16 (dk_at dksX6_goes_0 9 rfl rfl)
theorem dX6_goes_12 : decode cX6_goes 12 = .ok (.iload_n 3, 1) := dk_29 (dk_at dksX6_goes_0 12 rfl rfl)
theorem dX6_goes_13 : decode cX6_goes 13 = .ok (.iconst (-1), 1) := dk_2 (dk_at dksX6_goes_0 13 rfl rfl)
theorem dX6_goes_14 : decode cX6_goes 14 = .ok (.iastore, 1) := dk_79 (dk_at dksX6_goes_0 14 rfl rfl)
theorem dX6_goes_15 : decode cX6_goes 15 = .ok (.iinc 3 1, 3) := dk_132 3 1 (dk_at dksX6_goes_0 15 rfl rfl)
theorem dX6_goes_18 : decode cX6_goes 18 = .ok (.goto (-16), 3) := dk_167 255 240 (dk_at dksX6_goes_0 18 rfl rfl)
theorem dX6_goes_21 : decode cX6_goes 21 = .ok (.aload_n 0, 1) := dk_42 (dk_at dksX6_goes_0 21 rfl rfl)
theorem dX6_goes_22 : decode cX6_goes 22 = .ok (.getfield 16, 3) := dk_180 0 16 (dk_at dksX6_goes_1 0 rfl rfl)
theorem dX6_goes_25 : decode cX6_goes 25 = .ok (.iload_n 1, 1) := dk_27 (dk_at dksX6_goes_1 3 rfl rfl)
theorem dX6_goes_26 : decode cX6_goes 26 = .ok (.iload_n 1, 1) := dk_27 (dk_at dksX6_goes_1 4 rfl rfl)
theorem dX6_goes_27 : decode cX6_goes 27 = .ok (.iastore, 1) := dk_79 (dk_at dksX6_goes_1 5 rfl rfl)
theorem dX6_goes_28 : decode cX6_goes 28 = .ok (.aload_n 0, 1) := dk_42 (dk_at dksX6_goes_1 6 rfl rfl)
theorem dX6_goes_29 : decode cX6_goes 29 = .ok (.getfield 20, 3) := dk_180 0 20 (dk_at dksX6_goes_1 7 rfl rfl)
theorem dX6_goes_32 : decode cX6_goes 32 = .ok (.iconst 0, 1) := dk_3 (dk_at dksX6_goes_1 10 rfl rfl)
theorem dX6_goes_33 : decode cX6_goes 33 = .ok (.iload_n 1, 1) := dk_27 (dk_at dksX6_goes_1 11 rfl rfl)
theorem dX6_goes_34 : decode cX6_goes 34 = .ok (.iastore, 1) := dk_79 (dk_at dksX6_goes_1 12 rfl rfl)
theorem dX6_goes_35 : decode cX6_goes 35 = .ok (.iconst 1, 1) := dk_4 (dk_at dksX6_goes_1 13 rfl rfl)
theorem dX6_goes_36 : decode cX6_goes 36 = .ok (.istore_n 3, 1) := dk_62 (dk_at dksX6_goes_1 14 rfl rfl)
theorem dX6_goes_37 : decode cX6_goes 37 = .ok (.iconst 0, 1) := dk_3 (dk_at dksX6_goes_1 15 rfl rfl)
theorem dX6_goes_38 : decode cX6_goes 38 = .ok (.istore 4, 2) := dk_54 4 (dk_at dksX6_goes_1 16 rfl rfl)
theorem dX6_goes_40 : decode cX6_goes 40 = .ok (.iload 4, 2) := dk_21 4 (dk_at dksX6_goes_1 18 rfl rfl)
theorem dX6_goes_42 : decode cX6_goes 42 = .ok (.iload_n 3, 1) := dk_29 (dk_at dksX6_goes_1 20 rfl rfl)
theorem dX6_goes_43 : decode cX6_goes 43 = .ok (.if_icmp .ge 92, 3) := dk_162 0 92 (dk_at dksX6_goes_1 21 rfl rfl)
theorem dX6_goes_46 : decode cX6_goes 46 = .ok (.aload_n 0, 1) := dk_42 (dk_at dksX6_goes_2 0 rfl rfl)
theorem dX6_goes_47 : decode cX6_goes 47 = .ok (.getfield 16, 3) := dk_180 0 16 (dk_at dksX6_goes_2 1 rfl rfl)
theorem dX6_goes_50 : decode cX6_goes 50 = .ok (.iload_n 2, 1) := dk_28 (dk_at dksX6_goes_2 4 rfl rfl)
theorem dX6_goes_51 : decode cX6_goes 51 = .ok (.iaload, 1) := dk_46 (dk_at dksX6_goes_2 5 rfl rfl)
theorem dX6_goes_52 : decode cX6_goes 52 = .ok (.iconst (-1), 1) := dk_2 (dk_at dksX6_goes_2 6 rfl rfl)
theorem dX6_goes_53 : decode cX6_goes 53 = .ok (.if_icmp .ne 82, 3) := dk_160 0 82 (dk_at dksX6_goes_2 7 rfl rfl)
theorem dX6_goes_56 : decode cX6_goes 56 = .ok (.iconst 0, 1) := dk_3 (dk_at dksX6_goes_2 10 rfl rfl)
theorem dX6_goes_57 : decode cX6_goes 57 = .ok (.istore 5, 2) := dk_54 5 (dk_at dksX6_goes_2 11 rfl rfl)
theorem dX6_goes_59 : decode cX6_goes 59 = .ok (.iload 5, 2) := dk_21 5 (dk_at dksX6_goes_2 13 rfl rfl)
theorem dX6_goes_61 : decode cX6_goes 61 = .ok (.bipush 32, 2) := dk_16 32 (dk_at dksX6_goes_2 15 rfl rfl)
theorem dX6_goes_63 : decode cX6_goes 63 = .ok (.if_icmp .ge 66, 3) := dk_162 0 66 (dk_at dksX6_goes_2 17 rfl rfl)
theorem dX6_goes_66 : decode cX6_goes 66 = .ok (.aload_n 0, 1) := dk_42 (dk_at dksX6_goes_2 20 rfl rfl)
theorem dX6_goes_67 : decode cX6_goes 67 = .ok (.getfield 16, 3) := dk_180 0 16 (dk_at dksX6_goes_2 21 rfl rfl)
theorem dX6_goes_70 : decode cX6_goes 70 = .ok (.iload 5, 2) := dk_21 5 (dk_at dksX6_goes_3 0 rfl rfl)
theorem dX6_goes_72 : decode cX6_goes 72 = .ok (.iaload, 1) := dk_46 (dk_at dksX6_goes_3 2 rfl rfl)
theorem dX6_goes_73 : decode cX6_goes 73 = .ok (.iconst (-1), 1) := dk_2 (dk_at dksX6_goes_3 3 rfl rfl)
theorem dX6_goes_74 : decode cX6_goes 74 = .ok (.if_icmp .ne 49, 3) := dk_160 0 49 (dk_at dksX6_goes_3 4 rfl rfl)
theorem dX6_goes_77 : decode cX6_goes 77 = .ok (.aload_n 0, 1) := dk_42 (dk_at dksX6_goes_3 7 rfl rfl)
theorem dX6_goes_78 : decode cX6_goes 78 = .ok (.getfield 11, 3) := dk_180 0 11 (dk_at dksX6_goes_3 8 rfl rfl)
theorem dX6_goes_81 : decode cX6_goes 81 = .ok (.aload_n 0, 1) := dk_42 (dk_at dksX6_goes_3 11 rfl rfl)
theorem dX6_goes_82 : decode cX6_goes 82 = .ok (.getfield 20, 3) := dk_180 0 20 (dk_at dksX6_goes_3 12 rfl rfl)
theorem dX6_goes_85 : decode cX6_goes 85 = .ok (.iload 4, 2) := dk_21 4 (dk_at dksX6_goes_3 15 rfl rfl)
theorem dX6_goes_87 : decode cX6_goes 87 = .ok (.iaload, 1) := dk_46 (dk_at dksX6_goes_3 17 rfl rfl)
theorem dX6_goes_88 : decode cX6_goes 88 = .ok (.aaload, 1) := dk_50 (dk_at dksX6_goes_3 18 rfl rfl)
theorem dX6_goes_89 : decode cX6_goes 89 = .ok (.iload 5, 2) := dk_21 5 (dk_at dksX6_goes_3 19 rfl rfl)
theorem dX6_goes_91 : decode cX6_goes 91 = .ok (.iaload, 1) := dk_46 (dk_at dksX6_goes_3 21 rfl rfl)
theorem dX6_goes_92 : decode cX6_goes 92 = .ok (.ifCond .ne 6, 3) := dk_154 0 6 (dk_at dksX6_goes_4 0 rfl rfl)
theorem dX6_goes_95 : decode cX6_goes 95 = .ok (.goto 28, 3) := dk_167 0 28 (dk_at dksX6_goes_4 3 rfl rfl)
theorem dX6_goes_98 : decode cX6_goes 98 = .ok (.aload_n 0, 1) := dk_42 (dk_at dksX6_goes_4 6 rfl rfl)
theorem dX6_goes_99 : decode cX6_goes 99 = .ok (.getfield 16, 3) := dk_180 0 16 (dk_at dksX6_goes_4 7 rfl rfl)
theorem dX6_goes_102 : decode cX6_goes 102 = .ok (.iload 5, 2) := dk_21 5 (dk_at dksX6_goes_4 10 rfl rfl)
theorem dX6_goes_104 : decode cX6_goes 104 = .ok (.aload_n 0, 1) := dk_42 (dk_at dksX6_goes_4 12 rfl rfl)
theorem dX6_goes_105 : decode cX6_goes 105 = .ok (.getfield 20, 3) := dk_180 0 20 (dk_at dksX6_goes_4 13 rfl rfl)
theorem dX6_goes_108 : decode cX6_goes 108 = .ok (.iload 4, 2) := dk_21 4 (dk_at dksX6_goes_4 16 rfl rfl)
theorem dX6_goes_110 : decode cX6_goes 110 = .ok (.iaload, 1) := dk_46 (dk_at dksX6_goes_4 18 rfl rfl)
theorem dX6_goes_111 : decode cX6_goes 111 = .ok (.iastore, 1) := dk_79 (dk_at dksX6_goes_4 19 rfl rfl)
theorem dX6_goes_112 : decode cX6_goes 112 = .ok (.aload_n 0, 1) := dk_42 (dk_at dksX6_goes_4 20 rfl rfl)
theorem dX6_goes_113 : decode cX6_goes 113 = .ok (.getfield 20, 3) := dk_180 0 20 (dk_at dksX6_goes_4 21 rfl rfl)
theorem dX6_goes_116 : decode cX6_goes 116 = .ok (.iload_n 3, 1) := dk_29 (dk_at dksX6_goes_5 0 rfl rfl)
theorem dX6_goes_117 : decode cX6_goes 117 = .ok (.iload 5, 2) := dk_21 5 (dk_at dksX6_goes_5 1 rfl rfl)
theorem dX6_goes_119 : decode cX6_goes 119 = .ok (.iastore, 1) := dk_79 (dk_at dksX6_goes_5 3 rfl rfl)
theorem dX6_goes_120 : decode cX6_goes 120 = .ok (.iinc 3 1, 3) := dk_132 3 1 (dk_at dksX6_goes_5 4 rfl rfl)
theorem dX6_goes_123 : decode cX6_goes 123 = .ok (.iinc 5 1, 3) := dk_132 5 1 (dk_at dksX6_goes_5 7 rfl rfl)
theorem dX6_goes_126 : decode cX6_goes 126 = .ok (.goto (-67), 3) := dk_167 255 189 (dk_at dksX6_goes_5 10 rfl rfl)
theorem dX6_goes_129 : decode cX6_goes 129 = .ok (.iinc 4 1, 3) := dk_132 4 1 (dk_at dksX6_goes_5 13 rfl rfl)
theorem dX6_goes_132 : decode cX6_goes 132 = .ok (.goto (-92), 3) := dk_167 255 164 (dk_at dksX6_goes_5 16 rfl rfl)
theorem dX6_goes_135 : decode cX6_goes 135 = .ok (.aload_n 0, 1) := dk_42 (dk_at dksX6_goes_5 19 rfl rfl)
theorem dX6_goes_136 : decode cX6_goes 136 = .ok (.getfield 16, 3) := dk_180 0 16 (dk_at dksX6_goes_5 20 rfl rfl)
theorem dX6_goes_139 : decode cX6_goes 139 = .ok (.iload_n 2, 1) := dk_28 (dk_at dksX6_goes_5 23 rfl rfl)
theorem dX6_goes_140 : decode cX6_goes 140 = .ok (.iaload, 1) := dk_46 (dk_at dksX6_goes_6 0 rfl rfl)
theorem dX6_goes_141 : decode cX6_goes 141 = .ok (.iconst (-1), 1) := dk_2 (dk_at dksX6_goes_6 1 rfl rfl)
theorem dX6_goes_142 : decode cX6_goes 142 = .ok (.if_icmp .ne 5, 3) := dk_160 0 5 (dk_at dksX6_goes_6 2 rfl rfl)
theorem dX6_goes_145 : decode cX6_goes 145 = .ok (.iconst 0, 1) := dk_3 (dk_at dksX6_goes_6 5 rfl rfl)
theorem dX6_goes_146 : decode cX6_goes 146 = .ok (.ireturn, 1) := dk_172 (dk_at dksX6_goes_6 6 rfl rfl)
theorem dX6_goes_147 : decode cX6_goes 147 = .ok (.iload_n 2, 1) := dk_28 (dk_at dksX6_goes_6 7 rfl rfl)
theorem dX6_goes_148 : decode cX6_goes 148 = .ok (.istore 4, 2) := dk_54 4 (dk_at dksX6_goes_6 8 rfl rfl)
theorem dX6_goes_150 : decode cX6_goes 150 = .ok (.iload 4, 2) := dk_21 4 (dk_at dksX6_goes_6 10 rfl rfl)
theorem dX6_goes_152 : decode cX6_goes 152 = .ok (.iload_n 1, 1) := dk_27 (dk_at dksX6_goes_6 12 rfl rfl)
theorem dX6_goes_153 : decode cX6_goes 153 = .ok (.if_icmp .eq 53, 3) := dk_159 0 53 (dk_at dksX6_goes_6 13 rfl rfl)
theorem dX6_goes_156 : decode cX6_goes 156 = .ok (.aload_n 0, 1) := dk_42 (dk_at dksX6_goes_6 16 rfl rfl)
theorem dX6_goes_157 : decode cX6_goes 157 = .ok (.getfield 11, 3) := dk_180 0 11 (dk_at dksX6_goes_6 17 rfl rfl)
theorem dX6_goes_160 : decode cX6_goes 160 = .ok (.aload_n 0, 1) := dk_42 (dk_at dksX6_goes_6 20 rfl rfl)
theorem dX6_goes_161 : decode cX6_goes 161 = .ok (.getfield 16, 3) := dk_180 0 16 (dk_at dksX6_goes_6 21 rfl rfl)
theorem dX6_goes_164 : decode cX6_goes 164 = .ok (.iload 4, 2) := dk_21 4 (dk_at dksX6_goes_7 0 rfl rfl)
theorem dX6_goes_166 : decode cX6_goes 166 = .ok (.iaload, 1) := dk_46 (dk_at dksX6_goes_7 2 rfl rfl)
theorem dX6_goes_167 : decode cX6_goes 167 = .ok (.aaload, 1) := dk_50 (dk_at dksX6_goes_7 3 rfl rfl)
theorem dX6_goes_168 : decode cX6_goes 168 = .ok (.iload 4, 2) := dk_21 4 (dk_at dksX6_goes_7 4 rfl rfl)
theorem dX6_goes_170 : decode cX6_goes 170 = .ok (.dup2, 1) := dk_92 (dk_at dksX6_goes_7 6 rfl rfl)
theorem dX6_goes_171 : decode cX6_goes 171 = .ok (.iaload, 1) := dk_46 (dk_at dksX6_goes_7 7 rfl rfl)
theorem dX6_goes_172 : decode cX6_goes 172 = .ok (.iconst 1, 1) := dk_4 (dk_at dksX6_goes_7 8 rfl rfl)
theorem dX6_goes_173 : decode cX6_goes 173 = .ok (.isub, 1) := dk_100 (dk_at dksX6_goes_7 9 rfl rfl)
theorem dX6_goes_174 : decode cX6_goes 174 = .ok (.iastore, 1) := dk_79 (dk_at dksX6_goes_7 10 rfl rfl)
theorem dX6_goes_175 : decode cX6_goes 175 = .ok (.aload_n 0, 1) := dk_42 (dk_at dksX6_goes_7 11 rfl rfl)
theorem dX6_goes_176 : decode cX6_goes 176 = .ok (.getfield 11, 3) := dk_180 0 11 (dk_at dksX6_goes_7 12 rfl rfl)
theorem dX6_goes_179 : decode cX6_goes 179 = .ok (.iload 4, 2) := dk_21 4 (dk_at dksX6_goes_7 15 rfl rfl)
theorem dX6_goes_181 : decode cX6_goes 181 = .ok (.aaload, 1) := dk_50 (dk_at dksX6_goes_7 17 rfl rfl)
theorem dX6_goes_182 : decode cX6_goes 182 = .ok (.aload_n 0, 1) := dk_42 (dk_at dksX6_goes_7 18 rfl rfl)
theorem dX6_goes_183 : decode cX6_goes 183 = .ok (.getfield 16, 3) := dk_180 0 16 (dk_at dksX6_goes_7 19 rfl rfl)
theorem dX6_goes_186 : decode cX6_goes 186 = .ok (.iload 4, 2) := dk_21 4 (dk_at dksX6_goes_7 22 rfl rfl)
theorem dX6_goes_188 : decode cX6_goes 188 = .ok (.iaload, 1) := dk_46 (dk_at dksX6_goes_8 0 rfl rfl)
theorem dX6_goes_189 : decode cX6_goes 189 = .ok (.dup2, 1) := dk_92 (dk_at dksX6_goes_8 1 rfl rfl)
theorem dX6_goes_190 : decode cX6_goes 190 = .ok (.iaload, 1) := dk_46 (dk_at dksX6_goes_8 2 rfl rfl)
theorem dX6_goes_191 : decode cX6_goes 191 = .ok (.iconst 1, 1) := dk_4 (dk_at dksX6_goes_8 3 rfl rfl)
theorem dX6_goes_192 : decode cX6_goes 192 = .ok (.iadd, 1) := dk_96 (dk_at dksX6_goes_8 4 rfl rfl)
theorem dX6_goes_193 : decode cX6_goes 193 = .ok (.iastore, 1) := dk_79 (dk_at dksX6_goes_8 5 rfl rfl)
theorem dX6_goes_194 : decode cX6_goes 194 = .ok (.aload_n 0, 1) := dk_42 (dk_at dksX6_goes_8 6 rfl rfl)
theorem dX6_goes_195 : decode cX6_goes 195 = .ok (.getfield 16, 3) := dk_180 0 16 (dk_at dksX6_goes_8 7 rfl rfl)
theorem dX6_goes_198 : decode cX6_goes 198 = .ok (.iload 4, 2) := dk_21 4 (dk_at dksX6_goes_8 10 rfl rfl)
theorem dX6_goes_200 : decode cX6_goes 200 = .ok (.iaload, 1) := dk_46 (dk_at dksX6_goes_8 12 rfl rfl)
theorem dX6_goes_201 : decode cX6_goes 201 = .ok (.istore 4, 2) := dk_54 4 (dk_at dksX6_goes_8 13 rfl rfl)
theorem dX6_goes_203 : decode cX6_goes 203 = .ok (.goto (-53), 3) := dk_167 255 203 (dk_at dksX6_goes_8 15 rfl rfl)
theorem dX6_goes_206 : decode cX6_goes 206 = .ok (.iconst 1, 1) := dk_4 (dk_at dksX6_goes_8 18 rfl rfl)
theorem dX6_goes_207 : decode cX6_goes 207 = .ok (.ireturn, 1) := dk_172 (dk_at dksX6_goes_8 19 rfl rfl)
theorem q172 : (Jvm.Cond.initialized "GateLifter$Pipes") ∈ lw_all := lw_g (lw_at lw_m1 9 rfl) rfl
theorem q407 : (Jvm.Cond.instantiable "GateLifter$Pipes" (3 : Nat)) ∈ lw_all := lw_g (lw_at lw_m2 4 rfl) rfl
theorem q409 : (Jvm.Cond.instanceMethod ({ cls := "GateLifter$Pipes", name := "<init>", desc := "()V" } : Jvm.MethodName)) ∈ lw_all := lw_g (lw_at lw_m2 6 rfl) rfl
theorem q410 : (Jvm.Cond.code ({ cls := "GateLifter$Pipes", name := "<init>", desc := "()V" } : Jvm.MethodName) prog_5_method_1_code (1 : Nat) (Option.none : Option Jvm.ClassFile.FieldType)) ∈ lw_all := lw_g (lw_at lw_m2 7 rfl) rfl
theorem q411 : (Jvm.Cond.methodLink "GateLifter$Pipes" (3 : Nat) ({ cls := "java/lang/Object", name := "<init>", desc := "()V" } : Jvm.MethodName)) ∈ lw_all := lw_g (lw_at lw_m2 8 rfl) rfl
theorem q412 : (Jvm.Cond.classLink "GateLifter$Pipes" (9 : Nat) "[[I") ∈ lw_all := lw_g (lw_at lw_m2 9 rfl) rfl
theorem q414 : (Jvm.Cond.fieldLink "GateLifter$Pipes" (11 : Nat) "GateLifter$Pipes" "room" "[[I") ∈ lw_all := lw_g (lw_at lw_m2 11 rfl) rfl
theorem q416 : (Jvm.Cond.fieldLink "GateLifter$Pipes" (16 : Nat) "GateLifter$Pipes" "by" "[I") ∈ lw_all := lw_g (lw_at lw_m2 13 rfl) rfl
theorem q417 : (Jvm.Cond.fieldLink "GateLifter$Pipes" (20 : Nat) "GateLifter$Pipes" "row" "[I") ∈ lw_all := lw_g (lw_at lw_m2 14 rfl) rfl
theorem q418 : (Jvm.Cond.laysFinal "GateLifter$Pipes" "GateLifter$Pipes" "room" "[[I") ∈ lw_all := lw_g (lw_at lw_m2 15 rfl) rfl
theorem q419 : (Jvm.Cond.soleField "GateLifter$Pipes" "room") ∈ lw_all := lw_g (lw_at lw_m2 16 rfl) rfl
theorem q420 : (Jvm.Cond.laysFinal "GateLifter$Pipes" "GateLifter$Pipes" "by" "[I") ∈ lw_all := lw_g (lw_at lw_m2 17 rfl) rfl
theorem q421 : (Jvm.Cond.soleField "GateLifter$Pipes" "by") ∈ lw_all := lw_g (lw_at lw_m2 18 rfl) rfl
theorem q422 : (Jvm.Cond.laysFinal "GateLifter$Pipes" "GateLifter$Pipes" "row" "[I") ∈ lw_all := lw_g (lw_at lw_m2 19 rfl) rfl
theorem q423 : (Jvm.Cond.soleField "GateLifter$Pipes" "row") ∈ lw_all := lw_g (lw_at lw_m2 20 rfl) rfl
theorem q424 : (Jvm.Cond.superclass "GateLifter$Pipes" "java/lang/Object") ∈ lw_all := lw_g (lw_at lw_m2 21 rfl) rfl
theorem q1533 : (Jvm.Cond.instanceMethod ({ cls := "GateLifter$Pipes", name := "empties", desc := "()V" } : Jvm.MethodName)) ∈ lw_all := lw_g (lw_at lw_m6 170 rfl) rfl
theorem q1534 : (Jvm.Cond.selects "GateLifter$Pipes" ({ cls := "GateLifter$Pipes", name := "empties", desc := "()V" } : Jvm.MethodName) ({ cls := "GateLifter$Pipes", name := "empties", desc := "()V" } : Jvm.MethodName)) ∈ lw_all := lw_g (lw_at lw_m6 171 rfl) rfl
theorem q1535 : (Jvm.Cond.code ({ cls := "GateLifter$Pipes", name := "empties", desc := "()V" } : Jvm.MethodName) prog_5_method_2_code (3 : Nat) (Option.none : Option Jvm.ClassFile.FieldType)) ∈ lw_all := lw_g (lw_at lw_m6 172 rfl) rfl
theorem q1537 : (Jvm.Cond.instanceMethod ({ cls := "GateLifter$Pipes", name := "most", desc := "(II)I" } : Jvm.MethodName)) ∈ lw_all := lw_g (lw_at lw_m6 174 rfl) rfl
theorem q1538 : (Jvm.Cond.selects "GateLifter$Pipes" ({ cls := "GateLifter$Pipes", name := "most", desc := "(II)I" } : Jvm.MethodName) ({ cls := "GateLifter$Pipes", name := "most", desc := "(II)I" } : Jvm.MethodName)) ∈ lw_all := lw_g (lw_at lw_m6 175 rfl) rfl
theorem q1539 : (Jvm.Cond.code ({ cls := "GateLifter$Pipes", name := "most", desc := "(II)I" } : Jvm.MethodName) prog_5_method_4_code (4 : Nat) (Option.some Jvm.ClassFile.FieldType.int)) ∈ lw_all := lw_g (lw_at lw_m6 176 rfl) rfl
theorem q1540 : (Jvm.Cond.methodLink "GateLifter$Pipes" (23 : Nat) ({ cls := "GateLifter$Pipes", name := "goes", desc := "(II)Z" } : Jvm.MethodName)) ∈ lw_all := lw_g (lw_at lw_m6 177 rfl) rfl
theorem q1541 : (Jvm.Cond.privateMethod ({ cls := "GateLifter$Pipes", name := "goes", desc := "(II)Z" } : Jvm.MethodName)) ∈ lw_tbl := lw_at lw_m6 178 rfl
theorem q1542 : (Jvm.Cond.instanceMethod ({ cls := "GateLifter$Pipes", name := "goes", desc := "(II)Z" } : Jvm.MethodName)) ∈ lw_all := lw_g (lw_at lw_m6 179 rfl) rfl
theorem q1543 : (Jvm.Cond.code ({ cls := "GateLifter$Pipes", name := "goes", desc := "(II)Z" } : Jvm.MethodName) prog_5_method_3_code (6 : Nat) (Option.some Jvm.ClassFile.FieldType.boolean)) ∈ lw_all := lw_g (lw_at lw_m6 180 rfl) rfl
theorem q2344 : (Jvm.Cond.castable "GateLifter$Pipes" "java/lang/Object") ∈ lw_tbl := lw_at lw_m10 21 rfl
theorem in_X6 : ∀ w ∈ wsX60, w ∈ lw_all := lw_in wsX60 [418, 420, 422] (by decide +kernel) (by decide +kernel)
/-! GateLifter$Wrong -/
set_option maxRecDepth 100000
def RX4 : String := "GateLifter$Wrong"
def TX4 : u_T := fun k => match k with
  | 0 => ("java/lang/Throwable", "cause", "Ljava/lang/Throwable;", false)
  | 1 => ("java/lang/Throwable", "stackTrace", "[Ljava/lang/StackTraceElement;", false)
  | 2 => ("java/lang/Throwable", "suppressedExceptions", "Ljava/util/List;", false)
  | 3 => ("java/lang/Throwable", "detailMessage", "Ljava/lang/String;", false)
  | 4 => ("java/lang/Throwable", "backtrace", "Ljava/lang/Object;", false)
  | 5 => ("java/lang/Throwable", "depth", "I", false)
  | _ => ("GateLifter$Wrong", "place", "I", false)
def tyX4 : Nat → FieldType := fun k => match k with
  | 0 => .object "java/lang/Throwable"
  | 1 => .array (.object "java/lang/StackTraceElement")
  | 2 => .object "java/util/List"
  | 3 => .object "java/lang/String"
  | 4 => .object "java/lang/Object"
  | 5 => .int
  | _ => .int
abbrev wsX40 : List Cond := u_ws RX4 TX4 7
theorem nmX4 : ∀ a, a < 7 → ∀ b, b < 7 → a ≠ b → (TX4 a).2.1 ≠ (TX4 b).2.1 := by decide +kernel
theorem tyX4_ok : ∀ k, k < 7 → parseFieldDescriptor (TX4 k).2.2.1 = some (tyX4 k) := by decide +kernel
abbrev cX4_init : ByteArray := prog_9_method_1_code
def yX4_init : MethodName := ⟨RX4, "<init>", "()V"⟩
def dkwX4_init_0 : List UInt8 := [42, 1, 1, 3, 3, 183, 0, 1, 177]
abbrev dktX4_init_0 : List UInt8 := dkwX4_init_0 ++ []
theorem dksX4_init_0 : cX4_init.data.toList.drop 0 = dktX4_init_0 := by decide +kernel
theorem dX4_init_0 : decode cX4_init 0 = .ok (.aload_n 0, 1) := dk_42 (dk_at dksX4_init_0 0 rfl rfl)
theorem dX4_init_1 : decode cX4_init 1 = .ok (.aconst_null, 1) := dk_1 (dk_at dksX4_init_0 1 rfl rfl)
theorem dX4_init_2 : decode cX4_init 2 = .ok (.aconst_null, 1) := dk_1 (dk_at dksX4_init_0 2 rfl rfl)
theorem dX4_init_3 : decode cX4_init 3 = .ok (.iconst 0, 1) := dk_3 (dk_at dksX4_init_0 3 rfl rfl)
theorem dX4_init_4 : decode cX4_init 4 = .ok (.iconst 0, 1) := dk_3 (dk_at dksX4_init_0 4 rfl rfl)
theorem dX4_init_5 : decode cX4_init 5 = .ok (.invokespecial 1, 3) := dk_183 0 1 (dk_at dksX4_init_0 5 rfl rfl)
theorem dX4_init_8 : decode cX4_init 8 = .ok (.return_, 1) := dk_177 (dk_at dksX4_init_0 8 rfl rfl)
theorem q170 : (Jvm.Cond.initialized "GateLifter$Wrong") ∈ lw_all := lw_g (lw_at lw_m1 7 rfl) rfl
theorem q257 : (Jvm.Cond.instantiable "GateLifter$Wrong" (7 : Nat)) ∈ lw_all := lw_g (lw_at lw_m1 94 rfl) rfl
theorem q258 : (Jvm.Cond.castable "GateLifter$Wrong" "GateLifter$Wrong") ∈ lw_tbl := lw_at lw_m1 95 rfl
theorem q265 : (Jvm.Cond.selects "GateLifter$Wrong" ({ cls := "java/lang/Throwable", name := "fillInStackTrace", desc := "(I)Ljava/lang/Throwable;" } : Jvm.MethodName) ({ cls := "java/lang/Throwable", name := "fillInStackTrace", desc := "(I)Ljava/lang/Throwable;" } : Jvm.MethodName)) ∈ lw_all := lw_g (lw_at lw_m1 102 rfl) rfl
theorem q266 : (Jvm.Cond.selects "GateLifter$Wrong" ({ cls := "java/lang/Throwable", name := "fillInStackTrace", desc := "()Ljava/lang/Throwable;" } : Jvm.MethodName) ({ cls := "java/lang/Throwable", name := "fillInStackTrace", desc := "()Ljava/lang/Throwable;" } : Jvm.MethodName)) ∈ lw_all := lw_g (lw_at lw_m1 103 rfl) rfl
theorem q267 : (Jvm.Cond.lays "GateLifter$Wrong" "java/lang/Throwable" "cause" "Ljava/lang/Throwable;") ∈ lw_all := lw_g (lw_at lw_m1 104 rfl) rfl
theorem q269 : (Jvm.Cond.lays "GateLifter$Wrong" "java/lang/Throwable" "stackTrace" "[Ljava/lang/StackTraceElement;") ∈ lw_all := lw_g (lw_at lw_m1 106 rfl) rfl
theorem q271 : (Jvm.Cond.lays "GateLifter$Wrong" "java/lang/Throwable" "suppressedExceptions" "Ljava/util/List;") ∈ lw_all := lw_g (lw_at lw_m1 108 rfl) rfl
theorem q273 : (Jvm.Cond.lays "GateLifter$Wrong" "java/lang/Throwable" "detailMessage" "Ljava/lang/String;") ∈ lw_all := lw_g (lw_at lw_m1 110 rfl) rfl
theorem q275 : (Jvm.Cond.lays "GateLifter$Wrong" "java/lang/Throwable" "backtrace" "Ljava/lang/Object;") ∈ lw_all := lw_g (lw_at lw_m1 112 rfl) rfl
theorem q301 : (Jvm.Cond.instanceMethod ({ cls := "GateLifter$Wrong", name := "<init>", desc := "()V" } : Jvm.MethodName)) ∈ lw_all := lw_g (lw_at lw_m1 138 rfl) rfl
theorem q302 : (Jvm.Cond.code ({ cls := "GateLifter$Wrong", name := "<init>", desc := "()V" } : Jvm.MethodName) prog_9_method_1_code (1 : Nat) (Option.none : Option Jvm.ClassFile.FieldType)) ∈ lw_all := lw_g (lw_at lw_m1 139 rfl) rfl
theorem q303 : (Jvm.Cond.methodLink "GateLifter$Wrong" (1 : Nat) ({ cls := "java/lang/RuntimeException", name := "<init>", desc := "(Ljava/lang/String;Ljava/lang/Throwable;ZZ)V" } : Jvm.MethodName)) ∈ lw_all := lw_g (lw_at lw_m1 140 rfl) rfl
theorem q319 : (Jvm.Cond.lays "GateLifter$Wrong" "GateLifter$Wrong" "place" "I") ∈ lw_all := lw_g (lw_at lw_m1 156 rfl) rfl
theorem q320 : (Jvm.Cond.soleField "GateLifter$Wrong" "place") ∈ lw_all := lw_g (lw_at lw_m1 157 rfl) rfl
theorem q325 : (Jvm.Cond.lays "GateLifter$Wrong" "java/lang/Throwable" "depth" "I") ∈ lw_all := lw_g (lw_at lw_m1 162 rfl) rfl
theorem q328 : (Jvm.Cond.superclass "GateLifter$Wrong" "java/lang/RuntimeException") ∈ lw_all := lw_g (lw_at lw_m1 165 rfl) rfl
theorem q2342 : (Jvm.Cond.castable "GateLifter$Wrong" "java/lang/Object") ∈ lw_tbl := lw_at lw_m10 19 rfl
theorem in_X4 : ∀ w ∈ wsX40, w ∈ lw_all := lw_in wsX40 [267, 269, 271, 273, 275, 325, 319] (by decide +kernel) (by decide +kernel)
/-! GateLifter$Reader -/
set_option maxRecDepth 100000
def RX2 : String := "GateLifter$Reader"
def TX2 : u_T := fun k => match k with
  | 0 => ("GateLifter$Reader", "tape", "[B", true)
  | 1 => ("GateLifter$Reader", "draft", "LGateLifter$Net;", true)
  | 2 => ("GateLifter$Reader", "wrong", "LGateLifter$Wrong;", true)
  | 3 => ("GateLifter$Reader", "one", "[I", true)
  | 4 => ("GateLifter$Reader", "two", "[I", true)
  | 5 => ("GateLifter$Reader", "size", "I", false)
  | 6 => ("GateLifter$Reader", "end", "I", false)
  | 7 => ("GateLifter$Reader", "at", "I", false)
  | 8 => ("GateLifter$Reader", "code", "I", false)
  | _ => ("GateLifter$Reader", "many", "I", false)
def tyX2 : Nat → FieldType := fun k => match k with
  | 0 => .array .byte
  | 1 => .object "GateLifter$Net"
  | 2 => .object "GateLifter$Wrong"
  | 3 => .array .int
  | 4 => .array .int
  | 5 => .int
  | 6 => .int
  | 7 => .int
  | 8 => .int
  | _ => .int
abbrev wsX20 : List Cond := u_ws RX2 TX2 10
theorem nmX2 : ∀ a, a < 10 → ∀ b, b < 10 → a ≠ b → (TX2 a).2.1 ≠ (TX2 b).2.1 := by decide +kernel
theorem tyX2_ok : ∀ k, k < 10 → parseFieldDescriptor (TX2 k).2.2.1 = some (tyX2 k) := by decide +kernel
abbrev cX2_init : ByteArray := prog_6_method_1_code
def yX2_init : MethodName := ⟨RX2, "<init>", "()V"⟩
def dkwX2_init_2 : List UInt8 := [188, 10, 181, 0, 33, 177]
abbrev dktX2_init_2 : List UInt8 := dkwX2_init_2 ++ []
def dkwX2_init_1 : List UInt8 := [42, 187, 0, 22, 89, 183, 0, 24, 181, 0, 25, 42, 17, 0, 200, 188, 10, 181, 0, 29, 42, 17, 0, 200]
abbrev dktX2_init_1 : List UInt8 := dkwX2_init_1 ++ dktX2_init_2
def dkwX2_init_0 : List UInt8 := [42, 183, 0, 3, 42, 17, 1, 144, 188, 8, 181, 0, 9, 42, 187, 0, 15, 89, 183, 0, 17, 181, 0, 18]
abbrev dktX2_init_0 : List UInt8 := dkwX2_init_0 ++ dktX2_init_1
theorem dksX2_init_0 : cX2_init.data.toList.drop 0 = dktX2_init_0 := by decide +kernel
theorem dksX2_init_1 : cX2_init.data.toList.drop 24 = dktX2_init_1 := dk_seg dksX2_init_0 24 rfl rfl
theorem dksX2_init_2 : cX2_init.data.toList.drop 48 = dktX2_init_2 := dk_seg dksX2_init_1 24 rfl rfl
theorem dX2_init_0 : decode cX2_init 0 = .ok (.aload_n 0, 1) := dk_42 (dk_at dksX2_init_0 0 rfl rfl)
theorem dX2_init_1 : decode cX2_init 1 = .ok (.invokespecial 3, 3) := dk_183 0 3 (dk_at dksX2_init_0 1 rfl rfl)
theorem dX2_init_4 : decode cX2_init 4 = .ok (.aload_n 0, 1) := dk_42 (dk_at dksX2_init_0 4 rfl rfl)
theorem dX2_init_5 : decode cX2_init 5 = .ok (.sipush 400, 3) := dk_17 1 144 (dk_at dksX2_init_0 5 rfl rfl)
theorem dX2_init_8 : decode cX2_init 8 = .ok (.newarray .byte, 2) := dk_188_8 (dk_at dksX2_init_0 8 rfl rfl)
theorem dX2_init_10 : decode cX2_init 10 = .ok (.putfield 9, 3) := dk_181 0 9 (dk_at dksX2_init_0 10 rfl rfl)
theorem dX2_init_13 : decode cX2_init 13 = .ok (.aload_n 0, 1) := dk_42 (dk_at dksX2_init_0 13 rfl rfl)
theorem dX2_init_14 : decode cX2_init 14 = .ok (.new 15, 3) := dk_187 0 15 (dk_at dksX2_init_0 14 rfl rfl)
theorem dX2_init_17 : decode cX2_init 17 = .ok (.dup, 1) := dk_89 (dk_at dksX2_init_0 17 rfl rfl)
theorem dX2_init_18 : decode cX2_init 18 = .ok (.invokespecial 17, 3) := dk_183 0 17 (dk_at dksX2_init_0 18 rfl rfl)
theorem dX2_init_21 : decode cX2_init 21 = .ok (.putfield 18, 3) := dk_181 0 18 (dk_at dksX2_init_0 21 rfl rfl)
theorem dX2_init_24 : decode cX2_init 24 = .ok (.aload_n 0, 1) := dk_42 (dk_at dksX2_init_1 0 rfl rfl)
theorem dX2_init_25 : decode cX2_init 25 = .ok (.new 22, 3) := dk_187 0 22 (dk_at dksX2_init_1 1 rfl rfl)
theorem dX2_init_28 : decode cX2_init 28 = .ok (.dup, 1) := dk_89 (dk_at dksX2_init_1 4 rfl rfl)
theorem dX2_init_29 : decode cX2_init 29 = .ok (.invokespecial 24, 3) := dk_183 0 24 (dk_at dksX2_init_1 5 rfl rfl)
theorem dX2_init_32 : decode cX2_init 32 = .ok (.putfield 25, 3) := dk_181 0 25 (dk_at dksX2_init_1 8 rfl rfl)
theorem dX2_init_35 : decode cX2_init 35 = .ok (.aload_n 0, 1) := dk_42 (dk_at dksX2_init_1 11 rfl rfl)
theorem dX2_init_36 : decode cX2_init 36 = .ok (.sipush 200, 3) := dk_17 0 200 (dk_at dksX2_init_1 12 rfl rfl)
theorem dX2_init_39 : decode cX2_init 39 = .ok (.newarray .int, 2) := dk_188_10 (dk_at dksX2_init_1 15 rfl rfl)
theorem dX2_init_41 : decode cX2_init 41 = .ok (.putfield 29, 3) := dk_181 0 29 (dk_at dksX2_init_1 17 rfl rfl)
theorem dX2_init_44 : decode cX2_init 44 = .ok (.aload_n 0, 1) := dk_42 (dk_at dksX2_init_1 20 rfl rfl)
theorem dX2_init_45 : decode cX2_init 45 = .ok (.sipush 200, 3) := dk_17 0 200 (dk_at dksX2_init_1 21 rfl rfl)
theorem dX2_init_48 : decode cX2_init 48 = .ok (.newarray .int, 2) := dk_188_10 (dk_at dksX2_init_2 0 rfl rfl)
theorem dX2_init_50 : decode cX2_init 50 = .ok (.putfield 33, 3) := dk_181 0 33 (dk_at dksX2_init_2 2 rfl rfl)
theorem dX2_init_53 : decode cX2_init 53 = .ok (.return_, 1) := dk_177 (dk_at dksX2_init_2 5 rfl rfl)
abbrev cX2_acts : ByteArray := prog_6_method_9_code
def yX2_acts : MethodName := ⟨RX2, "acts", "(ILGateLifter$Net;)I"⟩
def dkwX2_acts_4 : List UInt8 := [42, 42, 180, 0, 40, 182, 0, 64, 167, 255, 193, 29, 172]
abbrev dktX2_acts_4 : List UInt8 := dkwX2_acts_4 ++ []
def dkwX2_acts_3 : List UInt8 := [159, 0, 7, 4, 167, 0, 4, 3, 54, 4, 21, 4, 153, 255, 213, 42, 16, 59, 182, 0, 75, 154, 255, 204]
abbrev dktX2_acts_3 : List UInt8 := dkwX2_acts_3 ++ dktX2_acts_4
def dkwX2_acts_2 : List UInt8 := [160, 0, 11, 42, 42, 182, 0, 53, 182, 0, 64, 42, 182, 0, 86, 132, 3, 1, 42, 182, 0, 46, 2]
abbrev dktX2_acts_2 : List UInt8 := dkwX2_acts_2 ++ dktX2_acts_3
def dkwX2_acts_1 : List UInt8 := [62, 42, 182, 0, 46, 2, 159, 0, 7, 4, 167, 0, 4, 3, 54, 4, 21, 4, 153, 0, 64, 29, 16, 14]
abbrev dktX2_acts_1 : List UInt8 := dkwX2_acts_1 ++ dktX2_acts_2
def dkwX2_acts_0 : List UInt8 := [42, 27, 181, 0, 43, 42, 3, 181, 0, 40, 42, 3, 181, 0, 79, 42, 180, 0, 18, 44, 182, 0, 82, 3]
abbrev dktX2_acts_0 : List UInt8 := dkwX2_acts_0 ++ dktX2_acts_1
theorem dksX2_acts_0 : cX2_acts.data.toList.drop 0 = dktX2_acts_0 := by decide +kernel
theorem dksX2_acts_1 : cX2_acts.data.toList.drop 24 = dktX2_acts_1 := dk_seg dksX2_acts_0 24 rfl rfl
theorem dksX2_acts_2 : cX2_acts.data.toList.drop 48 = dktX2_acts_2 := dk_seg dksX2_acts_1 24 rfl rfl
theorem dksX2_acts_3 : cX2_acts.data.toList.drop 71 = dktX2_acts_3 := dk_seg dksX2_acts_2 23 rfl rfl
theorem dksX2_acts_4 : cX2_acts.data.toList.drop 95 = dktX2_acts_4 := dk_seg dksX2_acts_3 24 rfl rfl
theorem dX2_acts_0 : decode cX2_acts 0 = .ok (.aload_n 0, 1) := dk_42 (dk_at dksX2_acts_0 0 rfl rfl)
theorem dX2_acts_1 : decode cX2_acts 1 = .ok (.iload_n 1, 1) := dk_27 (dk_at dksX2_acts_0 1 rfl rfl)
theorem dX2_acts_2 : decode cX2_acts 2 = .ok (.putfield 43, 3) := dk_181 0 43 (dk_at dksX2_acts_0 2 rfl rfl)
theorem dX2_acts_5 : decode cX2_acts 5 = .ok (.aload_n 0, 1) := dk_42 (dk_at dksX2_acts_0 5 rfl rfl)
theorem dX2_acts_6 : decode cX2_acts 6 = .ok (.iconst 0, 1) := dk_3 (dk_at dksX2_acts_0 6 rfl rfl)
theorem dX2_acts_7 : decode cX2_acts 7 = .ok (.putfield 40, 3) := dk_181 0 40 (dk_at dksX2_acts_0 7 rfl rfl)
theorem dX2_acts_10 : decode cX2_acts 10 = .ok (.aload_n 0, 1) := dk_42 (dk_at dksX2_acts_0 10 rfl rfl)
theorem dX2_acts_11 : decode cX2_acts 11 = .ok (.iconst 0, 1) := dk_3 (dk_at dksX2_acts_0 11 rfl rfl)
theorem dX2_acts_12 : decode cX2_acts 12 = .ok (.putfield 79, 3) := dk_181 0 79 (dk_at dksX2_acts_0 12 rfl rfl)
theorem dX2_acts_15 : decode cX2_acts 15 = .ok (.aload_n 0, 1) := dk_42 (dk_at dksX2_acts_0 15 rfl rfl)
theorem dX2_acts_16 : decode cX2_acts 16 = .ok (.getfield 18, 3) := dk_180 0 18 (dk_at dksX2_acts_0 16 rfl rfl)
theorem dX2_acts_19 : decode cX2_acts 19 = .ok (.aload_n 2, 1) := dk_44 (dk_at dksX2_acts_0 19 rfl rfl)
theorem dX2_acts_20 : decode cX2_acts 20 = .ok (.invokevirtual 82, 3) := dk_182 0 82 (dk_at dksX2_acts_0 20 rfl rfl)
theorem dX2_acts_23 : decode cX2_acts 23 = .ok (.iconst 0, 1) := dk_3 (dk_at dksX2_acts_0 23 rfl rfl)
theorem dX2_acts_24 : decode cX2_acts 24 = .ok (.istore_n 3, 1) := dk_62 (dk_at dksX2_acts_1 0 rfl rfl)
theorem dX2_acts_25 : decode cX2_acts 25 = .ok (.aload_n 0, 1) := dk_42 (dk_at dksX2_acts_1 1 rfl rfl)
theorem dX2_acts_26 : decode cX2_acts 26 = .ok (.invokevirtual 46, 3) := dk_182 0 46 (dk_at dksX2_acts_1 2 rfl rfl)
theorem dX2_acts_29 : decode cX2_acts 29 = .ok (.iconst (-1), 1) := dk_2 (dk_at dksX2_acts_1 5 rfl rfl)
theorem dX2_acts_30 : decode cX2_acts 30 = .ok (.if_icmp .eq 7, 3) := dk_159 0 7 (dk_at dksX2_acts_1 6 rfl rfl)
theorem dX2_acts_33 : decode cX2_acts 33 = .ok (.iconst 1, 1) := dk_4 (dk_at dksX2_acts_1 9 rfl rfl)
theorem dX2_acts_34 : decode cX2_acts 34 = .ok (.goto 4, 3) := dk_167 0 4 (dk_at dksX2_acts_1 10 rfl rfl)
theorem dX2_acts_37 : decode cX2_acts 37 = .ok (.iconst 0, 1) := dk_3 (dk_at dksX2_acts_1 13 rfl rfl)
theorem dX2_acts_38 : decode cX2_acts 38 = .ok (.istore 4, 2) := dk_54 4 (dk_at dksX2_acts_1 14 rfl rfl)
theorem dX2_acts_40 : decode cX2_acts 40 = .ok (.iload 4, 2) := dk_21 4 (dk_at dksX2_acts_1 16 rfl rfl)
theorem dX2_acts_42 : decode cX2_acts 42 = .ok (.ifCond .eq 64, 3) := dk_153 0 64 (dk_at dksX2_acts_1 18 rfl rfl)
theorem dX2_acts_45 : decode cX2_acts 45 = .ok (.iload_n 3, 1) := dk_29 (dk_at dksX2_acts_1 21 rfl rfl)
theorem dX2_acts_46 : decode cX2_acts 46 = .ok (.bipush 14, 2) := dk_16 14 (dk_at dksX2_acts_1 22 rfl rfl)
theorem dX2_acts_48 : decode cX2_acts 48 = .ok (.if_icmp .ne 11, 3) := dk_160 0 11 (dk_at dksX2_acts_2 0 rfl rfl)
theorem dX2_acts_51 : decode cX2_acts 51 = .ok (.aload_n 0, 1) := dk_42 (dk_at dksX2_acts_2 3 rfl rfl)
theorem dX2_acts_52 : decode cX2_acts 52 = .ok (.aload_n 0, 1) := dk_42 (dk_at dksX2_acts_2 4 rfl rfl)
theorem dX2_acts_53 : decode cX2_acts 53 = .ok (.invokevirtual 53, 3) := dk_182 0 53 (dk_at dksX2_acts_2 5 rfl rfl)
theorem dX2_acts_56 : decode cX2_acts 56 = .ok (.invokevirtual 64, 3) := dk_182 0 64 (dk_at dksX2_acts_2 8 rfl rfl)
theorem dX2_acts_59 : decode cX2_acts 59 = .ok (.aload_n 0, 1) := dk_42 (dk_at dksX2_acts_2 11 rfl rfl)
theorem dX2_acts_60 : decode cX2_acts 60 = .ok (.invokevirtual 86, 3) := dk_182 0 86 (dk_at dksX2_acts_2 12 rfl rfl)
theorem dX2_acts_63 : decode cX2_acts 63 = .ok (.iinc 3 1, 3) := dk_132 3 1 (dk_at dksX2_acts_2 15 rfl rfl)
theorem dX2_acts_66 : decode cX2_acts 66 = .ok (.aload_n 0, 1) := dk_42 (dk_at dksX2_acts_2 18 rfl rfl)
theorem dX2_acts_67 : decode cX2_acts 67 = .ok (.invokevirtual 46, 3) := dk_182 0 46 (dk_at dksX2_acts_2 19 rfl rfl)
theorem dX2_acts_70 : decode cX2_acts 70 = .ok (.iconst (-1), 1) := dk_2 (dk_at dksX2_acts_2 22 rfl rfl)
theorem dX2_acts_71 : decode cX2_acts 71 = .ok (.if_icmp .eq 7, 3) := dk_159 0 7 (dk_at dksX2_acts_3 0 rfl rfl)
theorem dX2_acts_74 : decode cX2_acts 74 = .ok (.iconst 1, 1) := dk_4 (dk_at dksX2_acts_3 3 rfl rfl)
theorem dX2_acts_75 : decode cX2_acts 75 = .ok (.goto 4, 3) := dk_167 0 4 (dk_at dksX2_acts_3 4 rfl rfl)
theorem dX2_acts_78 : decode cX2_acts 78 = .ok (.iconst 0, 1) := dk_3 (dk_at dksX2_acts_3 7 rfl rfl)
theorem dX2_acts_79 : decode cX2_acts 79 = .ok (.istore 4, 2) := dk_54 4 (dk_at dksX2_acts_3 8 rfl rfl)
theorem dX2_acts_81 : decode cX2_acts 81 = .ok (.iload 4, 2) := dk_21 4 (dk_at dksX2_acts_3 10 rfl rfl)
theorem dX2_acts_83 : decode cX2_acts 83 = .ok (.ifCond .eq (-43), 3) := dk_153 255 213 (dk_at dksX2_acts_3 12 rfl rfl)
theorem dX2_acts_86 : decode cX2_acts 86 = .ok (.aload_n 0, 1) := dk_42 (dk_at dksX2_acts_3 15 rfl rfl)
theorem dX2_acts_87 : decode cX2_acts 87 = .ok (.bipush 59, 2) := dk_16 59 (dk_at dksX2_acts_3 16 rfl rfl)
theorem dX2_acts_89 : decode cX2_acts 89 = .ok (.invokevirtual 75, 3) := dk_182 0 75 (dk_at dksX2_acts_3 18 rfl rfl)
theorem dX2_acts_92 : decode cX2_acts 92 = .ok (.ifCond .ne (-52), 3) := dk_154 255 204 (dk_at dksX2_acts_3 21 rfl rfl)
theorem dX2_acts_95 : decode cX2_acts 95 = .ok (.aload_n 0, 1) := dk_42 (dk_at dksX2_acts_4 0 rfl rfl)
theorem dX2_acts_96 : decode cX2_acts 96 = .ok (.aload_n 0, 1) := dk_42 (dk_at dksX2_acts_4 1 rfl rfl)
theorem dX2_acts_97 : decode cX2_acts 97 = .ok (.getfield 40, 3) := dk_180 0 40 (dk_at dksX2_acts_4 2 rfl rfl)
theorem dX2_acts_100 : decode cX2_acts 100 = .ok (.invokevirtual 64, 3) := dk_182 0 64 (dk_at dksX2_acts_4 5 rfl rfl)
theorem dX2_acts_103 : decode cX2_acts 103 = .ok (.goto (-63), 3) := dk_167 255 193 (dk_at dksX2_acts_4 8 rfl rfl)
theorem dX2_acts_106 : decode cX2_acts 106 = .ok (.iload_n 3, 1) := dk_29 (dk_at dksX2_acts_4 11 rfl rfl)
theorem dX2_acts_107 : decode cX2_acts 107 = .ok (.ireturn, 1) := dk_172 (dk_at dksX2_acts_4 12 rfl rfl)
abbrev cX2_sign : ByteArray := prog_6_method_3_code
def yX2_sign : MethodName := ⟨RX2, "sign", "()I"⟩
def dkwX2_sign_2 : List UInt8 := [162, 0, 19, 42, 180, 0, 9, 42, 180, 0, 40, 51, 17, 0, 255, 126, 167, 0, 4, 2, 172]
abbrev dktX2_sign_2 : List UInt8 := dkwX2_sign_2 ++ []
def dkwX2_sign_1 : List UInt8 := [160, 0, 16, 42, 89, 180, 0, 40, 4, 96, 181, 0, 40, 167, 255, 221, 42, 180, 0, 40, 42, 180, 0, 43]
abbrev dktX2_sign_1 : List UInt8 := dkwX2_sign_1 ++ dktX2_sign_2
def dkwX2_sign_0 : List UInt8 := [42, 180, 0, 40, 42, 180, 0, 43, 162, 0, 30, 42, 180, 0, 9, 42, 180, 0, 40, 51, 16, 32]
abbrev dktX2_sign_0 : List UInt8 := dkwX2_sign_0 ++ dktX2_sign_1
theorem dksX2_sign_0 : cX2_sign.data.toList.drop 0 = dktX2_sign_0 := by decide +kernel
theorem dksX2_sign_1 : cX2_sign.data.toList.drop 22 = dktX2_sign_1 := dk_seg dksX2_sign_0 22 rfl rfl
theorem dksX2_sign_2 : cX2_sign.data.toList.drop 46 = dktX2_sign_2 := dk_seg dksX2_sign_1 24 rfl rfl
theorem dX2_sign_0 : decode cX2_sign 0 = .ok (.aload_n 0, 1) := dk_42 (dk_at dksX2_sign_0 0 rfl rfl)
theorem dX2_sign_1 : decode cX2_sign 1 = .ok (.getfield 40, 3) := dk_180 0 40 (dk_at dksX2_sign_0 1 rfl rfl)
theorem dX2_sign_4 : decode cX2_sign 4 = .ok (.aload_n 0, 1) := dk_42 (dk_at dksX2_sign_0 4 rfl rfl)
theorem dX2_sign_5 : decode cX2_sign 5 = .ok (.getfield 43, 3) := dk_180 0 43 (dk_at dksX2_sign_0 5 rfl rfl)
theorem dX2_sign_8 : decode cX2_sign 8 = .ok (.if_icmp .ge 30, 3) := dk_162 0 30 (dk_at dksX2_sign_0 8 rfl rfl)
theorem dX2_sign_11 : decode cX2_sign 11 = .ok (.aload_n 0, 1) := dk_42 (dk_at dksX2_sign_0 11 rfl rfl)
theorem dX2_sign_12 : decode cX2_sign 12 = .ok (.getfield 9, 3) := dk_180 0 9 (dk_at dksX2_sign_0 12 rfl rfl)
theorem dX2_sign_15 : decode cX2_sign 15 = .ok (.aload_n 0, 1) := dk_42 (dk_at dksX2_sign_0 15 rfl rfl)
theorem dX2_sign_16 : decode cX2_sign 16 = .ok (.getfield 40, 3) := dk_180 0 40 (dk_at dksX2_sign_0 16 rfl rfl)
theorem dX2_sign_19 : decode cX2_sign 19 = .ok (.baload, 1) := dk_51 (dk_at dksX2_sign_0 19 rfl rfl)
theorem dX2_sign_20 : decode cX2_sign 20 = .ok (.bipush 32, 2) := dk_16 32 (dk_at dksX2_sign_0 20 rfl rfl)
theorem dX2_sign_22 : decode cX2_sign 22 = .ok (.if_icmp .ne 16, 3) := dk_160 0 16 (dk_at dksX2_sign_1 0 rfl rfl)
theorem dX2_sign_25 : decode cX2_sign 25 = .ok (.aload_n 0, 1) := dk_42 (dk_at dksX2_sign_1 3 rfl rfl)
theorem dX2_sign_26 : decode cX2_sign 26 = .ok (.dup, 1) := dk_89 (dk_at dksX2_sign_1 4 rfl rfl)
theorem dX2_sign_27 : decode cX2_sign 27 = .ok (.getfield 40, 3) := dk_180 0 40 (dk_at dksX2_sign_1 5 rfl rfl)
theorem dX2_sign_30 : decode cX2_sign 30 = .ok (.iconst 1, 1) := dk_4 (dk_at dksX2_sign_1 8 rfl rfl)
theorem dX2_sign_31 : decode cX2_sign 31 = .ok (.iadd, 1) := dk_96 (dk_at dksX2_sign_1 9 rfl rfl)
theorem dX2_sign_32 : decode cX2_sign 32 = .ok (.putfield 40, 3) := dk_181 0 40 (dk_at dksX2_sign_1 10 rfl rfl)
theorem dX2_sign_35 : decode cX2_sign 35 = .ok (.goto (-35), 3) := dk_167 255 221 (dk_at dksX2_sign_1 13 rfl rfl)
theorem dX2_sign_38 : decode cX2_sign 38 = .ok (.aload_n 0, 1) := dk_42 (dk_at dksX2_sign_1 16 rfl rfl)
theorem dX2_sign_39 : decode cX2_sign 39 = .ok (.getfield 40, 3) := dk_180 0 40 (dk_at dksX2_sign_1 17 rfl rfl)
theorem dX2_sign_42 : decode cX2_sign 42 = .ok (.aload_n 0, 1) := dk_42 (dk_at dksX2_sign_1 20 rfl rfl)
theorem dX2_sign_43 : decode cX2_sign 43 = .ok (.getfield 43, 3) := dk_180 0 43 (dk_at dksX2_sign_1 21 rfl rfl)
theorem dX2_sign_46 : decode cX2_sign 46 = .ok (.if_icmp .ge 19, 3) := dk_162 0 19 (dk_at dksX2_sign_2 0 rfl rfl)
theorem dX2_sign_49 : decode cX2_sign 49 = .ok (.aload_n 0, 1) := dk_42 (dk_at dksX2_sign_2 3 rfl rfl)
theorem dX2_sign_50 : decode cX2_sign 50 = .ok (.getfield 9, 3) := dk_180 0 9 (dk_at dksX2_sign_2 4 rfl rfl)
theorem dX2_sign_53 : decode cX2_sign 53 = .ok (.aload_n 0, 1) := dk_42 (dk_at dksX2_sign_2 7 rfl rfl)
theorem dX2_sign_54 : decode cX2_sign 54 = .ok (.getfield 40, 3) := dk_180 0 40 (dk_at dksX2_sign_2 8 rfl rfl)
theorem dX2_sign_57 : decode cX2_sign 57 = .ok (.baload, 1) := dk_51 (dk_at dksX2_sign_2 11 rfl rfl)
theorem dX2_sign_58 : decode cX2_sign 58 = .ok (.sipush 255, 3) := dk_17 0 255 (dk_at dksX2_sign_2 12 rfl rfl)
theorem dX2_sign_61 : decode cX2_sign 61 = .ok (.iand, 1) := dk_126 (dk_at dksX2_sign_2 15 rfl rfl)
theorem dX2_sign_62 : decode cX2_sign 62 = .ok (.goto 4, 3) := dk_167 0 4 (dk_at dksX2_sign_2 16 rfl rfl)
theorem dX2_sign_65 : decode cX2_sign 65 = .ok (.iconst (-1), 1) := dk_2 (dk_at dksX2_sign_2 19 rfl rfl)
theorem dX2_sign_66 : decode cX2_sign 66 = .ok (.ireturn, 1) := dk_172 (dk_at dksX2_sign_2 20 rfl rfl)
abbrev cX2_here : ByteArray := prog_6_method_4_code
def yX2_here : MethodName := ⟨RX2, "here", "()I"⟩
def dkwX2_here_0 : List UInt8 := [42, 182, 0, 46, 60, 42, 180, 0, 40, 172]
abbrev dktX2_here_0 : List UInt8 := dkwX2_here_0 ++ []
theorem dksX2_here_0 : cX2_here.data.toList.drop 0 = dktX2_here_0 := by decide +kernel
theorem dX2_here_0 : decode cX2_here 0 = .ok (.aload_n 0, 1) := dk_42 (dk_at dksX2_here_0 0 rfl rfl)
theorem dX2_here_1 : decode cX2_here 1 = .ok (.invokevirtual 46, 3) := dk_182 0 46 (dk_at dksX2_here_0 1 rfl rfl)
theorem dX2_here_4 : decode cX2_here 4 = .ok (.istore_n 1, 1) := dk_60 (dk_at dksX2_here_0 4 rfl rfl)
theorem dX2_here_5 : decode cX2_here 5 = .ok (.aload_n 0, 1) := dk_42 (dk_at dksX2_here_0 5 rfl rfl)
theorem dX2_here_6 : decode cX2_here 6 = .ok (.getfield 40, 3) := dk_180 0 40 (dk_at dksX2_here_0 6 rfl rfl)
theorem dX2_here_9 : decode cX2_here 9 = .ok (.ireturn, 1) := dk_172 (dk_at dksX2_here_0 9 rfl rfl)
abbrev cX2_fail : ByteArray := prog_6_method_2_code
def yX2_fail : MethodName := ⟨RX2, "fail", "(I)V"⟩
def dkwX2_fail_0 : List UInt8 := [42, 180, 0, 25, 27, 181, 0, 36, 42, 180, 0, 25, 191]
abbrev dktX2_fail_0 : List UInt8 := dkwX2_fail_0 ++ []
theorem dksX2_fail_0 : cX2_fail.data.toList.drop 0 = dktX2_fail_0 := by decide +kernel
theorem dX2_fail_0 : decode cX2_fail 0 = .ok (.aload_n 0, 1) := dk_42 (dk_at dksX2_fail_0 0 rfl rfl)
theorem dX2_fail_1 : decode cX2_fail 1 = .ok (.getfield 25, 3) := dk_180 0 25 (dk_at dksX2_fail_0 1 rfl rfl)
theorem dX2_fail_4 : decode cX2_fail 4 = .ok (.iload_n 1, 1) := dk_27 (dk_at dksX2_fail_0 4 rfl rfl)
theorem dX2_fail_5 : decode cX2_fail 5 = .ok (.putfield 36, 3) := dk_181 0 36 (dk_at dksX2_fail_0 5 rfl rfl)
theorem dX2_fail_8 : decode cX2_fail 8 = .ok (.aload_n 0, 1) := dk_42 (dk_at dksX2_fail_0 8 rfl rfl)
theorem dX2_fail_9 : decode cX2_fail 9 = .ok (.getfield 25, 3) := dk_180 0 25 (dk_at dksX2_fail_0 9 rfl rfl)
theorem dX2_fail_12 : decode cX2_fail 12 = .ok (.athrow, 1) := dk_191 (dk_at dksX2_fail_0 12 rfl rfl)
abbrev cX2_act : ByteArray := prog_6_method_10_code
def yX2_act : MethodName := ⟨RX2, "act", "()V"⟩
def dkwX2_act_12 : List UInt8 := [182, 0, 64, 177]
abbrev dktX2_act_12 : List UInt8 := dkwX2_act_12 ++ []
def dkwX2_act_11 : List UInt8 := [182, 0, 129, 167, 0, 4, 2, 61, 28, 154, 0, 4, 177, 42, 3, 28, 184, 0, 132, 181, 0, 79, 42, 27]
abbrev dktX2_act_11 : List UInt8 := dkwX2_act_11 ++ dktX2_act_12
def dkwX2_act_10 : List UInt8 := [182, 0, 122, 167, 0, 27, 42, 3, 182, 0, 125, 167, 0, 19, 42, 4, 182, 0, 125, 167, 0, 11, 42]
abbrev dktX2_act_10 : List UInt8 := dkwX2_act_10 ++ dktX2_act_11
def dkwX2_act_9 : List UInt8 := [167, 0, 52, 42, 180, 0, 18, 42, 3, 16, 15, 182, 0, 71, 4, 182, 0, 118, 167, 0, 34, 42]
abbrev dktX2_act_9 : List UInt8 := dkwX2_act_9 ++ dktX2_act_10
def dkwX2_act_8 : List UInt8 := [42, 182, 0, 115, 167, 0, 70, 42, 180, 0, 18, 42, 3, 16, 15, 182, 0, 71, 3, 182, 0, 118]
abbrev dktX2_act_8 : List UInt8 := dkwX2_act_8 ++ dktX2_act_9
def dkwX2_act_7 : List UInt8 := [170, 0, 0, 0, 0, 0, 116, 0, 0, 0, 0, 0, 0, 0, 6, 0, 0, 0, 43, 0, 0, 0, 50, 0, 0, 0, 68, 0, 0, 0, 86, 0, 0, 0, 93, 0, 0, 0, 101, 0, 0, 0, 109]
abbrev dktX2_act_7 : List UInt8 := dkwX2_act_7 ++ dktX2_act_8
def dkwX2_act_6 : List UInt8 := [153, 0, 7, 16, 6, 54, 4, 21, 4]
abbrev dktX2_act_6 : List UInt8 := dkwX2_act_6 ++ dktX2_act_7
def dkwX2_act_5 : List UInt8 := [167, 0, 31, 45, 18, 111, 182, 0, 99, 153, 0, 22, 8, 54, 4, 167, 0, 16, 45, 18, 113, 182, 0, 99]
abbrev dktX2_act_5 : List UInt8 := dkwX2_act_5 ++ dktX2_act_6
def dkwX2_act_4 : List UInt8 := [182, 0, 99, 153, 0, 52, 6, 54, 4, 167, 0, 46, 45, 18, 109, 182, 0, 99, 153, 0, 37, 7, 54, 4]
abbrev dktX2_act_4 : List UInt8 := dkwX2_act_4 ++ dktX2_act_5
def dkwX2_act_3 : List UInt8 := [4, 54, 4, 167, 0, 76, 45, 18, 105, 182, 0, 99, 153, 0, 67, 5, 54, 4, 167, 0, 61, 45, 18, 107]
abbrev dktX2_act_3 : List UInt8 := dkwX2_act_3 ++ dktX2_act_4
def dkwX2_act_2 : List UInt8 := [45, 18, 97, 182, 0, 99, 153, 0, 97, 3, 54, 4, 167, 0, 91, 45, 18, 103, 182, 0, 99, 153, 0, 82]
abbrev dktX2_act_2 : List UInt8 := dkwX2_act_2 ++ dktX2_act_3
def dkwX2_act_1 : List UInt8 := [171, 0, 0, 0, 0, 0, 170, 0, 0, 0, 7, 0, 1, 161, 164, 0, 0, 0, 112, 0, 1, 169, 157, 0, 0, 0, 67, 0, 47, 185, 30, 0, 0, 0, 97, 0, 52, 38, 74, 0, 0, 0, 142, 0, 53, 128, 226, 0, 0, 0, 82, 0, 53, 219, 180, 0, 0, 0, 127, 0, 54, 105, 59, 0, 0, 0, 157]
abbrev dktX2_act_1 : List UInt8 := dkwX2_act_1 ++ dktX2_act_2
def dkwX2_act_0 : List UInt8 := [42, 182, 0, 53, 60, 42, 182, 0, 89, 78, 2, 54, 4, 45, 182, 0, 92]
abbrev dktX2_act_0 : List UInt8 := dkwX2_act_0 ++ dktX2_act_1
theorem dksX2_act_0 : cX2_act.data.toList.drop 0 = dktX2_act_0 := by decide +kernel
theorem dksX2_act_1 : cX2_act.data.toList.drop 17 = dktX2_act_1 := dk_seg dksX2_act_0 17 rfl rfl
theorem dksX2_act_2 : cX2_act.data.toList.drop 84 = dktX2_act_2 := dk_seg dksX2_act_1 67 rfl rfl
theorem dksX2_act_3 : cX2_act.data.toList.drop 108 = dktX2_act_3 := dk_seg dksX2_act_2 24 rfl rfl
theorem dksX2_act_4 : cX2_act.data.toList.drop 132 = dktX2_act_4 := dk_seg dksX2_act_3 24 rfl rfl
theorem dksX2_act_5 : cX2_act.data.toList.drop 156 = dktX2_act_5 := dk_seg dksX2_act_4 24 rfl rfl
theorem dksX2_act_6 : cX2_act.data.toList.drop 180 = dktX2_act_6 := dk_seg dksX2_act_5 24 rfl rfl
theorem dksX2_act_7 : cX2_act.data.toList.drop 189 = dktX2_act_7 := dk_seg dksX2_act_6 9 rfl rfl
theorem dksX2_act_8 : cX2_act.data.toList.drop 232 = dktX2_act_8 := dk_seg dksX2_act_7 43 rfl rfl
theorem dksX2_act_9 : cX2_act.data.toList.drop 254 = dktX2_act_9 := dk_seg dksX2_act_8 22 rfl rfl
theorem dksX2_act_10 : cX2_act.data.toList.drop 276 = dktX2_act_10 := dk_seg dksX2_act_9 22 rfl rfl
theorem dksX2_act_11 : cX2_act.data.toList.drop 299 = dktX2_act_11 := dk_seg dksX2_act_10 23 rfl rfl
theorem dksX2_act_12 : cX2_act.data.toList.drop 323 = dktX2_act_12 := dk_seg dksX2_act_11 24 rfl rfl
theorem dX2_act_0 : decode cX2_act 0 = .ok (.aload_n 0, 1) := dk_42 (dk_at dksX2_act_0 0 rfl rfl)
theorem dX2_act_1 : decode cX2_act 1 = .ok (.invokevirtual 53, 3) := dk_182 0 53 (dk_at dksX2_act_0 1 rfl rfl)
theorem dX2_act_4 : decode cX2_act 4 = .ok (.istore_n 1, 1) := dk_60 (dk_at dksX2_act_0 4 rfl rfl)
theorem dX2_act_5 : decode cX2_act 5 = .ok (.aload_n 0, 1) := dk_42 (dk_at dksX2_act_0 5 rfl rfl)
theorem dX2_act_6 : decode cX2_act 6 = .ok (.invokevirtual 89, 3) := dk_182 0 89 (dk_at dksX2_act_0 6 rfl rfl)
theorem dX2_act_9 : decode cX2_act 9 = .ok (.astore_n 3, 1) := dk_78 (dk_at dksX2_act_0 9 rfl rfl)
theorem dX2_act_10 : decode cX2_act 10 = .ok (.iconst (-1), 1) := dk_2 (dk_at dksX2_act_0 10 rfl rfl)
theorem dX2_act_11 : decode cX2_act 11 = .ok (.istore 4, 2) := dk_54 4 (dk_at dksX2_act_0 11 rfl rfl)
theorem dX2_act_13 : decode cX2_act 13 = .ok (.aload_n 3, 1) := dk_45 (dk_at dksX2_act_0 13 rfl rfl)
theorem dX2_act_14 : decode cX2_act 14 = .ok (.invokevirtual 92, 3) := dk_182 0 92 (dk_at dksX2_act_0 14 rfl rfl)
theorem dX2_act_17 : decode cX2_act 17 = .ok (.lookupswitch 170 #[(106916, 112), (108957, 67), (3127582, 97), (3417674, 142), (3506402, 82), (3529652, 127), (3565883, 157)], 67) := by decide +kernel
theorem dX2_act_84 : decode cX2_act 84 = .ok (.aload_n 3, 1) := dk_45 (dk_at dksX2_act_2 0 rfl rfl)
theorem dX2_act_85 : decode cX2_act 85 = .ok (.ldc 97, 2) := dk_18 97 (dk_at dksX2_act_2 1 rfl rfl)
theorem dX2_act_87 : decode cX2_act 87 = .ok (.invokevirtual 99, 3) := dk_182 0 99 (dk_at dksX2_act_2 3 rfl rfl)
theorem dX2_act_90 : decode cX2_act 90 = .ok (.ifCond .eq 97, 3) := dk_153 0 97 (dk_at dksX2_act_2 6 rfl rfl)
theorem dX2_act_93 : decode cX2_act 93 = .ok (.iconst 0, 1) := dk_3 (dk_at dksX2_act_2 9 rfl rfl)
theorem dX2_act_94 : decode cX2_act 94 = .ok (.istore 4, 2) := dk_54 4 (dk_at dksX2_act_2 10 rfl rfl)
theorem dX2_act_96 : decode cX2_act 96 = .ok (.goto 91, 3) := dk_167 0 91 (dk_at dksX2_act_2 12 rfl rfl)
theorem dX2_act_99 : decode cX2_act 99 = .ok (.aload_n 3, 1) := dk_45 (dk_at dksX2_act_2 15 rfl rfl)
theorem dX2_act_100 : decode cX2_act 100 = .ok (.ldc 103, 2) := dk_18 103 (dk_at dksX2_act_2 16 rfl rfl)
theorem dX2_act_102 : decode cX2_act 102 = .ok (.invokevirtual 99, 3) := dk_182 0 99 (dk_at dksX2_act_2 18 rfl rfl)
theorem dX2_act_105 : decode cX2_act 105 = .ok (.ifCond .eq 82, 3) := dk_153 0 82 (dk_at dksX2_act_2 21 rfl rfl)
theorem dX2_act_108 : decode cX2_act 108 = .ok (.iconst 1, 1) := dk_4 (dk_at dksX2_act_3 0 rfl rfl)
theorem dX2_act_109 : decode cX2_act 109 = .ok (.istore 4, 2) := dk_54 4 (dk_at dksX2_act_3 1 rfl rfl)
theorem dX2_act_111 : decode cX2_act 111 = .ok (.goto 76, 3) := dk_167 0 76 (dk_at dksX2_act_3 3 rfl rfl)
theorem dX2_act_114 : decode cX2_act 114 = .ok (.aload_n 3, 1) := dk_45 (dk_at dksX2_act_3 6 rfl rfl)
theorem dX2_act_115 : decode cX2_act 115 = .ok (.ldc 105, 2) := dk_18 105 (dk_at dksX2_act_3 7 rfl rfl)
theorem dX2_act_117 : decode cX2_act 117 = .ok (.invokevirtual 99, 3) := dk_182 0 99 (dk_at dksX2_act_3 9 rfl rfl)
theorem dX2_act_120 : decode cX2_act 120 = .ok (.ifCond .eq 67, 3) := dk_153 0 67 (dk_at dksX2_act_3 12 rfl rfl)
theorem dX2_act_123 : decode cX2_act 123 = .ok (.iconst 2, 1) := dk_5 (dk_at dksX2_act_3 15 rfl rfl)
theorem dX2_act_124 : decode cX2_act 124 = .ok (.istore 4, 2) := dk_54 4 (dk_at dksX2_act_3 16 rfl rfl)
theorem dX2_act_126 : decode cX2_act 126 = .ok (.goto 61, 3) := dk_167 0 61 (dk_at dksX2_act_3 18 rfl rfl)
theorem dX2_act_129 : decode cX2_act 129 = .ok (.aload_n 3, 1) := dk_45 (dk_at dksX2_act_3 21 rfl rfl)
theorem dX2_act_130 : decode cX2_act 130 = .ok (.ldc 107, 2) := dk_18 107 (dk_at dksX2_act_3 22 rfl rfl)
theorem dX2_act_132 : decode cX2_act 132 = .ok (.invokevirtual 99, 3) := dk_182 0 99 (dk_at dksX2_act_4 0 rfl rfl)
theorem dX2_act_135 : decode cX2_act 135 = .ok (.ifCond .eq 52, 3) := dk_153 0 52 (dk_at dksX2_act_4 3 rfl rfl)
theorem dX2_act_138 : decode cX2_act 138 = .ok (.iconst 3, 1) := dk_6 (dk_at dksX2_act_4 6 rfl rfl)
theorem dX2_act_139 : decode cX2_act 139 = .ok (.istore 4, 2) := dk_54 4 (dk_at dksX2_act_4 7 rfl rfl)
theorem dX2_act_141 : decode cX2_act 141 = .ok (.goto 46, 3) := dk_167 0 46 (dk_at dksX2_act_4 9 rfl rfl)
theorem dX2_act_144 : decode cX2_act 144 = .ok (.aload_n 3, 1) := dk_45 (dk_at dksX2_act_4 12 rfl rfl)
theorem dX2_act_145 : decode cX2_act 145 = .ok (.ldc 109, 2) := dk_18 109 (dk_at dksX2_act_4 13 rfl rfl)
theorem dX2_act_147 : decode cX2_act 147 = .ok (.invokevirtual 99, 3) := dk_182 0 99 (dk_at dksX2_act_4 15 rfl rfl)
theorem dX2_act_150 : decode cX2_act 150 = .ok (.ifCond .eq 37, 3) := dk_153 0 37 (dk_at dksX2_act_4 18 rfl rfl)
theorem dX2_act_153 : decode cX2_act 153 = .ok (.iconst 4, 1) := dk_7 (dk_at dksX2_act_4 21 rfl rfl)
theorem dX2_act_154 : decode cX2_act 154 = .ok (.istore 4, 2) := dk_54 4 (dk_at dksX2_act_4 22 rfl rfl)
theorem dX2_act_156 : decode cX2_act 156 = .ok (.goto 31, 3) := dk_167 0 31 (dk_at dksX2_act_5 0 rfl rfl)
theorem dX2_act_159 : decode cX2_act 159 = .ok (.aload_n 3, 1) := dk_45 (dk_at dksX2_act_5 3 rfl rfl)
theorem dX2_act_160 : decode cX2_act 160 = .ok (.ldc 111, 2) := dk_18 111 (dk_at dksX2_act_5 4 rfl rfl)
theorem dX2_act_162 : decode cX2_act 162 = .ok (.invokevirtual 99, 3) := dk_182 0 99 (dk_at dksX2_act_5 6 rfl rfl)
theorem dX2_act_165 : decode cX2_act 165 = .ok (.ifCond .eq 22, 3) := dk_153 0 22 (dk_at dksX2_act_5 9 rfl rfl)
theorem dX2_act_168 : decode cX2_act 168 = .ok (.iconst 5, 1) := dk_8 (dk_at dksX2_act_5 12 rfl rfl)
theorem dX2_act_169 : decode cX2_act 169 = .ok (.istore 4, 2) := dk_54 4 (dk_at dksX2_act_5 13 rfl rfl)
theorem dX2_act_171 : decode cX2_act 171 = .ok (.goto 16, 3) := dk_167 0 16 (dk_at dksX2_act_5 15 rfl rfl)
theorem dX2_act_174 : decode cX2_act 174 = .ok (.aload_n 3, 1) := dk_45 (dk_at dksX2_act_5 18 rfl rfl)
theorem dX2_act_175 : decode cX2_act 175 = .ok (.ldc 113, 2) := dk_18 113 (dk_at dksX2_act_5 19 rfl rfl)
theorem dX2_act_177 : decode cX2_act 177 = .ok (.invokevirtual 99, 3) := dk_182 0 99 (dk_at dksX2_act_5 21 rfl rfl)
theorem dX2_act_180 : decode cX2_act 180 = .ok (.ifCond .eq 7, 3) := dk_153 0 7 (dk_at dksX2_act_6 0 rfl rfl)
theorem dX2_act_183 : decode cX2_act 183 = .ok (.bipush 6, 2) := dk_16 6 (dk_at dksX2_act_6 3 rfl rfl)
theorem dX2_act_185 : decode cX2_act 185 = .ok (.istore 4, 2) := dk_54 4 (dk_at dksX2_act_6 5 rfl rfl)
theorem dX2_act_187 : decode cX2_act 187 = .ok (.iload 4, 2) := dk_21 4 (dk_at dksX2_act_6 7 rfl rfl)
theorem dX2_act_189 : decode cX2_act 189 = .ok (.tableswitch 116 0 6 #[43, 50, 68, 86, 93, 101, 109], 43) := by decide +kernel
theorem dX2_act_232 : decode cX2_act 232 = .ok (.aload_n 0, 1) := dk_42 (dk_at dksX2_act_8 0 rfl rfl)
theorem dX2_act_233 : decode cX2_act 233 = .ok (.invokevirtual 115, 3) := dk_182 0 115 (dk_at dksX2_act_8 1 rfl rfl)
theorem dX2_act_236 : decode cX2_act 236 = .ok (.goto 70, 3) := dk_167 0 70 (dk_at dksX2_act_8 4 rfl rfl)
theorem dX2_act_239 : decode cX2_act 239 = .ok (.aload_n 0, 1) := dk_42 (dk_at dksX2_act_8 7 rfl rfl)
theorem dX2_act_240 : decode cX2_act 240 = .ok (.getfield 18, 3) := dk_180 0 18 (dk_at dksX2_act_8 8 rfl rfl)
theorem dX2_act_243 : decode cX2_act 243 = .ok (.aload_n 0, 1) := dk_42 (dk_at dksX2_act_8 11 rfl rfl)
theorem dX2_act_244 : decode cX2_act 244 = .ok (.iconst 0, 1) := dk_3 (dk_at dksX2_act_8 12 rfl rfl)
theorem dX2_act_245 : decode cX2_act 245 = .ok (.bipush 15, 2) := dk_16 15 (dk_at dksX2_act_8 13 rfl rfl)
theorem dX2_act_247 : decode cX2_act 247 = .ok (.invokevirtual 71, 3) := dk_182 0 71 (dk_at dksX2_act_8 15 rfl rfl)
theorem dX2_act_250 : decode cX2_act 250 = .ok (.iconst 0, 1) := dk_3 (dk_at dksX2_act_8 18 rfl rfl)
theorem dX2_act_251 : decode cX2_act 251 = .ok (.invokevirtual 118, 3) := dk_182 0 118 (dk_at dksX2_act_8 19 rfl rfl)
theorem dX2_act_254 : decode cX2_act 254 = .ok (.goto 52, 3) := dk_167 0 52 (dk_at dksX2_act_9 0 rfl rfl)
theorem dX2_act_257 : decode cX2_act 257 = .ok (.aload_n 0, 1) := dk_42 (dk_at dksX2_act_9 3 rfl rfl)
theorem dX2_act_258 : decode cX2_act 258 = .ok (.getfield 18, 3) := dk_180 0 18 (dk_at dksX2_act_9 4 rfl rfl)
theorem dX2_act_261 : decode cX2_act 261 = .ok (.aload_n 0, 1) := dk_42 (dk_at dksX2_act_9 7 rfl rfl)
theorem dX2_act_262 : decode cX2_act 262 = .ok (.iconst 0, 1) := dk_3 (dk_at dksX2_act_9 8 rfl rfl)
theorem dX2_act_263 : decode cX2_act 263 = .ok (.bipush 15, 2) := dk_16 15 (dk_at dksX2_act_9 9 rfl rfl)
theorem dX2_act_265 : decode cX2_act 265 = .ok (.invokevirtual 71, 3) := dk_182 0 71 (dk_at dksX2_act_9 11 rfl rfl)
theorem dX2_act_268 : decode cX2_act 268 = .ok (.iconst 1, 1) := dk_4 (dk_at dksX2_act_9 14 rfl rfl)
theorem dX2_act_269 : decode cX2_act 269 = .ok (.invokevirtual 118, 3) := dk_182 0 118 (dk_at dksX2_act_9 15 rfl rfl)
theorem dX2_act_272 : decode cX2_act 272 = .ok (.goto 34, 3) := dk_167 0 34 (dk_at dksX2_act_9 18 rfl rfl)
theorem dX2_act_275 : decode cX2_act 275 = .ok (.aload_n 0, 1) := dk_42 (dk_at dksX2_act_9 21 rfl rfl)
theorem dX2_act_276 : decode cX2_act 276 = .ok (.invokevirtual 122, 3) := dk_182 0 122 (dk_at dksX2_act_10 0 rfl rfl)
theorem dX2_act_279 : decode cX2_act 279 = .ok (.goto 27, 3) := dk_167 0 27 (dk_at dksX2_act_10 3 rfl rfl)
theorem dX2_act_282 : decode cX2_act 282 = .ok (.aload_n 0, 1) := dk_42 (dk_at dksX2_act_10 6 rfl rfl)
theorem dX2_act_283 : decode cX2_act 283 = .ok (.iconst 0, 1) := dk_3 (dk_at dksX2_act_10 7 rfl rfl)
theorem dX2_act_284 : decode cX2_act 284 = .ok (.invokevirtual 125, 3) := dk_182 0 125 (dk_at dksX2_act_10 8 rfl rfl)
theorem dX2_act_287 : decode cX2_act 287 = .ok (.goto 19, 3) := dk_167 0 19 (dk_at dksX2_act_10 11 rfl rfl)
theorem dX2_act_290 : decode cX2_act 290 = .ok (.aload_n 0, 1) := dk_42 (dk_at dksX2_act_10 14 rfl rfl)
theorem dX2_act_291 : decode cX2_act 291 = .ok (.iconst 1, 1) := dk_4 (dk_at dksX2_act_10 15 rfl rfl)
theorem dX2_act_292 : decode cX2_act 292 = .ok (.invokevirtual 125, 3) := dk_182 0 125 (dk_at dksX2_act_10 16 rfl rfl)
theorem dX2_act_295 : decode cX2_act 295 = .ok (.goto 11, 3) := dk_167 0 11 (dk_at dksX2_act_10 19 rfl rfl)
theorem dX2_act_298 : decode cX2_act 298 = .ok (.aload_n 0, 1) := dk_42 (dk_at dksX2_act_10 22 rfl rfl)
theorem dX2_act_299 : decode cX2_act 299 = .ok (.invokevirtual 129, 3) := dk_182 0 129 (dk_at dksX2_act_11 0 rfl rfl)
theorem dX2_act_302 : decode cX2_act 302 = .ok (.goto 4, 3) := dk_167 0 4 (dk_at dksX2_act_11 3 rfl rfl)
theorem dX2_act_305 : decode cX2_act 305 = .ok (.iconst (-1), 1) := dk_2 (dk_at dksX2_act_11 6 rfl rfl)
theorem dX2_act_306 : decode cX2_act 306 = .ok (.istore_n 2, 1) := dk_61 (dk_at dksX2_act_11 7 rfl rfl)
theorem dX2_act_307 : decode cX2_act 307 = .ok (.iload_n 2, 1) := dk_28 (dk_at dksX2_act_11 8 rfl rfl)
theorem dX2_act_308 : decode cX2_act 308 = .ok (.ifCond .ne 4, 3) := dk_154 0 4 (dk_at dksX2_act_11 9 rfl rfl)
theorem dX2_act_311 : decode cX2_act 311 = .ok (.return_, 1) := dk_177 (dk_at dksX2_act_11 12 rfl rfl)
theorem dX2_act_312 : decode cX2_act 312 = .ok (.aload_n 0, 1) := dk_42 (dk_at dksX2_act_11 13 rfl rfl)
theorem dX2_act_313 : decode cX2_act 313 = .ok (.iconst 0, 1) := dk_3 (dk_at dksX2_act_11 14 rfl rfl)
theorem dX2_act_314 : decode cX2_act 314 = .ok (.iload_n 2, 1) := dk_28 (dk_at dksX2_act_11 15 rfl rfl)
theorem dX2_act_315 : decode cX2_act 315 = .ok (.invokestatic 132, 3) := dk_184 0 132 (dk_at dksX2_act_11 16 rfl rfl)
theorem dX2_act_318 : decode cX2_act 318 = .ok (.putfield 79, 3) := dk_181 0 79 (dk_at dksX2_act_11 19 rfl rfl)
theorem dX2_act_321 : decode cX2_act 321 = .ok (.aload_n 0, 1) := dk_42 (dk_at dksX2_act_11 22 rfl rfl)
theorem dX2_act_322 : decode cX2_act 322 = .ok (.iload_n 1, 1) := dk_27 (dk_at dksX2_act_11 23 rfl rfl)
theorem dX2_act_323 : decode cX2_act 323 = .ok (.invokevirtual 64, 3) := dk_182 0 64 (dk_at dksX2_act_12 0 rfl rfl)
theorem dX2_act_326 : decode cX2_act 326 = .ok (.return_, 1) := dk_177 (dk_at dksX2_act_12 3 rfl rfl)
abbrev cX2_word : ByteArray := prog_6_method_5_code
def yX2_word : MethodName := ⟨RX2, "word", "()Ljava/lang/String;"⟩
def dkwX2_word_3 : List UInt8 := [182, 0, 60, 176]
abbrev dktX2_word_3 : List UInt8 := dkwX2_word_3 ++ []
def dkwX2_word_2 : List UInt8 := [180, 0, 9, 28, 51, 146, 182, 0, 56, 87, 132, 2, 1, 167, 255, 211, 42, 28, 181, 0, 40, 43]
abbrev dktX2_word_2 : List UInt8 := dkwX2_word_2 ++ dktX2_word_3
def dkwX2_word_1 : List UInt8 := [180, 0, 9, 28, 51, 16, 97, 161, 0, 32, 42, 180, 0, 9, 28, 51, 16, 122, 163, 0, 21, 43, 42]
abbrev dktX2_word_1 : List UInt8 := dkwX2_word_1 ++ dktX2_word_2
def dkwX2_word_0 : List UInt8 := [187, 0, 50, 89, 183, 0, 52, 76, 42, 182, 0, 53, 61, 28, 42, 180, 0, 43, 162, 0, 43, 42]
abbrev dktX2_word_0 : List UInt8 := dkwX2_word_0 ++ dktX2_word_1
theorem dksX2_word_0 : cX2_word.data.toList.drop 0 = dktX2_word_0 := by decide +kernel
theorem dksX2_word_1 : cX2_word.data.toList.drop 22 = dktX2_word_1 := dk_seg dksX2_word_0 22 rfl rfl
theorem dksX2_word_2 : cX2_word.data.toList.drop 45 = dktX2_word_2 := dk_seg dksX2_word_1 23 rfl rfl
theorem dksX2_word_3 : cX2_word.data.toList.drop 67 = dktX2_word_3 := dk_seg dksX2_word_2 22 rfl rfl
theorem dX2_word_0 : decode cX2_word 0 = .ok (.new 50, 3) := dk_187 0 50 (dk_at dksX2_word_0 0 rfl rfl)
theorem dX2_word_3 : decode cX2_word 3 = .ok (.dup, 1) := dk_89 (dk_at dksX2_word_0 3 rfl rfl)
theorem dX2_word_4 : decode cX2_word 4 = .ok (.invokespecial 52, 3) := dk_183 0 52 (dk_at dksX2_word_0 4 rfl rfl)
theorem dX2_word_7 : decode cX2_word 7 = .ok (.astore_n 1, 1) := dk_76 (dk_at dksX2_word_0 7 rfl rfl)
theorem dX2_word_8 : decode cX2_word 8 = .ok (.aload_n 0, 1) := dk_42 (dk_at dksX2_word_0 8 rfl rfl)
theorem dX2_word_9 : decode cX2_word 9 = .ok (.invokevirtual 53, 3) := dk_182 0 53 (dk_at dksX2_word_0 9 rfl rfl)
theorem dX2_word_12 : decode cX2_word 12 = .ok (.istore_n 2, 1) := dk_61 (dk_at dksX2_word_0 12 rfl rfl)
theorem dX2_word_13 : decode cX2_word 13 = .ok (.iload_n 2, 1) := dk_28 (dk_at dksX2_word_0 13 rfl rfl)
theorem dX2_word_14 : decode cX2_word 14 = .ok (.aload_n 0, 1) := dk_42 (dk_at dksX2_word_0 14 rfl rfl)
theorem dX2_word_15 : decode cX2_word 15 = .ok (.getfield 43, 3) := dk_180 0 43 (dk_at dksX2_word_0 15 rfl rfl)
theorem dX2_word_18 : decode cX2_word 18 = .ok (.if_icmp .ge 43, 3) := dk_162 0 43 (dk_at dksX2_word_0 18 rfl rfl)
theorem dX2_word_21 : decode cX2_word 21 = .ok (.aload_n 0, 1) := dk_42 (dk_at dksX2_word_0 21 rfl rfl)
theorem dX2_word_22 : decode cX2_word 22 = .ok (.getfield 9, 3) := dk_180 0 9 (dk_at dksX2_word_1 0 rfl rfl)
theorem dX2_word_25 : decode cX2_word 25 = .ok (.iload_n 2, 1) := dk_28 (dk_at dksX2_word_1 3 rfl rfl)
theorem dX2_word_26 : decode cX2_word 26 = .ok (.baload, 1) := dk_51 (dk_at dksX2_word_1 4 rfl rfl)
theorem dX2_word_27 : decode cX2_word 27 = .ok (.bipush 97, 2) := dk_16 97 (dk_at dksX2_word_1 5 rfl rfl)
theorem dX2_word_29 : decode cX2_word 29 = .ok (.if_icmp .lt 32, 3) := dk_161 0 32 (dk_at dksX2_word_1 7 rfl rfl)
theorem dX2_word_32 : decode cX2_word 32 = .ok (.aload_n 0, 1) := dk_42 (dk_at dksX2_word_1 10 rfl rfl)
theorem dX2_word_33 : decode cX2_word 33 = .ok (.getfield 9, 3) := dk_180 0 9 (dk_at dksX2_word_1 11 rfl rfl)
theorem dX2_word_36 : decode cX2_word 36 = .ok (.iload_n 2, 1) := dk_28 (dk_at dksX2_word_1 14 rfl rfl)
theorem dX2_word_37 : decode cX2_word 37 = .ok (.baload, 1) := dk_51 (dk_at dksX2_word_1 15 rfl rfl)
theorem dX2_word_38 : decode cX2_word 38 = .ok (.bipush 122, 2) := dk_16 122 (dk_at dksX2_word_1 16 rfl rfl)
theorem dX2_word_40 : decode cX2_word 40 = .ok (.if_icmp .gt 21, 3) := dk_163 0 21 (dk_at dksX2_word_1 18 rfl rfl)
theorem dX2_word_43 : decode cX2_word 43 = .ok (.aload_n 1, 1) := dk_43 (dk_at dksX2_word_1 21 rfl rfl)
theorem dX2_word_44 : decode cX2_word 44 = .ok (.aload_n 0, 1) := dk_42 (dk_at dksX2_word_1 22 rfl rfl)
theorem dX2_word_45 : decode cX2_word 45 = .ok (.getfield 9, 3) := dk_180 0 9 (dk_at dksX2_word_2 0 rfl rfl)
theorem dX2_word_48 : decode cX2_word 48 = .ok (.iload_n 2, 1) := dk_28 (dk_at dksX2_word_2 3 rfl rfl)
theorem dX2_word_49 : decode cX2_word 49 = .ok (.baload, 1) := dk_51 (dk_at dksX2_word_2 4 rfl rfl)
theorem dX2_word_50 : decode cX2_word 50 = .ok (.i2c, 1) := dk_146 (dk_at dksX2_word_2 5 rfl rfl)
theorem dX2_word_51 : decode cX2_word 51 = .ok (.invokevirtual 56, 3) := dk_182 0 56 (dk_at dksX2_word_2 6 rfl rfl)
theorem dX2_word_54 : decode cX2_word 54 = .ok (.pop, 1) := dk_87 (dk_at dksX2_word_2 9 rfl rfl)
theorem dX2_word_55 : decode cX2_word 55 = .ok (.iinc 2 1, 3) := dk_132 2 1 (dk_at dksX2_word_2 10 rfl rfl)
theorem dX2_word_58 : decode cX2_word 58 = .ok (.goto (-45), 3) := dk_167 255 211 (dk_at dksX2_word_2 13 rfl rfl)
theorem dX2_word_61 : decode cX2_word 61 = .ok (.aload_n 0, 1) := dk_42 (dk_at dksX2_word_2 16 rfl rfl)
theorem dX2_word_62 : decode cX2_word 62 = .ok (.iload_n 2, 1) := dk_28 (dk_at dksX2_word_2 17 rfl rfl)
theorem dX2_word_63 : decode cX2_word 63 = .ok (.putfield 40, 3) := dk_181 0 40 (dk_at dksX2_word_2 18 rfl rfl)
theorem dX2_word_66 : decode cX2_word 66 = .ok (.aload_n 1, 1) := dk_43 (dk_at dksX2_word_2 21 rfl rfl)
theorem dX2_word_67 : decode cX2_word 67 = .ok (.invokevirtual 60, 3) := dk_182 0 60 (dk_at dksX2_word_3 0 rfl rfl)
theorem dX2_word_70 : decode cX2_word 70 = .ok (.areturn, 1) := dk_176 (dk_at dksX2_word_3 3 rfl rfl)
abbrev cX2_anew : ByteArray := prog_6_method_11_code
def yX2_anew : MethodName := ⟨RX2, "anew", "()I"⟩
def dkwX2_anew_0 : List UInt8 := [42, 180, 0, 18, 42, 5, 16, 16, 182, 0, 71, 182, 0, 137, 76, 3, 172]
abbrev dktX2_anew_0 : List UInt8 := dkwX2_anew_0 ++ []
theorem dksX2_anew_0 : cX2_anew.data.toList.drop 0 = dktX2_anew_0 := by decide +kernel
theorem dX2_anew_0 : decode cX2_anew 0 = .ok (.aload_n 0, 1) := dk_42 (dk_at dksX2_anew_0 0 rfl rfl)
theorem dX2_anew_1 : decode cX2_anew 1 = .ok (.getfield 18, 3) := dk_180 0 18 (dk_at dksX2_anew_0 1 rfl rfl)
theorem dX2_anew_4 : decode cX2_anew 4 = .ok (.aload_n 0, 1) := dk_42 (dk_at dksX2_anew_0 4 rfl rfl)
theorem dX2_anew_5 : decode cX2_anew 5 = .ok (.iconst 2, 1) := dk_5 (dk_at dksX2_anew_0 5 rfl rfl)
theorem dX2_anew_6 : decode cX2_anew 6 = .ok (.bipush 16, 2) := dk_16 16 (dk_at dksX2_anew_0 6 rfl rfl)
theorem dX2_anew_8 : decode cX2_anew 8 = .ok (.invokevirtual 71, 3) := dk_182 0 71 (dk_at dksX2_anew_0 8 rfl rfl)
theorem dX2_anew_11 : decode cX2_anew 11 = .ok (.invokevirtual 137, 3) := dk_182 0 137 (dk_at dksX2_anew_0 11 rfl rfl)
theorem dX2_anew_14 : decode cX2_anew 14 = .ok (.astore_n 1, 1) := dk_76 (dk_at dksX2_anew_0 14 rfl rfl)
theorem dX2_anew_15 : decode cX2_anew 15 = .ok (.iconst 0, 1) := dk_3 (dk_at dksX2_anew_0 15 rfl rfl)
theorem dX2_anew_16 : decode cX2_anew 16 = .ok (.ireturn, 1) := dk_172 (dk_at dksX2_anew_0 16 rfl rfl)
abbrev cX2_number : ByteArray := prog_6_method_6_code
def yX2_number : MethodName := ⟨RX2, "number", "(II)I"⟩
def dkwX2_number_5 : List UInt8 := [21, 4, 172]
abbrev dktX2_number_5 : List UInt8 := dkwX2_number_5 ++ []
def dkwX2_number_4 : List UInt8 := [180, 0, 40, 29, 159, 0, 15, 21, 4, 27, 161, 0, 9, 21, 4, 28, 164, 0, 8, 42, 29, 182, 0, 64]
abbrev dktX2_number_4 : List UInt8 := dkwX2_number_4 ++ dktX2_number_5
def dkwX2_number_3 : List UInt8 := [180, 0, 40, 51, 96, 16, 48, 100, 54, 4, 42, 89, 180, 0, 40, 4, 96, 181, 0, 40, 167, 255, 172, 42]
abbrev dktX2_number_3 : List UInt8 := dkwX2_number_3 ++ dktX2_number_4
def dkwX2_number_2 : List UInt8 := [180, 0, 40, 29, 100, 5, 160, 0, 8, 42, 29, 182, 0, 64, 16, 10, 21, 4, 104, 42, 180, 0, 9, 42]
abbrev dktX2_number_2 : List UInt8 := dkwX2_number_2 ++ dktX2_number_3
def dkwX2_number_1 : List UInt8 := [180, 0, 40, 51, 16, 48, 161, 0, 65, 42, 180, 0, 9, 42, 180, 0, 40, 51, 16, 57, 163, 0, 51, 42]
abbrev dktX2_number_1 : List UInt8 := dkwX2_number_1 ++ dktX2_number_2
def dkwX2_number_0 : List UInt8 := [42, 182, 0, 53, 62, 3, 54, 4, 42, 180, 0, 40, 42, 180, 0, 43, 162, 0, 79, 42, 180, 0, 9, 42]
abbrev dktX2_number_0 : List UInt8 := dkwX2_number_0 ++ dktX2_number_1
theorem dksX2_number_0 : cX2_number.data.toList.drop 0 = dktX2_number_0 := by decide +kernel
theorem dksX2_number_1 : cX2_number.data.toList.drop 24 = dktX2_number_1 := dk_seg dksX2_number_0 24 rfl rfl
theorem dksX2_number_2 : cX2_number.data.toList.drop 48 = dktX2_number_2 := dk_seg dksX2_number_1 24 rfl rfl
theorem dksX2_number_3 : cX2_number.data.toList.drop 72 = dktX2_number_3 := dk_seg dksX2_number_2 24 rfl rfl
theorem dksX2_number_4 : cX2_number.data.toList.drop 96 = dktX2_number_4 := dk_seg dksX2_number_3 24 rfl rfl
theorem dksX2_number_5 : cX2_number.data.toList.drop 120 = dktX2_number_5 := dk_seg dksX2_number_4 24 rfl rfl
theorem dX2_number_0 : decode cX2_number 0 = .ok (.aload_n 0, 1) := dk_42 (dk_at dksX2_number_0 0 rfl rfl)
theorem dX2_number_1 : decode cX2_number 1 = .ok (.invokevirtual 53, 3) := dk_182 0 53 (dk_at dksX2_number_0 1 rfl rfl)
theorem dX2_number_4 : decode cX2_number 4 = .ok (.istore_n 3, 1) := dk_62 (dk_at dksX2_number_0 4 rfl rfl)
theorem dX2_number_5 : decode cX2_number 5 = .ok (.iconst 0, 1) := dk_3 (dk_at dksX2_number_0 5 rfl rfl)
theorem dX2_number_6 : decode cX2_number 6 = .ok (.istore 4, 2) := dk_54 4 (dk_at dksX2_number_0 6 rfl rfl)
theorem dX2_number_8 : decode cX2_number 8 = .ok (.aload_n 0, 1) := dk_42 (dk_at dksX2_number_0 8 rfl rfl)
theorem dX2_number_9 : decode cX2_number 9 = .ok (.getfield 40, 3) := dk_180 0 40 (dk_at dksX2_number_0 9 rfl rfl)
theorem dX2_number_12 : decode cX2_number 12 = .ok (.aload_n 0, 1) := dk_42 (dk_at dksX2_number_0 12 rfl rfl)
theorem dX2_number_13 : decode cX2_number 13 = .ok (.getfield 43, 3) := dk_180 0 43 (dk_at dksX2_number_0 13 rfl rfl)
theorem dX2_number_16 : decode cX2_number 16 = .ok (.if_icmp .ge 79, 3) := dk_162 0 79 (dk_at dksX2_number_0 16 rfl rfl)
theorem dX2_number_19 : decode cX2_number 19 = .ok (.aload_n 0, 1) := dk_42 (dk_at dksX2_number_0 19 rfl rfl)
theorem dX2_number_20 : decode cX2_number 20 = .ok (.getfield 9, 3) := dk_180 0 9 (dk_at dksX2_number_0 20 rfl rfl)
theorem dX2_number_23 : decode cX2_number 23 = .ok (.aload_n 0, 1) := dk_42 (dk_at dksX2_number_0 23 rfl rfl)
theorem dX2_number_24 : decode cX2_number 24 = .ok (.getfield 40, 3) := dk_180 0 40 (dk_at dksX2_number_1 0 rfl rfl)
theorem dX2_number_27 : decode cX2_number 27 = .ok (.baload, 1) := dk_51 (dk_at dksX2_number_1 3 rfl rfl)
theorem dX2_number_28 : decode cX2_number 28 = .ok (.bipush 48, 2) := dk_16 48 (dk_at dksX2_number_1 4 rfl rfl)
theorem dX2_number_30 : decode cX2_number 30 = .ok (.if_icmp .lt 65, 3) := dk_161 0 65 (dk_at dksX2_number_1 6 rfl rfl)
theorem dX2_number_33 : decode cX2_number 33 = .ok (.aload_n 0, 1) := dk_42 (dk_at dksX2_number_1 9 rfl rfl)
theorem dX2_number_34 : decode cX2_number 34 = .ok (.getfield 9, 3) := dk_180 0 9 (dk_at dksX2_number_1 10 rfl rfl)
theorem dX2_number_37 : decode cX2_number 37 = .ok (.aload_n 0, 1) := dk_42 (dk_at dksX2_number_1 13 rfl rfl)
theorem dX2_number_38 : decode cX2_number 38 = .ok (.getfield 40, 3) := dk_180 0 40 (dk_at dksX2_number_1 14 rfl rfl)
theorem dX2_number_41 : decode cX2_number 41 = .ok (.baload, 1) := dk_51 (dk_at dksX2_number_1 17 rfl rfl)
theorem dX2_number_42 : decode cX2_number 42 = .ok (.bipush 57, 2) := dk_16 57 (dk_at dksX2_number_1 18 rfl rfl)
theorem dX2_number_44 : decode cX2_number 44 = .ok (.if_icmp .gt 51, 3) := dk_163 0 51 (dk_at dksX2_number_1 20 rfl rfl)
theorem dX2_number_47 : decode cX2_number 47 = .ok (.aload_n 0, 1) := dk_42 (dk_at dksX2_number_1 23 rfl rfl)
theorem dX2_number_48 : decode cX2_number 48 = .ok (.getfield 40, 3) := dk_180 0 40 (dk_at dksX2_number_2 0 rfl rfl)
theorem dX2_number_51 : decode cX2_number 51 = .ok (.iload_n 3, 1) := dk_29 (dk_at dksX2_number_2 3 rfl rfl)
theorem dX2_number_52 : decode cX2_number 52 = .ok (.isub, 1) := dk_100 (dk_at dksX2_number_2 4 rfl rfl)
theorem dX2_number_53 : decode cX2_number 53 = .ok (.iconst 2, 1) := dk_5 (dk_at dksX2_number_2 5 rfl rfl)
theorem dX2_number_54 : decode cX2_number 54 = .ok (.if_icmp .ne 8, 3) := dk_160 0 8 (dk_at dksX2_number_2 6 rfl rfl)
theorem dX2_number_57 : decode cX2_number 57 = .ok (.aload_n 0, 1) := dk_42 (dk_at dksX2_number_2 9 rfl rfl)
theorem dX2_number_58 : decode cX2_number 58 = .ok (.iload_n 3, 1) := dk_29 (dk_at dksX2_number_2 10 rfl rfl)
theorem dX2_number_59 : decode cX2_number 59 = .ok (.invokevirtual 64, 3) := dk_182 0 64 (dk_at dksX2_number_2 11 rfl rfl)
theorem dX2_number_62 : decode cX2_number 62 = .ok (.bipush 10, 2) := dk_16 10 (dk_at dksX2_number_2 14 rfl rfl)
theorem dX2_number_64 : decode cX2_number 64 = .ok (.iload 4, 2) := dk_21 4 (dk_at dksX2_number_2 16 rfl rfl)
theorem dX2_number_66 : decode cX2_number 66 = .ok (.imul, 1) := dk_104 (dk_at dksX2_number_2 18 rfl rfl)
theorem dX2_number_67 : decode cX2_number 67 = .ok (.aload_n 0, 1) := dk_42 (dk_at dksX2_number_2 19 rfl rfl)
theorem dX2_number_68 : decode cX2_number 68 = .ok (.getfield 9, 3) := dk_180 0 9 (dk_at dksX2_number_2 20 rfl rfl)
theorem dX2_number_71 : decode cX2_number 71 = .ok (.aload_n 0, 1) := dk_42 (dk_at dksX2_number_2 23 rfl rfl)
theorem dX2_number_72 : decode cX2_number 72 = .ok (.getfield 40, 3) := dk_180 0 40 (dk_at dksX2_number_3 0 rfl rfl)
theorem dX2_number_75 : decode cX2_number 75 = .ok (.baload, 1) := dk_51 (dk_at dksX2_number_3 3 rfl rfl)
theorem dX2_number_76 : decode cX2_number 76 = .ok (.iadd, 1) := dk_96 (dk_at dksX2_number_3 4 rfl rfl)
theorem dX2_number_77 : decode cX2_number 77 = .ok (.bipush 48, 2) := dk_16 48 (dk_at dksX2_number_3 5 rfl rfl)
theorem dX2_number_79 : decode cX2_number 79 = .ok (.isub, 1) := dk_100 (dk_at dksX2_number_3 7 rfl rfl)
theorem dX2_number_80 : decode cX2_number 80 = .ok (.istore 4, 2) := dk_54 4 (dk_at dksX2_number_3 8 rfl rfl)
theorem dX2_number_82 : decode cX2_number 82 = .ok (.aload_n 0, 1) := dk_42 (dk_at dksX2_number_3 10 rfl rfl)
theorem dX2_number_83 : decode cX2_number 83 = .ok (.dup, 1) := dk_89 (dk_at dksX2_number_3 11 rfl rfl)
theorem dX2_number_84 : decode cX2_number 84 = .ok (.getfield 40, 3) := dk_180 0 40 (dk_at dksX2_number_3 12 rfl rfl)
theorem dX2_number_87 : decode cX2_number 87 = .ok (.iconst 1, 1) := dk_4 (dk_at dksX2_number_3 15 rfl rfl)
theorem dX2_number_88 : decode cX2_number 88 = .ok (.iadd, 1) := dk_96 (dk_at dksX2_number_3 16 rfl rfl)
theorem dX2_number_89 : decode cX2_number 89 = .ok (.putfield 40, 3) := dk_181 0 40 (dk_at dksX2_number_3 17 rfl rfl)
theorem dX2_number_92 : decode cX2_number 92 = .ok (.goto (-84), 3) := dk_167 255 172 (dk_at dksX2_number_3 20 rfl rfl)
theorem dX2_number_95 : decode cX2_number 95 = .ok (.aload_n 0, 1) := dk_42 (dk_at dksX2_number_3 23 rfl rfl)
theorem dX2_number_96 : decode cX2_number 96 = .ok (.getfield 40, 3) := dk_180 0 40 (dk_at dksX2_number_4 0 rfl rfl)
theorem dX2_number_99 : decode cX2_number 99 = .ok (.iload_n 3, 1) := dk_29 (dk_at dksX2_number_4 3 rfl rfl)
theorem dX2_number_100 : decode cX2_number 100 = .ok (.if_icmp .eq 15, 3) := dk_159 0 15 (dk_at dksX2_number_4 4 rfl rfl)
theorem dX2_number_103 : decode cX2_number 103 = .ok (.iload 4, 2) := dk_21 4 (dk_at dksX2_number_4 7 rfl rfl)
theorem dX2_number_105 : decode cX2_number 105 = .ok (.iload_n 1, 1) := dk_27 (dk_at dksX2_number_4 9 rfl rfl)
theorem dX2_number_106 : decode cX2_number 106 = .ok (.if_icmp .lt 9, 3) := dk_161 0 9 (dk_at dksX2_number_4 10 rfl rfl)
theorem dX2_number_109 : decode cX2_number 109 = .ok (.iload 4, 2) := dk_21 4 (dk_at dksX2_number_4 13 rfl rfl)
theorem dX2_number_111 : decode cX2_number 111 = .ok (.iload_n 2, 1) := dk_28 (dk_at dksX2_number_4 15 rfl rfl)
theorem dX2_number_112 : decode cX2_number 112 = .ok (.if_icmp .le 8, 3) := dk_164 0 8 (dk_at dksX2_number_4 16 rfl rfl)
theorem dX2_number_115 : decode cX2_number 115 = .ok (.aload_n 0, 1) := dk_42 (dk_at dksX2_number_4 19 rfl rfl)
theorem dX2_number_116 : decode cX2_number 116 = .ok (.iload_n 3, 1) := dk_29 (dk_at dksX2_number_4 20 rfl rfl)
theorem dX2_number_117 : decode cX2_number 117 = .ok (.invokevirtual 64, 3) := dk_182 0 64 (dk_at dksX2_number_4 21 rfl rfl)
theorem dX2_number_120 : decode cX2_number 120 = .ok (.iload 4, 2) := dk_21 4 (dk_at dksX2_number_5 0 rfl rfl)
theorem dX2_number_122 : decode cX2_number 122 = .ok (.ireturn, 1) := dk_172 (dk_at dksX2_number_5 2 rfl rfl)
abbrev cX2_lays : ByteArray := prog_6_method_13_code
def yX2_lays : MethodName := ⟨RX2, "lays", "()I"⟩
def dkwX2_lays_2 : List UInt8 := [167, 255, 221, 27, 172]
abbrev dktX2_lays_2 : List UInt8 := dkwX2_lays_2 ++ []
def dkwX2_lays_1 : List UInt8 := [180, 0, 18, 42, 180, 0, 29, 28, 46, 42, 180, 0, 33, 28, 46, 182, 0, 147, 60, 132, 2, 1]
abbrev dktX2_lays_1 : List UInt8 := dkwX2_lays_1 ++ dktX2_lays_2
def dkwX2_lays_0 : List UInt8 := [42, 16, 15, 4, 182, 0, 143, 3, 60, 3, 61, 28, 42, 180, 0, 68, 162, 0, 33, 27, 154, 0, 29, 42]
abbrev dktX2_lays_0 : List UInt8 := dkwX2_lays_0 ++ dktX2_lays_1
theorem dksX2_lays_0 : cX2_lays.data.toList.drop 0 = dktX2_lays_0 := by decide +kernel
theorem dksX2_lays_1 : cX2_lays.data.toList.drop 24 = dktX2_lays_1 := dk_seg dksX2_lays_0 24 rfl rfl
theorem dksX2_lays_2 : cX2_lays.data.toList.drop 46 = dktX2_lays_2 := dk_seg dksX2_lays_1 22 rfl rfl
theorem dX2_lays_0 : decode cX2_lays 0 = .ok (.aload_n 0, 1) := dk_42 (dk_at dksX2_lays_0 0 rfl rfl)
theorem dX2_lays_1 : decode cX2_lays 1 = .ok (.bipush 15, 2) := dk_16 15 (dk_at dksX2_lays_0 1 rfl rfl)
theorem dX2_lays_3 : decode cX2_lays 3 = .ok (.iconst 1, 1) := dk_4 (dk_at dksX2_lays_0 3 rfl rfl)
theorem dX2_lays_4 : decode cX2_lays 4 = .ok (.invokevirtual 143, 3) := dk_182 0 143 (dk_at dksX2_lays_0 4 rfl rfl)
theorem dX2_lays_7 : decode cX2_lays 7 = .ok (.iconst 0, 1) := dk_3 (dk_at dksX2_lays_0 7 rfl rfl)
theorem dX2_lays_8 : decode cX2_lays 8 = .ok (.istore_n 1, 1) := dk_60 (dk_at dksX2_lays_0 8 rfl rfl)
theorem dX2_lays_9 : decode cX2_lays 9 = .ok (.iconst 0, 1) := dk_3 (dk_at dksX2_lays_0 9 rfl rfl)
theorem dX2_lays_10 : decode cX2_lays 10 = .ok (.istore_n 2, 1) := dk_61 (dk_at dksX2_lays_0 10 rfl rfl)
theorem dX2_lays_11 : decode cX2_lays 11 = .ok (.iload_n 2, 1) := dk_28 (dk_at dksX2_lays_0 11 rfl rfl)
theorem dX2_lays_12 : decode cX2_lays 12 = .ok (.aload_n 0, 1) := dk_42 (dk_at dksX2_lays_0 12 rfl rfl)
theorem dX2_lays_13 : decode cX2_lays 13 = .ok (.getfield 68, 3) := dk_180 0 68 (dk_at dksX2_lays_0 13 rfl rfl)
theorem dX2_lays_16 : decode cX2_lays 16 = .ok (.if_icmp .ge 33, 3) := dk_162 0 33 (dk_at dksX2_lays_0 16 rfl rfl)
theorem dX2_lays_19 : decode cX2_lays 19 = .ok (.iload_n 1, 1) := dk_27 (dk_at dksX2_lays_0 19 rfl rfl)
theorem dX2_lays_20 : decode cX2_lays 20 = .ok (.ifCond .ne 29, 3) := dk_154 0 29 (dk_at dksX2_lays_0 20 rfl rfl)
theorem dX2_lays_23 : decode cX2_lays 23 = .ok (.aload_n 0, 1) := dk_42 (dk_at dksX2_lays_0 23 rfl rfl)
theorem dX2_lays_24 : decode cX2_lays 24 = .ok (.getfield 18, 3) := dk_180 0 18 (dk_at dksX2_lays_1 0 rfl rfl)
theorem dX2_lays_27 : decode cX2_lays 27 = .ok (.aload_n 0, 1) := dk_42 (dk_at dksX2_lays_1 3 rfl rfl)
theorem dX2_lays_28 : decode cX2_lays 28 = .ok (.getfield 29, 3) := dk_180 0 29 (dk_at dksX2_lays_1 4 rfl rfl)
theorem dX2_lays_31 : decode cX2_lays 31 = .ok (.iload_n 2, 1) := dk_28 (dk_at dksX2_lays_1 7 rfl rfl)
theorem dX2_lays_32 : decode cX2_lays 32 = .ok (.iaload, 1) := dk_46 (dk_at dksX2_lays_1 8 rfl rfl)
theorem dX2_lays_33 : decode cX2_lays 33 = .ok (.aload_n 0, 1) := dk_42 (dk_at dksX2_lays_1 9 rfl rfl)
theorem dX2_lays_34 : decode cX2_lays 34 = .ok (.getfield 33, 3) := dk_180 0 33 (dk_at dksX2_lays_1 10 rfl rfl)
theorem dX2_lays_37 : decode cX2_lays 37 = .ok (.iload_n 2, 1) := dk_28 (dk_at dksX2_lays_1 13 rfl rfl)
theorem dX2_lays_38 : decode cX2_lays 38 = .ok (.iaload, 1) := dk_46 (dk_at dksX2_lays_1 14 rfl rfl)
theorem dX2_lays_39 : decode cX2_lays 39 = .ok (.invokevirtual 147, 3) := dk_182 0 147 (dk_at dksX2_lays_1 15 rfl rfl)
theorem dX2_lays_42 : decode cX2_lays 42 = .ok (.istore_n 1, 1) := dk_60 (dk_at dksX2_lays_1 18 rfl rfl)
theorem dX2_lays_43 : decode cX2_lays 43 = .ok (.iinc 2 1, 3) := dk_132 2 1 (dk_at dksX2_lays_1 19 rfl rfl)
theorem dX2_lays_46 : decode cX2_lays 46 = .ok (.goto (-35), 3) := dk_167 255 221 (dk_at dksX2_lays_2 0 rfl rfl)
theorem dX2_lays_49 : decode cX2_lays 49 = .ok (.iload_n 1, 1) := dk_27 (dk_at dksX2_lays_2 3 rfl rfl)
theorem dX2_lays_50 : decode cX2_lays 50 = .ok (.ireturn, 1) := dk_172 (dk_at dksX2_lays_2 4 rfl rfl)
abbrev cX2_list : ByteArray := prog_6_method_8_code
def yX2_list : MethodName := ⟨RX2, "list", "(IZ)V"⟩
def dkwX2_list_2 : List UInt8 := [4, 96, 181, 0, 68, 42, 16, 44, 182, 0, 75, 154, 255, 202, 177]
abbrev dktX2_list_2 : List UInt8 := dkwX2_list_2 ++ []
def dkwX2_list_1 : List UInt8 := [42, 180, 0, 68, 28, 153, 0, 12, 42, 3, 27, 182, 0, 71, 167, 0, 4, 3, 79, 42, 89, 180, 0, 68]
abbrev dktX2_list_1 : List UInt8 := dkwX2_list_1 ++ dktX2_list_2
def dkwX2_list_0 : List UInt8 := [42, 3, 181, 0, 68, 42, 180, 0, 29, 42, 180, 0, 68, 42, 3, 27, 182, 0, 71, 79, 42, 180, 0, 33]
abbrev dktX2_list_0 : List UInt8 := dkwX2_list_0 ++ dktX2_list_1
theorem dksX2_list_0 : cX2_list.data.toList.drop 0 = dktX2_list_0 := by decide +kernel
theorem dksX2_list_1 : cX2_list.data.toList.drop 24 = dktX2_list_1 := dk_seg dksX2_list_0 24 rfl rfl
theorem dksX2_list_2 : cX2_list.data.toList.drop 48 = dktX2_list_2 := dk_seg dksX2_list_1 24 rfl rfl
theorem dX2_list_0 : decode cX2_list 0 = .ok (.aload_n 0, 1) := dk_42 (dk_at dksX2_list_0 0 rfl rfl)
theorem dX2_list_1 : decode cX2_list 1 = .ok (.iconst 0, 1) := dk_3 (dk_at dksX2_list_0 1 rfl rfl)
theorem dX2_list_2 : decode cX2_list 2 = .ok (.putfield 68, 3) := dk_181 0 68 (dk_at dksX2_list_0 2 rfl rfl)
theorem dX2_list_5 : decode cX2_list 5 = .ok (.aload_n 0, 1) := dk_42 (dk_at dksX2_list_0 5 rfl rfl)
theorem dX2_list_6 : decode cX2_list 6 = .ok (.getfield 29, 3) := dk_180 0 29 (dk_at dksX2_list_0 6 rfl rfl)
theorem dX2_list_9 : decode cX2_list 9 = .ok (.aload_n 0, 1) := dk_42 (dk_at dksX2_list_0 9 rfl rfl)
theorem dX2_list_10 : decode cX2_list 10 = .ok (.getfield 68, 3) := dk_180 0 68 (dk_at dksX2_list_0 10 rfl rfl)
theorem dX2_list_13 : decode cX2_list 13 = .ok (.aload_n 0, 1) := dk_42 (dk_at dksX2_list_0 13 rfl rfl)
theorem dX2_list_14 : decode cX2_list 14 = .ok (.iconst 0, 1) := dk_3 (dk_at dksX2_list_0 14 rfl rfl)
theorem dX2_list_15 : decode cX2_list 15 = .ok (.iload_n 1, 1) := dk_27 (dk_at dksX2_list_0 15 rfl rfl)
theorem dX2_list_16 : decode cX2_list 16 = .ok (.invokevirtual 71, 3) := dk_182 0 71 (dk_at dksX2_list_0 16 rfl rfl)
theorem dX2_list_19 : decode cX2_list 19 = .ok (.iastore, 1) := dk_79 (dk_at dksX2_list_0 19 rfl rfl)
theorem dX2_list_20 : decode cX2_list 20 = .ok (.aload_n 0, 1) := dk_42 (dk_at dksX2_list_0 20 rfl rfl)
theorem dX2_list_21 : decode cX2_list 21 = .ok (.getfield 33, 3) := dk_180 0 33 (dk_at dksX2_list_0 21 rfl rfl)
theorem dX2_list_24 : decode cX2_list 24 = .ok (.aload_n 0, 1) := dk_42 (dk_at dksX2_list_1 0 rfl rfl)
theorem dX2_list_25 : decode cX2_list 25 = .ok (.getfield 68, 3) := dk_180 0 68 (dk_at dksX2_list_1 1 rfl rfl)
theorem dX2_list_28 : decode cX2_list 28 = .ok (.iload_n 2, 1) := dk_28 (dk_at dksX2_list_1 4 rfl rfl)
theorem dX2_list_29 : decode cX2_list 29 = .ok (.ifCond .eq 12, 3) := dk_153 0 12 (dk_at dksX2_list_1 5 rfl rfl)
theorem dX2_list_32 : decode cX2_list 32 = .ok (.aload_n 0, 1) := dk_42 (dk_at dksX2_list_1 8 rfl rfl)
theorem dX2_list_33 : decode cX2_list 33 = .ok (.iconst 0, 1) := dk_3 (dk_at dksX2_list_1 9 rfl rfl)
theorem dX2_list_34 : decode cX2_list 34 = .ok (.iload_n 1, 1) := dk_27 (dk_at dksX2_list_1 10 rfl rfl)
theorem dX2_list_35 : decode cX2_list 35 = .ok (.invokevirtual 71, 3) := dk_182 0 71 (dk_at dksX2_list_1 11 rfl rfl)
theorem dX2_list_38 : decode cX2_list 38 = .ok (.goto 4, 3) := dk_167 0 4 (dk_at dksX2_list_1 14 rfl rfl)
theorem dX2_list_41 : decode cX2_list 41 = .ok (.iconst 0, 1) := dk_3 (dk_at dksX2_list_1 17 rfl rfl)
theorem dX2_list_42 : decode cX2_list 42 = .ok (.iastore, 1) := dk_79 (dk_at dksX2_list_1 18 rfl rfl)
theorem dX2_list_43 : decode cX2_list 43 = .ok (.aload_n 0, 1) := dk_42 (dk_at dksX2_list_1 19 rfl rfl)
theorem dX2_list_44 : decode cX2_list 44 = .ok (.dup, 1) := dk_89 (dk_at dksX2_list_1 20 rfl rfl)
theorem dX2_list_45 : decode cX2_list 45 = .ok (.getfield 68, 3) := dk_180 0 68 (dk_at dksX2_list_1 21 rfl rfl)
theorem dX2_list_48 : decode cX2_list 48 = .ok (.iconst 1, 1) := dk_4 (dk_at dksX2_list_2 0 rfl rfl)
theorem dX2_list_49 : decode cX2_list 49 = .ok (.iadd, 1) := dk_96 (dk_at dksX2_list_2 1 rfl rfl)
theorem dX2_list_50 : decode cX2_list 50 = .ok (.putfield 68, 3) := dk_181 0 68 (dk_at dksX2_list_2 2 rfl rfl)
theorem dX2_list_53 : decode cX2_list 53 = .ok (.aload_n 0, 1) := dk_42 (dk_at dksX2_list_2 5 rfl rfl)
theorem dX2_list_54 : decode cX2_list 54 = .ok (.bipush 44, 2) := dk_16 44 (dk_at dksX2_list_2 6 rfl rfl)
theorem dX2_list_56 : decode cX2_list 56 = .ok (.invokevirtual 75, 3) := dk_182 0 75 (dk_at dksX2_list_2 8 rfl rfl)
theorem dX2_list_59 : decode cX2_list 59 = .ok (.ifCond .ne (-54), 3) := dk_154 255 202 (dk_at dksX2_list_2 11 rfl rfl)
theorem dX2_list_62 : decode cX2_list 62 = .ok (.return_, 1) := dk_177 (dk_at dksX2_list_2 14 rfl rfl)
abbrev cX2_passes : ByteArray := prog_6_method_7_code
def yX2_passes : MethodName := ⟨RX2, "passes", "(I)Z"⟩
def dkwX2_passes_0 : List UInt8 := [42, 182, 0, 46, 27, 159, 0, 5, 3, 172, 42, 89, 180, 0, 40, 4, 96, 181, 0, 40, 4, 172]
abbrev dktX2_passes_0 : List UInt8 := dkwX2_passes_0 ++ []
theorem dksX2_passes_0 : cX2_passes.data.toList.drop 0 = dktX2_passes_0 := by decide +kernel
theorem dX2_passes_0 : decode cX2_passes 0 = .ok (.aload_n 0, 1) := dk_42 (dk_at dksX2_passes_0 0 rfl rfl)
theorem dX2_passes_1 : decode cX2_passes 1 = .ok (.invokevirtual 46, 3) := dk_182 0 46 (dk_at dksX2_passes_0 1 rfl rfl)
theorem dX2_passes_4 : decode cX2_passes 4 = .ok (.iload_n 1, 1) := dk_27 (dk_at dksX2_passes_0 4 rfl rfl)
theorem dX2_passes_5 : decode cX2_passes 5 = .ok (.if_icmp .eq 5, 3) := dk_159 0 5 (dk_at dksX2_passes_0 5 rfl rfl)
theorem dX2_passes_8 : decode cX2_passes 8 = .ok (.iconst 0, 1) := dk_3 (dk_at dksX2_passes_0 8 rfl rfl)
theorem dX2_passes_9 : decode cX2_passes 9 = .ok (.ireturn, 1) := dk_172 (dk_at dksX2_passes_0 9 rfl rfl)
theorem dX2_passes_10 : decode cX2_passes 10 = .ok (.aload_n 0, 1) := dk_42 (dk_at dksX2_passes_0 10 rfl rfl)
theorem dX2_passes_11 : decode cX2_passes 11 = .ok (.dup, 1) := dk_89 (dk_at dksX2_passes_0 11 rfl rfl)
theorem dX2_passes_12 : decode cX2_passes 12 = .ok (.getfield 40, 3) := dk_180 0 40 (dk_at dksX2_passes_0 12 rfl rfl)
theorem dX2_passes_15 : decode cX2_passes 15 = .ok (.iconst 1, 1) := dk_4 (dk_at dksX2_passes_0 15 rfl rfl)
theorem dX2_passes_16 : decode cX2_passes 16 = .ok (.iadd, 1) := dk_96 (dk_at dksX2_passes_0 16 rfl rfl)
theorem dX2_passes_17 : decode cX2_passes 17 = .ok (.putfield 40, 3) := dk_181 0 40 (dk_at dksX2_passes_0 17 rfl rfl)
theorem dX2_passes_20 : decode cX2_passes 20 = .ok (.iconst 1, 1) := dk_4 (dk_at dksX2_passes_0 20 rfl rfl)
theorem dX2_passes_21 : decode cX2_passes 21 = .ok (.ireturn, 1) := dk_172 (dk_at dksX2_passes_0 21 rfl rfl)
abbrev cX2_turns : ByteArray := prog_6_method_14_code
def yX2_turns : MethodName := ⟨RX2, "turns", "(Z)I"⟩
def dkwX2_turns_1 : List UInt8 := [180, 0, 18, 42, 180, 0, 29, 29, 46, 27, 182, 0, 149, 61, 132, 3, 1, 167, 255, 226, 28, 172]
abbrev dktX2_turns_1 : List UInt8 := dkwX2_turns_1 ++ []
def dkwX2_turns_0 : List UInt8 := [42, 16, 59, 3, 182, 0, 143, 3, 61, 3, 62, 29, 42, 180, 0, 68, 162, 0, 28, 28, 154, 0, 24, 42]
abbrev dktX2_turns_0 : List UInt8 := dkwX2_turns_0 ++ dktX2_turns_1
theorem dksX2_turns_0 : cX2_turns.data.toList.drop 0 = dktX2_turns_0 := by decide +kernel
theorem dksX2_turns_1 : cX2_turns.data.toList.drop 24 = dktX2_turns_1 := dk_seg dksX2_turns_0 24 rfl rfl
theorem dX2_turns_0 : decode cX2_turns 0 = .ok (.aload_n 0, 1) := dk_42 (dk_at dksX2_turns_0 0 rfl rfl)
theorem dX2_turns_1 : decode cX2_turns 1 = .ok (.bipush 59, 2) := dk_16 59 (dk_at dksX2_turns_0 1 rfl rfl)
theorem dX2_turns_3 : decode cX2_turns 3 = .ok (.iconst 0, 1) := dk_3 (dk_at dksX2_turns_0 3 rfl rfl)
theorem dX2_turns_4 : decode cX2_turns 4 = .ok (.invokevirtual 143, 3) := dk_182 0 143 (dk_at dksX2_turns_0 4 rfl rfl)
theorem dX2_turns_7 : decode cX2_turns 7 = .ok (.iconst 0, 1) := dk_3 (dk_at dksX2_turns_0 7 rfl rfl)
theorem dX2_turns_8 : decode cX2_turns 8 = .ok (.istore_n 2, 1) := dk_61 (dk_at dksX2_turns_0 8 rfl rfl)
theorem dX2_turns_9 : decode cX2_turns 9 = .ok (.iconst 0, 1) := dk_3 (dk_at dksX2_turns_0 9 rfl rfl)
theorem dX2_turns_10 : decode cX2_turns 10 = .ok (.istore_n 3, 1) := dk_62 (dk_at dksX2_turns_0 10 rfl rfl)
theorem dX2_turns_11 : decode cX2_turns 11 = .ok (.iload_n 3, 1) := dk_29 (dk_at dksX2_turns_0 11 rfl rfl)
theorem dX2_turns_12 : decode cX2_turns 12 = .ok (.aload_n 0, 1) := dk_42 (dk_at dksX2_turns_0 12 rfl rfl)
theorem dX2_turns_13 : decode cX2_turns 13 = .ok (.getfield 68, 3) := dk_180 0 68 (dk_at dksX2_turns_0 13 rfl rfl)
theorem dX2_turns_16 : decode cX2_turns 16 = .ok (.if_icmp .ge 28, 3) := dk_162 0 28 (dk_at dksX2_turns_0 16 rfl rfl)
theorem dX2_turns_19 : decode cX2_turns 19 = .ok (.iload_n 2, 1) := dk_28 (dk_at dksX2_turns_0 19 rfl rfl)
theorem dX2_turns_20 : decode cX2_turns 20 = .ok (.ifCond .ne 24, 3) := dk_154 0 24 (dk_at dksX2_turns_0 20 rfl rfl)
theorem dX2_turns_23 : decode cX2_turns 23 = .ok (.aload_n 0, 1) := dk_42 (dk_at dksX2_turns_0 23 rfl rfl)
theorem dX2_turns_24 : decode cX2_turns 24 = .ok (.getfield 18, 3) := dk_180 0 18 (dk_at dksX2_turns_1 0 rfl rfl)
theorem dX2_turns_27 : decode cX2_turns 27 = .ok (.aload_n 0, 1) := dk_42 (dk_at dksX2_turns_1 3 rfl rfl)
theorem dX2_turns_28 : decode cX2_turns 28 = .ok (.getfield 29, 3) := dk_180 0 29 (dk_at dksX2_turns_1 4 rfl rfl)
theorem dX2_turns_31 : decode cX2_turns 31 = .ok (.iload_n 3, 1) := dk_29 (dk_at dksX2_turns_1 7 rfl rfl)
theorem dX2_turns_32 : decode cX2_turns 32 = .ok (.iaload, 1) := dk_46 (dk_at dksX2_turns_1 8 rfl rfl)
theorem dX2_turns_33 : decode cX2_turns 33 = .ok (.iload_n 1, 1) := dk_27 (dk_at dksX2_turns_1 9 rfl rfl)
theorem dX2_turns_34 : decode cX2_turns 34 = .ok (.invokevirtual 149, 3) := dk_182 0 149 (dk_at dksX2_turns_1 10 rfl rfl)
theorem dX2_turns_37 : decode cX2_turns 37 = .ok (.istore_n 2, 1) := dk_61 (dk_at dksX2_turns_1 13 rfl rfl)
theorem dX2_turns_38 : decode cX2_turns 38 = .ok (.iinc 3 1, 3) := dk_132 3 1 (dk_at dksX2_turns_1 14 rfl rfl)
theorem dX2_turns_41 : decode cX2_turns 41 = .ok (.goto (-30), 3) := dk_167 255 226 (dk_at dksX2_turns_1 17 rfl rfl)
theorem dX2_turns_44 : decode cX2_turns 44 = .ok (.iload_n 2, 1) := dk_28 (dk_at dksX2_turns_1 20 rfl rfl)
theorem dX2_turns_45 : decode cX2_turns 45 = .ok (.ireturn, 1) := dk_172 (dk_at dksX2_turns_1 21 rfl rfl)
abbrev cX2_asks : ByteArray := prog_6_method_12_code
def yX2_asks : MethodName := ⟨RX2, "asks", "()I"⟩
def dkwX2_asks_0 : List UInt8 := [42, 3, 16, 15, 182, 0, 71, 60, 42, 180, 0, 18, 27, 42, 3, 16, 99, 182, 0, 71, 182, 0, 141, 172]
abbrev dktX2_asks_0 : List UInt8 := dkwX2_asks_0 ++ []
theorem dksX2_asks_0 : cX2_asks.data.toList.drop 0 = dktX2_asks_0 := by decide +kernel
theorem dX2_asks_0 : decode cX2_asks 0 = .ok (.aload_n 0, 1) := dk_42 (dk_at dksX2_asks_0 0 rfl rfl)
theorem dX2_asks_1 : decode cX2_asks 1 = .ok (.iconst 0, 1) := dk_3 (dk_at dksX2_asks_0 1 rfl rfl)
theorem dX2_asks_2 : decode cX2_asks 2 = .ok (.bipush 15, 2) := dk_16 15 (dk_at dksX2_asks_0 2 rfl rfl)
theorem dX2_asks_4 : decode cX2_asks 4 = .ok (.invokevirtual 71, 3) := dk_182 0 71 (dk_at dksX2_asks_0 4 rfl rfl)
theorem dX2_asks_7 : decode cX2_asks 7 = .ok (.istore_n 1, 1) := dk_60 (dk_at dksX2_asks_0 7 rfl rfl)
theorem dX2_asks_8 : decode cX2_asks 8 = .ok (.aload_n 0, 1) := dk_42 (dk_at dksX2_asks_0 8 rfl rfl)
theorem dX2_asks_9 : decode cX2_asks 9 = .ok (.getfield 18, 3) := dk_180 0 18 (dk_at dksX2_asks_0 9 rfl rfl)
theorem dX2_asks_12 : decode cX2_asks 12 = .ok (.iload_n 1, 1) := dk_27 (dk_at dksX2_asks_0 12 rfl rfl)
theorem dX2_asks_13 : decode cX2_asks 13 = .ok (.aload_n 0, 1) := dk_42 (dk_at dksX2_asks_0 13 rfl rfl)
theorem dX2_asks_14 : decode cX2_asks 14 = .ok (.iconst 0, 1) := dk_3 (dk_at dksX2_asks_0 14 rfl rfl)
theorem dX2_asks_15 : decode cX2_asks 15 = .ok (.bipush 99, 2) := dk_16 99 (dk_at dksX2_asks_0 15 rfl rfl)
theorem dX2_asks_17 : decode cX2_asks 17 = .ok (.invokevirtual 71, 3) := dk_182 0 71 (dk_at dksX2_asks_0 17 rfl rfl)
theorem dX2_asks_20 : decode cX2_asks 20 = .ok (.invokevirtual 141, 3) := dk_182 0 141 (dk_at dksX2_asks_0 20 rfl rfl)
theorem dX2_asks_23 : decode cX2_asks 23 = .ok (.ireturn, 1) := dk_172 (dk_at dksX2_asks_0 23 rfl rfl)
theorem q165 : (Jvm.Cond.initialized "GateLifter$Reader") ∈ lw_all := lw_g (lw_at lw_m1 2 rfl) rfl
theorem q202 : (Jvm.Cond.instantiable "GateLifter$Reader" (10 : Nat)) ∈ lw_all := lw_g (lw_at lw_m1 39 rfl) rfl
theorem q204 : (Jvm.Cond.instanceMethod ({ cls := "GateLifter$Reader", name := "<init>", desc := "()V" } : Jvm.MethodName)) ∈ lw_all := lw_g (lw_at lw_m1 41 rfl) rfl
theorem q205 : (Jvm.Cond.code ({ cls := "GateLifter$Reader", name := "<init>", desc := "()V" } : Jvm.MethodName) prog_6_method_1_code (1 : Nat) (Option.none : Option Jvm.ClassFile.FieldType)) ∈ lw_all := lw_g (lw_at lw_m1 42 rfl) rfl
theorem q206 : (Jvm.Cond.methodLink "GateLifter$Reader" (3 : Nat) ({ cls := "java/lang/Object", name := "<init>", desc := "()V" } : Jvm.MethodName)) ∈ lw_all := lw_g (lw_at lw_m1 43 rfl) rfl
theorem q207 : (Jvm.Cond.classLink "GateLifter$Reader" (15 : Nat) "GateLifter$Net") ∈ lw_all := lw_g (lw_at lw_m1 44 rfl) rfl
theorem q209 : (Jvm.Cond.methodLinkNest "GateLifter$Reader" (17 : Nat) ({ cls := "GateLifter$Net", name := "<init>", desc := "()V" } : Jvm.MethodName) "GateLifter") ∈ lw_tbl := lw_at lw_m1 46 rfl
theorem q256 : (Jvm.Cond.classLink "GateLifter$Reader" (22 : Nat) "GateLifter$Wrong") ∈ lw_all := lw_g (lw_at lw_m1 93 rfl) rfl
theorem q300 : (Jvm.Cond.methodLink "GateLifter$Reader" (24 : Nat) ({ cls := "GateLifter$Wrong", name := "<init>", desc := "()V" } : Jvm.MethodName)) ∈ lw_all := lw_g (lw_at lw_m1 137 rfl) rfl
theorem q312 : (Jvm.Cond.fieldLinkNest "GateLifter$Reader" (36 : Nat) "GateLifter$Wrong" "place" "I" "GateLifter") ∈ lw_tbl := lw_at lw_m1 149 rfl
theorem q329 : (Jvm.Cond.fieldLink "GateLifter$Reader" (9 : Nat) "GateLifter$Reader" "tape" "[B") ∈ lw_all := lw_g (lw_at lw_m1 166 rfl) rfl
theorem q331 : (Jvm.Cond.fieldLink "GateLifter$Reader" (18 : Nat) "GateLifter$Reader" "draft" "LGateLifter$Net;") ∈ lw_all := lw_g (lw_at lw_m1 168 rfl) rfl
theorem q333 : (Jvm.Cond.fieldLink "GateLifter$Reader" (25 : Nat) "GateLifter$Reader" "wrong" "LGateLifter$Wrong;") ∈ lw_all := lw_g (lw_at lw_m1 170 rfl) rfl
theorem q334 : (Jvm.Cond.fieldLink "GateLifter$Reader" (29 : Nat) "GateLifter$Reader" "one" "[I") ∈ lw_all := lw_g (lw_at lw_m1 171 rfl) rfl
theorem q335 : (Jvm.Cond.fieldLink "GateLifter$Reader" (33 : Nat) "GateLifter$Reader" "two" "[I") ∈ lw_all := lw_g (lw_at lw_m1 172 rfl) rfl
theorem q337 : (Jvm.Cond.fieldLink "GateLifter$Reader" (43 : Nat) "GateLifter$Reader" "end" "I") ∈ lw_all := lw_g (lw_at lw_m1 174 rfl) rfl
theorem q338 : (Jvm.Cond.fieldLink "GateLifter$Reader" (40 : Nat) "GateLifter$Reader" "at" "I") ∈ lw_all := lw_g (lw_at lw_m1 175 rfl) rfl
theorem q339 : (Jvm.Cond.fieldLink "GateLifter$Reader" (79 : Nat) "GateLifter$Reader" "code" "I") ∈ lw_all := lw_g (lw_at lw_m1 176 rfl) rfl
theorem q341 : (Jvm.Cond.fieldLink "GateLifter$Reader" (68 : Nat) "GateLifter$Reader" "many" "I") ∈ lw_all := lw_g (lw_at lw_m1 178 rfl) rfl
theorem q342 : (Jvm.Cond.laysFinal "GateLifter$Reader" "GateLifter$Reader" "tape" "[B") ∈ lw_all := lw_g (lw_at lw_m1 179 rfl) rfl
theorem q343 : (Jvm.Cond.soleField "GateLifter$Reader" "tape") ∈ lw_all := lw_g (lw_at lw_m1 180 rfl) rfl
theorem q344 : (Jvm.Cond.laysFinal "GateLifter$Reader" "GateLifter$Reader" "draft" "LGateLifter$Net;") ∈ lw_all := lw_g (lw_at lw_m1 181 rfl) rfl
theorem q345 : (Jvm.Cond.soleField "GateLifter$Reader" "draft") ∈ lw_all := lw_g (lw_at lw_m1 182 rfl) rfl
theorem q346 : (Jvm.Cond.laysFinal "GateLifter$Reader" "GateLifter$Reader" "wrong" "LGateLifter$Wrong;") ∈ lw_all := lw_g (lw_at lw_m1 183 rfl) rfl
theorem q347 : (Jvm.Cond.soleField "GateLifter$Reader" "wrong") ∈ lw_all := lw_g (lw_at lw_m1 184 rfl) rfl
theorem q348 : (Jvm.Cond.laysFinal "GateLifter$Reader" "GateLifter$Reader" "one" "[I") ∈ lw_all := lw_g (lw_at lw_m1 185 rfl) rfl
theorem q349 : (Jvm.Cond.soleField "GateLifter$Reader" "one") ∈ lw_all := lw_g (lw_at lw_m1 186 rfl) rfl
theorem q350 : (Jvm.Cond.laysFinal "GateLifter$Reader" "GateLifter$Reader" "two" "[I") ∈ lw_all := lw_g (lw_at lw_m1 187 rfl) rfl
theorem q351 : (Jvm.Cond.soleField "GateLifter$Reader" "two") ∈ lw_all := lw_g (lw_at lw_m1 188 rfl) rfl
theorem q352 : (Jvm.Cond.lays "GateLifter$Reader" "GateLifter$Reader" "size" "I") ∈ lw_all := lw_g (lw_at lw_m1 189 rfl) rfl
theorem q353 : (Jvm.Cond.soleField "GateLifter$Reader" "size") ∈ lw_all := lw_g (lw_at lw_m1 190 rfl) rfl
theorem q354 : (Jvm.Cond.lays "GateLifter$Reader" "GateLifter$Reader" "end" "I") ∈ lw_all := lw_g (lw_at lw_m1 191 rfl) rfl
theorem q355 : (Jvm.Cond.soleField "GateLifter$Reader" "end") ∈ lw_all := lw_g (lw_at lw_m1 192 rfl) rfl
theorem q356 : (Jvm.Cond.lays "GateLifter$Reader" "GateLifter$Reader" "at" "I") ∈ lw_all := lw_g (lw_at lw_m1 193 rfl) rfl
theorem q357 : (Jvm.Cond.soleField "GateLifter$Reader" "at") ∈ lw_all := lw_g (lw_at lw_m1 194 rfl) rfl
theorem q358 : (Jvm.Cond.lays "GateLifter$Reader" "GateLifter$Reader" "code" "I") ∈ lw_all := lw_g (lw_at lw_m1 195 rfl) rfl
theorem q359 : (Jvm.Cond.soleField "GateLifter$Reader" "code") ∈ lw_all := lw_g (lw_at lw_m1 196 rfl) rfl
theorem q360 : (Jvm.Cond.lays "GateLifter$Reader" "GateLifter$Reader" "many" "I") ∈ lw_all := lw_g (lw_at lw_m1 197 rfl) rfl
theorem q361 : (Jvm.Cond.soleField "GateLifter$Reader" "many") ∈ lw_all := lw_g (lw_at lw_m1 198 rfl) rfl
theorem q362 : (Jvm.Cond.superclass "GateLifter$Reader" "java/lang/Object") ∈ lw_all := lw_g (lw_at lw_m1 199 rfl) rfl
theorem q918 : (Jvm.Cond.instanceMethod ({ cls := "GateLifter$Reader", name := "acts", desc := "(ILGateLifter$Net;)I" } : Jvm.MethodName)) ∈ lw_all := lw_g (lw_at lw_m4 35 rfl) rfl
theorem q919 : (Jvm.Cond.selects "GateLifter$Reader" ({ cls := "GateLifter$Reader", name := "acts", desc := "(ILGateLifter$Net;)I" } : Jvm.MethodName) ({ cls := "GateLifter$Reader", name := "acts", desc := "(ILGateLifter$Net;)I" } : Jvm.MethodName)) ∈ lw_all := lw_g (lw_at lw_m4 36 rfl) rfl
theorem q920 : (Jvm.Cond.code ({ cls := "GateLifter$Reader", name := "acts", desc := "(ILGateLifter$Net;)I" } : Jvm.MethodName) prog_6_method_9_code (5 : Nat) (Option.some Jvm.ClassFile.FieldType.int)) ∈ lw_all := lw_g (lw_at lw_m4 37 rfl) rfl
theorem q921 : (Jvm.Cond.methodLink "GateLifter$Reader" (82 : Nat) ({ cls := "GateLifter$Net", name := "be", desc := "(LGateLifter$Net;)V" } : Jvm.MethodName)) ∈ lw_all := lw_g (lw_at lw_m4 38 rfl) rfl
theorem q922 : (Jvm.Cond.methodLink "GateLifter$Reader" (46 : Nat) ({ cls := "GateLifter$Reader", name := "sign", desc := "()I" } : Jvm.MethodName)) ∈ lw_all := lw_g (lw_at lw_m4 39 rfl) rfl
theorem q923 : (Jvm.Cond.privateMethod ({ cls := "GateLifter$Reader", name := "sign", desc := "()I" } : Jvm.MethodName)) ∈ lw_tbl := lw_at lw_m4 40 rfl
theorem q924 : (Jvm.Cond.instanceMethod ({ cls := "GateLifter$Reader", name := "sign", desc := "()I" } : Jvm.MethodName)) ∈ lw_all := lw_g (lw_at lw_m4 41 rfl) rfl
theorem q925 : (Jvm.Cond.code ({ cls := "GateLifter$Reader", name := "sign", desc := "()I" } : Jvm.MethodName) prog_6_method_3_code (1 : Nat) (Option.some Jvm.ClassFile.FieldType.int)) ∈ lw_all := lw_g (lw_at lw_m4 42 rfl) rfl
theorem q926 : (Jvm.Cond.methodLink "GateLifter$Reader" (53 : Nat) ({ cls := "GateLifter$Reader", name := "here", desc := "()I" } : Jvm.MethodName)) ∈ lw_all := lw_g (lw_at lw_m4 43 rfl) rfl
theorem q927 : (Jvm.Cond.privateMethod ({ cls := "GateLifter$Reader", name := "here", desc := "()I" } : Jvm.MethodName)) ∈ lw_tbl := lw_at lw_m4 44 rfl
theorem q928 : (Jvm.Cond.instanceMethod ({ cls := "GateLifter$Reader", name := "here", desc := "()I" } : Jvm.MethodName)) ∈ lw_all := lw_g (lw_at lw_m4 45 rfl) rfl
theorem q929 : (Jvm.Cond.code ({ cls := "GateLifter$Reader", name := "here", desc := "()I" } : Jvm.MethodName) prog_6_method_4_code (2 : Nat) (Option.some Jvm.ClassFile.FieldType.int)) ∈ lw_all := lw_g (lw_at lw_m4 46 rfl) rfl
theorem q930 : (Jvm.Cond.methodLink "GateLifter$Reader" (64 : Nat) ({ cls := "GateLifter$Reader", name := "fail", desc := "(I)V" } : Jvm.MethodName)) ∈ lw_all := lw_g (lw_at lw_m4 47 rfl) rfl
theorem q931 : (Jvm.Cond.privateMethod ({ cls := "GateLifter$Reader", name := "fail", desc := "(I)V" } : Jvm.MethodName)) ∈ lw_tbl := lw_at lw_m4 48 rfl
theorem q932 : (Jvm.Cond.instanceMethod ({ cls := "GateLifter$Reader", name := "fail", desc := "(I)V" } : Jvm.MethodName)) ∈ lw_all := lw_g (lw_at lw_m4 49 rfl) rfl
theorem q933 : (Jvm.Cond.code ({ cls := "GateLifter$Reader", name := "fail", desc := "(I)V" } : Jvm.MethodName) prog_6_method_2_code (2 : Nat) (Option.none : Option Jvm.ClassFile.FieldType)) ∈ lw_all := lw_g (lw_at lw_m4 50 rfl) rfl
theorem q934 : (Jvm.Cond.methodLink "GateLifter$Reader" (86 : Nat) ({ cls := "GateLifter$Reader", name := "act", desc := "()V" } : Jvm.MethodName)) ∈ lw_all := lw_g (lw_at lw_m4 51 rfl) rfl
theorem q935 : (Jvm.Cond.privateMethod ({ cls := "GateLifter$Reader", name := "act", desc := "()V" } : Jvm.MethodName)) ∈ lw_tbl := lw_at lw_m4 52 rfl
theorem q936 : (Jvm.Cond.instanceMethod ({ cls := "GateLifter$Reader", name := "act", desc := "()V" } : Jvm.MethodName)) ∈ lw_all := lw_g (lw_at lw_m4 53 rfl) rfl
theorem q937 : (Jvm.Cond.code ({ cls := "GateLifter$Reader", name := "act", desc := "()V" } : Jvm.MethodName) prog_6_method_10_code (5 : Nat) (Option.none : Option Jvm.ClassFile.FieldType)) ∈ lw_all := lw_g (lw_at lw_m4 54 rfl) rfl
theorem q938 : (Jvm.Cond.methodLink "GateLifter$Reader" (89 : Nat) ({ cls := "GateLifter$Reader", name := "word", desc := "()Ljava/lang/String;" } : Jvm.MethodName)) ∈ lw_all := lw_g (lw_at lw_m4 55 rfl) rfl
theorem q939 : (Jvm.Cond.privateMethod ({ cls := "GateLifter$Reader", name := "word", desc := "()Ljava/lang/String;" } : Jvm.MethodName)) ∈ lw_tbl := lw_at lw_m4 56 rfl
theorem q940 : (Jvm.Cond.instanceMethod ({ cls := "GateLifter$Reader", name := "word", desc := "()Ljava/lang/String;" } : Jvm.MethodName)) ∈ lw_all := lw_g (lw_at lw_m4 57 rfl) rfl
theorem q941 : (Jvm.Cond.code ({ cls := "GateLifter$Reader", name := "word", desc := "()Ljava/lang/String;" } : Jvm.MethodName) prog_6_method_5_code (3 : Nat) (Option.some (Jvm.ClassFile.FieldType.object "java/lang/String"))) ∈ lw_all := lw_g (lw_at lw_m4 58 rfl) rfl
theorem q942 : (Jvm.Cond.classLink "GateLifter$Reader" (50 : Nat) "java/lang/StringBuilder") ∈ lw_all := lw_g (lw_at lw_m4 59 rfl) rfl
theorem q943 : (Jvm.Cond.methodLink "GateLifter$Reader" (52 : Nat) ({ cls := "java/lang/StringBuilder", name := "<init>", desc := "()V" } : Jvm.MethodName)) ∈ lw_all := lw_g (lw_at lw_m4 60 rfl) rfl
theorem q944 : (Jvm.Cond.methodLink "GateLifter$Reader" (56 : Nat) ({ cls := "java/lang/StringBuilder", name := "append", desc := "(C)Ljava/lang/StringBuilder;" } : Jvm.MethodName)) ∈ lw_all := lw_g (lw_at lw_m4 61 rfl) rfl
theorem q1017 : (Jvm.Cond.methodLink "GateLifter$Reader" (60 : Nat) ({ cls := "java/lang/StringBuilder", name := "toString", desc := "()Ljava/lang/String;" } : Jvm.MethodName)) ∈ lw_all := lw_g (lw_at lw_m4 134 rfl) rfl
theorem q1169 : (Jvm.Cond.methodLink "GateLifter$Reader" (92 : Nat) ({ cls := "java/lang/String", name := "hashCode", desc := "()I" } : Jvm.MethodName)) ∈ lw_all := lw_g (lw_at lw_m5 46 rfl) rfl
theorem q1230 : (Jvm.Cond.stringRef "GateLifter$Reader" (97 : Nat) "net") ∈ lw_tbl := lw_at lw_m5 107 rfl
theorem q1231 : (Jvm.Cond.methodLink "GateLifter$Reader" (99 : Nat) ({ cls := "java/lang/String", name := "equals", desc := "(Ljava/lang/Object;)Z" } : Jvm.MethodName)) ∈ lw_all := lw_g (lw_at lw_m5 108 rfl) rfl
theorem q1239 : (Jvm.Cond.stringRef "GateLifter$Reader" (103 : Nat) "root") ∈ lw_tbl := lw_at lw_m5 116 rfl
theorem q1240 : (Jvm.Cond.stringRef "GateLifter$Reader" (105 : Nat) "exit") ∈ lw_tbl := lw_at lw_m5 117 rfl
theorem q1241 : (Jvm.Cond.stringRef "GateLifter$Reader" (107 : Nat) "lay") ∈ lw_tbl := lw_at lw_m5 118 rfl
theorem q1242 : (Jvm.Cond.stringRef "GateLifter$Reader" (109 : Nat) "shut") ∈ lw_tbl := lw_at lw_m5 119 rfl
theorem q1243 : (Jvm.Cond.stringRef "GateLifter$Reader" (111 : Nat) "open") ∈ lw_tbl := lw_at lw_m5 120 rfl
theorem q1244 : (Jvm.Cond.stringRef "GateLifter$Reader" (113 : Nat) "toll") ∈ lw_tbl := lw_at lw_m5 121 rfl
theorem q1245 : (Jvm.Cond.methodLink "GateLifter$Reader" (115 : Nat) ({ cls := "GateLifter$Reader", name := "anew", desc := "()I" } : Jvm.MethodName)) ∈ lw_all := lw_g (lw_at lw_m5 122 rfl) rfl
theorem q1246 : (Jvm.Cond.privateMethod ({ cls := "GateLifter$Reader", name := "anew", desc := "()I" } : Jvm.MethodName)) ∈ lw_tbl := lw_at lw_m5 123 rfl
theorem q1247 : (Jvm.Cond.instanceMethod ({ cls := "GateLifter$Reader", name := "anew", desc := "()I" } : Jvm.MethodName)) ∈ lw_all := lw_g (lw_at lw_m5 124 rfl) rfl
theorem q1248 : (Jvm.Cond.code ({ cls := "GateLifter$Reader", name := "anew", desc := "()I" } : Jvm.MethodName) prog_6_method_11_code (2 : Nat) (Option.some Jvm.ClassFile.FieldType.int)) ∈ lw_all := lw_g (lw_at lw_m5 125 rfl) rfl
theorem q1249 : (Jvm.Cond.methodLink "GateLifter$Reader" (71 : Nat) ({ cls := "GateLifter$Reader", name := "number", desc := "(II)I" } : Jvm.MethodName)) ∈ lw_all := lw_g (lw_at lw_m5 126 rfl) rfl
theorem q1250 : (Jvm.Cond.privateMethod ({ cls := "GateLifter$Reader", name := "number", desc := "(II)I" } : Jvm.MethodName)) ∈ lw_tbl := lw_at lw_m5 127 rfl
theorem q1251 : (Jvm.Cond.instanceMethod ({ cls := "GateLifter$Reader", name := "number", desc := "(II)I" } : Jvm.MethodName)) ∈ lw_all := lw_g (lw_at lw_m5 128 rfl) rfl
theorem q1252 : (Jvm.Cond.code ({ cls := "GateLifter$Reader", name := "number", desc := "(II)I" } : Jvm.MethodName) prog_6_method_6_code (5 : Nat) (Option.some Jvm.ClassFile.FieldType.int)) ∈ lw_all := lw_g (lw_at lw_m5 129 rfl) rfl
theorem q1253 : (Jvm.Cond.methodLink "GateLifter$Reader" (137 : Nat) ({ cls := "GateLifter$Net", name := "begins", desc := "(I)LGateLifter$Net;" } : Jvm.MethodName)) ∈ lw_all := lw_g (lw_at lw_m5 130 rfl) rfl
theorem q1254 : (Jvm.Cond.methodLink "GateLifter$Reader" (118 : Nat) ({ cls := "GateLifter$Net", name := "tells", desc := "(IZ)I" } : Jvm.MethodName)) ∈ lw_all := lw_g (lw_at lw_m5 131 rfl) rfl
theorem q1262 : (Jvm.Cond.methodLink "GateLifter$Reader" (122 : Nat) ({ cls := "GateLifter$Reader", name := "lays", desc := "()I" } : Jvm.MethodName)) ∈ lw_all := lw_g (lw_at lw_m5 139 rfl) rfl
theorem q1263 : (Jvm.Cond.privateMethod ({ cls := "GateLifter$Reader", name := "lays", desc := "()I" } : Jvm.MethodName)) ∈ lw_tbl := lw_at lw_m5 140 rfl
theorem q1264 : (Jvm.Cond.instanceMethod ({ cls := "GateLifter$Reader", name := "lays", desc := "()I" } : Jvm.MethodName)) ∈ lw_all := lw_g (lw_at lw_m5 141 rfl) rfl
theorem q1265 : (Jvm.Cond.code ({ cls := "GateLifter$Reader", name := "lays", desc := "()I" } : Jvm.MethodName) prog_6_method_13_code (3 : Nat) (Option.some Jvm.ClassFile.FieldType.int)) ∈ lw_all := lw_g (lw_at lw_m5 142 rfl) rfl
theorem q1266 : (Jvm.Cond.methodLink "GateLifter$Reader" (143 : Nat) ({ cls := "GateLifter$Reader", name := "list", desc := "(IZ)V" } : Jvm.MethodName)) ∈ lw_all := lw_g (lw_at lw_m5 143 rfl) rfl
theorem q1267 : (Jvm.Cond.privateMethod ({ cls := "GateLifter$Reader", name := "list", desc := "(IZ)V" } : Jvm.MethodName)) ∈ lw_tbl := lw_at lw_m5 144 rfl
theorem q1268 : (Jvm.Cond.instanceMethod ({ cls := "GateLifter$Reader", name := "list", desc := "(IZ)V" } : Jvm.MethodName)) ∈ lw_all := lw_g (lw_at lw_m5 145 rfl) rfl
theorem q1269 : (Jvm.Cond.code ({ cls := "GateLifter$Reader", name := "list", desc := "(IZ)V" } : Jvm.MethodName) prog_6_method_8_code (3 : Nat) (Option.none : Option Jvm.ClassFile.FieldType)) ∈ lw_all := lw_g (lw_at lw_m5 146 rfl) rfl
theorem q1270 : (Jvm.Cond.methodLink "GateLifter$Reader" (75 : Nat) ({ cls := "GateLifter$Reader", name := "passes", desc := "(I)Z" } : Jvm.MethodName)) ∈ lw_all := lw_g (lw_at lw_m5 147 rfl) rfl
theorem q1271 : (Jvm.Cond.privateMethod ({ cls := "GateLifter$Reader", name := "passes", desc := "(I)Z" } : Jvm.MethodName)) ∈ lw_tbl := lw_at lw_m5 148 rfl
theorem q1272 : (Jvm.Cond.instanceMethod ({ cls := "GateLifter$Reader", name := "passes", desc := "(I)Z" } : Jvm.MethodName)) ∈ lw_all := lw_g (lw_at lw_m5 149 rfl) rfl
theorem q1273 : (Jvm.Cond.code ({ cls := "GateLifter$Reader", name := "passes", desc := "(I)Z" } : Jvm.MethodName) prog_6_method_7_code (2 : Nat) (Option.some Jvm.ClassFile.FieldType.boolean)) ∈ lw_all := lw_g (lw_at lw_m5 150 rfl) rfl
theorem q1274 : (Jvm.Cond.methodLink "GateLifter$Reader" (147 : Nat) ({ cls := "GateLifter$Net", name := "lays", desc := "(II)I" } : Jvm.MethodName)) ∈ lw_all := lw_g (lw_at lw_m5 151 rfl) rfl
theorem q1278 : (Jvm.Cond.methodLink "GateLifter$Reader" (125 : Nat) ({ cls := "GateLifter$Reader", name := "turns", desc := "(Z)I" } : Jvm.MethodName)) ∈ lw_all := lw_g (lw_at lw_m5 155 rfl) rfl
theorem q1279 : (Jvm.Cond.privateMethod ({ cls := "GateLifter$Reader", name := "turns", desc := "(Z)I" } : Jvm.MethodName)) ∈ lw_tbl := lw_at lw_m5 156 rfl
theorem q1280 : (Jvm.Cond.instanceMethod ({ cls := "GateLifter$Reader", name := "turns", desc := "(Z)I" } : Jvm.MethodName)) ∈ lw_all := lw_g (lw_at lw_m5 157 rfl) rfl
theorem q1281 : (Jvm.Cond.code ({ cls := "GateLifter$Reader", name := "turns", desc := "(Z)I" } : Jvm.MethodName) prog_6_method_14_code (4 : Nat) (Option.some Jvm.ClassFile.FieldType.int)) ∈ lw_all := lw_g (lw_at lw_m5 158 rfl) rfl
theorem q1282 : (Jvm.Cond.methodLink "GateLifter$Reader" (149 : Nat) ({ cls := "GateLifter$Net", name := "turns", desc := "(IZ)I" } : Jvm.MethodName)) ∈ lw_all := lw_g (lw_at lw_m5 159 rfl) rfl
theorem q1290 : (Jvm.Cond.methodLink "GateLifter$Reader" (129 : Nat) ({ cls := "GateLifter$Reader", name := "asks", desc := "()I" } : Jvm.MethodName)) ∈ lw_all := lw_g (lw_at lw_m5 167 rfl) rfl
theorem q1291 : (Jvm.Cond.privateMethod ({ cls := "GateLifter$Reader", name := "asks", desc := "()I" } : Jvm.MethodName)) ∈ lw_tbl := lw_at lw_m5 168 rfl
theorem q1292 : (Jvm.Cond.instanceMethod ({ cls := "GateLifter$Reader", name := "asks", desc := "()I" } : Jvm.MethodName)) ∈ lw_all := lw_g (lw_at lw_m5 169 rfl) rfl
theorem q1293 : (Jvm.Cond.code ({ cls := "GateLifter$Reader", name := "asks", desc := "()I" } : Jvm.MethodName) prog_6_method_12_code (2 : Nat) (Option.some Jvm.ClassFile.FieldType.int)) ∈ lw_all := lw_g (lw_at lw_m5 170 rfl) rfl
theorem q1294 : (Jvm.Cond.methodLink "GateLifter$Reader" (141 : Nat) ({ cls := "GateLifter$Net", name := "asks", desc := "(II)I" } : Jvm.MethodName)) ∈ lw_all := lw_g (lw_at lw_m5 171 rfl) rfl
theorem q1298 : (Jvm.Cond.methodLink "GateLifter$Reader" (132 : Nat) ({ cls := "java/lang/Math", name := "max", desc := "(II)I" } : Jvm.MethodName)) ∈ lw_all := lw_g (lw_at lw_m5 175 rfl) rfl
theorem q2340 : (Jvm.Cond.castable "GateLifter$Reader" "java/lang/Object") ∈ lw_tbl := lw_at lw_m10 17 rfl
theorem in_X2 : ∀ w ∈ wsX20, w ∈ lw_all := lw_in wsX20 [342, 344, 346, 348, 350, 352, 354, 356, 358, 360] (by decide +kernel) (by decide +kernel)
theorem q667 : (Jvm.Cond.interfaceMethod "GateLifter$Is" "GateLifter$Is" "of" "(I)Z") ∈ lw_tbl := lw_at lw_m3 24 rfl
set_option maxRecDepth 100000
theorem q668 : (Jvm.Cond.declares ({ cls := "GateLifter$Is", name := "of", desc := "(I)Z" } : Jvm.MethodName)) ∈ lw_tbl := lw_at lw_m3 25 rfl
theorem q177 : (Jvm.Cond.initialized "java/lang/System") ∈ lw_all := lw_g (lw_at lw_m1 14 rfl) rfl
set_option maxRecDepth 100000
theorem q469 : (Jvm.Cond.static ({ cls := "java/lang/System", name := "arraycopy", desc := "(Ljava/lang/Object;ILjava/lang/Object;II)V" } : Jvm.MethodName)) ∈ lw_all := lw_g (lw_at lw_m2 66 rfl) rfl
theorem q470 : (Jvm.Cond.native ({ cls := "java/lang/System", name := "arraycopy", desc := "(Ljava/lang/Object;ILjava/lang/Object;II)V" } : Jvm.MethodName)) ∈ lw_all := lw_g (lw_at lw_m2 67 rfl) rfl
