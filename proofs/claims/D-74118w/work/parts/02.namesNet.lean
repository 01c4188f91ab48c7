/-! DECODE ROWS BY BYTES: one lemma an opcode; a method's code is cut into short pieces once, and a row reads its own piece alone. -/
set_option maxRecDepth 100000
/-- the code has just these bytes from pc on -/
def DkAt (code : ByteArray) (pc : Nat) (bs : List UInt8) : Prop := ∀ (j : Nat) (b : UInt8), bs[j]? = some b → code.data.toList[pc + j]? = some b
/-- the piece W has the bytes bs from its place j on -/
def dkIn (W : List UInt8) (j : Nat) (bs : List UInt8) : Bool := decide ((W.drop j).take bs.length = bs)
theorem dk_seg {l W T : List UInt8} {o o2 : Nat} (h : l.drop o = W ++ T) (n : Nat) (hn : W.length = n) (ho : o + n = o2) : l.drop o2 = T := by
  subst ho
  rw [← List.drop_drop, h, List.drop_left' hn]
theorem dk_at {code : ByteArray} {W T bs : List UInt8} {o pc : Nat} (h : code.data.toList.drop o = W ++ T) (j : Nat) (hp : o + j = pc) (hw : dkIn W j bs = true) : DkAt code pc bs := by
  subst hp
  intro i b e
  have h1 := of_decide_eq_true hw
  have h2 : i < bs.length := (List.getElem?_eq_some_iff.mp e).1
  have h3 : W[j + i]? = some b := by
    rw [← h1, List.getElem?_take, if_pos h2, List.getElem?_drop] at e
    exact e
  have h4 : j + i < W.length := (List.getElem?_eq_some_iff.mp h3).1
  have h5 : (code.data.toList.drop o)[j + i]? = some b := by
    rw [h, List.getElem?_append_left h4]
    exact h3
  rw [List.getElem?_drop, ← Nat.add_assoc] at h5
  exact h5
theorem dk_u1 {A : ByteArray} {p : Nat} {b : UInt8} (h : A.data.toList[p]? = some b) : (Reader.u1 : Reader DecodeError Nat) A p = .ok (b.toNat, p + 1) := by
  obtain ⟨h1, h2⟩ := List.getElem?_eq_some_iff.mp h
  have h3 : p < A.size := by simpa using h1
  have h4 : A[p]'h3 = b := h2
  have e : (Reader.u1 : Reader DecodeError Nat) A p = (if h : p < A.size then .ok (A[p].toNat, p + 1) else .error (HasTruncated.truncated p)) := by
    show (do if h : p < A.size then do set (p + 1); Pure.pure A[p].toNat else MonadExcept.throw (HasTruncated.truncated p) : Reader DecodeError Nat) A p = _
    by_cases hi : p < A.size
    · rw [dif_pos hi, dif_pos hi]; rfl
    · rw [dif_neg hi, dif_neg hi]; rfl
  rw [e, dif_pos h3, h4]
theorem dk_bind {α β : Type} {r : Reader DecodeError α} {f : α → Reader DecodeError β} {A : ByteArray} {p s : Nat} {a : α} (h : r A p = .ok (a, s)) : (r >>= f) A p = f a A s := by
  show (do let (a, s) ← r A p; f a A s : Except DecodeError (β × Nat)) = _
  rw [h]
  rfl
theorem dk_map {α β : Type} {r : Reader DecodeError α} {g : α → β} {A : ByteArray} {p s : Nat} {a : α} (h : r A p = .ok (a, s)) : (g <$> r) A p = .ok (g a, s) := by
  show (do let (a, s) ← r A p; .ok (g a, s) : Except DecodeError (β × Nat)) = _
  rw [h]
  rfl
theorem dk_u2 {A : ByteArray} {p : Nat} {a b : UInt8} (h : A.data.toList[p]? = some a) (h2 : A.data.toList[p + 1]? = some b) : (Reader.u2 : Reader DecodeError Nat) A p = .ok (a.toNat * 256 + b.toNat, p + 2) := by
  show (Reader.u1 >>= fun hi => Reader.u1 >>= fun lo => Pure.pure (hi * 256 + lo) : Reader DecodeError Nat) A p = _
  rw [dk_bind (dk_u1 h), dk_bind (dk_u1 h2)]
  rfl
theorem dk_of {code : ByteArray} {pc n : Nat} {i : Instr} (h : Decoder.instr pc code pc = .ok (i, pc + n)) : decode code pc = .ok (i, n) := by
  have e : decode code pc = (match Decoder.instr pc code pc with | .error x => .error x | .ok (j, s) => .ok (j, s - pc)) := by
    show (do let (j, s) ← Decoder.instr pc code pc; Pure.pure (j, s - pc) : Except DecodeError (Instr × Nat)) = _
    cases Decoder.instr pc code pc <;> rfl
  rw [e, h]
  show Except.ok (i, pc + n - pc) = _
  rw [Nat.add_sub_cancel_left]
theorem dk_1 {code : ByteArray} {pc : Nat} (h : DkAt code pc [1]) : decode code pc = .ok (.aconst_null, 1) := dk_of ((dk_bind (dk_u1 (h 0 _ rfl))).trans rfl)
theorem dk_2 {code : ByteArray} {pc : Nat} (h : DkAt code pc [2]) : decode code pc = .ok (.iconst (-1), 1) := dk_of ((dk_bind (dk_u1 (h 0 _ rfl))).trans rfl)
theorem dk_3 {code : ByteArray} {pc : Nat} (h : DkAt code pc [3]) : decode code pc = .ok (.iconst 0, 1) := dk_of ((dk_bind (dk_u1 (h 0 _ rfl))).trans rfl)
theorem dk_4 {code : ByteArray} {pc : Nat} (h : DkAt code pc [4]) : decode code pc = .ok (.iconst 1, 1) := dk_of ((dk_bind (dk_u1 (h 0 _ rfl))).trans rfl)
theorem dk_5 {code : ByteArray} {pc : Nat} (h : DkAt code pc [5]) : decode code pc = .ok (.iconst 2, 1) := dk_of ((dk_bind (dk_u1 (h 0 _ rfl))).trans rfl)
theorem dk_6 {code : ByteArray} {pc : Nat} (h : DkAt code pc [6]) : decode code pc = .ok (.iconst 3, 1) := dk_of ((dk_bind (dk_u1 (h 0 _ rfl))).trans rfl)
theorem dk_7 {code : ByteArray} {pc : Nat} (h : DkAt code pc [7]) : decode code pc = .ok (.iconst 4, 1) := dk_of ((dk_bind (dk_u1 (h 0 _ rfl))).trans rfl)
theorem dk_8 {code : ByteArray} {pc : Nat} (h : DkAt code pc [8]) : decode code pc = .ok (.iconst 5, 1) := dk_of ((dk_bind (dk_u1 (h 0 _ rfl))).trans rfl)
theorem dk_9 {code : ByteArray} {pc : Nat} (h : DkAt code pc [9]) : decode code pc = .ok (.lconst 0, 1) := dk_of ((dk_bind (dk_u1 (h 0 _ rfl))).trans rfl)
theorem dk_10 {code : ByteArray} {pc : Nat} (h : DkAt code pc [10]) : decode code pc = .ok (.lconst 1, 1) := dk_of ((dk_bind (dk_u1 (h 0 _ rfl))).trans rfl)
theorem dk_16 {code : ByteArray} {pc : Nat} (a : UInt8) (h : DkAt code pc [16, a]) : decode code pc = .ok (.bipush (Reader.signed 8 a.toNat), 2) := dk_of ((dk_bind (dk_u1 (h 0 _ rfl))).trans ((dk_bind (dk_map (dk_u1 (h 1 _ rfl)))).trans rfl))
theorem dk_17 {code : ByteArray} {pc : Nat} (a b : UInt8) (h : DkAt code pc [17, a, b]) : decode code pc = .ok (.sipush (Reader.signed 16 (a.toNat * 256 + b.toNat)), 3) := dk_of ((dk_bind (dk_u1 (h 0 _ rfl))).trans ((dk_bind (dk_map (dk_u2 (h 1 _ rfl) (h 2 _ rfl)))).trans rfl))
theorem dk_18 {code : ByteArray} {pc : Nat} (a : UInt8) (h : DkAt code pc [18, a]) : decode code pc = .ok (.ldc a.toNat, 2) := dk_of ((dk_bind (dk_u1 (h 0 _ rfl))).trans ((dk_bind (dk_u1 (h 1 _ rfl))).trans rfl))
theorem dk_19 {code : ByteArray} {pc : Nat} (a b : UInt8) (h : DkAt code pc [19, a, b]) : decode code pc = .ok (.ldc_w (a.toNat * 256 + b.toNat), 3) := dk_of ((dk_bind (dk_u1 (h 0 _ rfl))).trans ((dk_bind (dk_u2 (h 1 _ rfl) (h 2 _ rfl))).trans rfl))
theorem dk_21 {code : ByteArray} {pc : Nat} (a : UInt8) (h : DkAt code pc [21, a]) : decode code pc = .ok (.iload a.toNat, 2) := dk_of ((dk_bind (dk_u1 (h 0 _ rfl))).trans ((dk_bind (dk_u1 (h 1 _ rfl))).trans rfl))
theorem dk_25 {code : ByteArray} {pc : Nat} (a : UInt8) (h : DkAt code pc [25, a]) : decode code pc = .ok (.aload a.toNat, 2) := dk_of ((dk_bind (dk_u1 (h 0 _ rfl))).trans ((dk_bind (dk_u1 (h 1 _ rfl))).trans rfl))
theorem dk_26 {code : ByteArray} {pc : Nat} (h : DkAt code pc [26]) : decode code pc = .ok (.iload_n 0, 1) := dk_of ((dk_bind (dk_u1 (h 0 _ rfl))).trans rfl)
theorem dk_27 {code : ByteArray} {pc : Nat} (h : DkAt code pc [27]) : decode code pc = .ok (.iload_n 1, 1) := dk_of ((dk_bind (dk_u1 (h 0 _ rfl))).trans rfl)
theorem dk_28 {code : ByteArray} {pc : Nat} (h : DkAt code pc [28]) : decode code pc = .ok (.iload_n 2, 1) := dk_of ((dk_bind (dk_u1 (h 0 _ rfl))).trans rfl)
theorem dk_29 {code : ByteArray} {pc : Nat} (h : DkAt code pc [29]) : decode code pc = .ok (.iload_n 3, 1) := dk_of ((dk_bind (dk_u1 (h 0 _ rfl))).trans rfl)
theorem dk_42 {code : ByteArray} {pc : Nat} (h : DkAt code pc [42]) : decode code pc = .ok (.aload_n 0, 1) := dk_of ((dk_bind (dk_u1 (h 0 _ rfl))).trans rfl)
theorem dk_43 {code : ByteArray} {pc : Nat} (h : DkAt code pc [43]) : decode code pc = .ok (.aload_n 1, 1) := dk_of ((dk_bind (dk_u1 (h 0 _ rfl))).trans rfl)
theorem dk_44 {code : ByteArray} {pc : Nat} (h : DkAt code pc [44]) : decode code pc = .ok (.aload_n 2, 1) := dk_of ((dk_bind (dk_u1 (h 0 _ rfl))).trans rfl)
theorem dk_45 {code : ByteArray} {pc : Nat} (h : DkAt code pc [45]) : decode code pc = .ok (.aload_n 3, 1) := dk_of ((dk_bind (dk_u1 (h 0 _ rfl))).trans rfl)
theorem dk_46 {code : ByteArray} {pc : Nat} (h : DkAt code pc [46]) : decode code pc = .ok (.iaload, 1) := dk_of ((dk_bind (dk_u1 (h 0 _ rfl))).trans rfl)
theorem dk_47 {code : ByteArray} {pc : Nat} (h : DkAt code pc [47]) : decode code pc = .ok (.laload, 1) := dk_of ((dk_bind (dk_u1 (h 0 _ rfl))).trans rfl)
theorem dk_50 {code : ByteArray} {pc : Nat} (h : DkAt code pc [50]) : decode code pc = .ok (.aaload, 1) := dk_of ((dk_bind (dk_u1 (h 0 _ rfl))).trans rfl)
theorem dk_51 {code : ByteArray} {pc : Nat} (h : DkAt code pc [51]) : decode code pc = .ok (.baload, 1) := dk_of ((dk_bind (dk_u1 (h 0 _ rfl))).trans rfl)
theorem dk_52 {code : ByteArray} {pc : Nat} (h : DkAt code pc [52]) : decode code pc = .ok (.caload, 1) := dk_of ((dk_bind (dk_u1 (h 0 _ rfl))).trans rfl)
theorem dk_53 {code : ByteArray} {pc : Nat} (h : DkAt code pc [53]) : decode code pc = .ok (.saload, 1) := dk_of ((dk_bind (dk_u1 (h 0 _ rfl))).trans rfl)
theorem dk_54 {code : ByteArray} {pc : Nat} (a : UInt8) (h : DkAt code pc [54, a]) : decode code pc = .ok (.istore a.toNat, 2) := dk_of ((dk_bind (dk_u1 (h 0 _ rfl))).trans ((dk_bind (dk_u1 (h 1 _ rfl))).trans rfl))
theorem dk_58 {code : ByteArray} {pc : Nat} (a : UInt8) (h : DkAt code pc [58, a]) : decode code pc = .ok (.astore a.toNat, 2) := dk_of ((dk_bind (dk_u1 (h 0 _ rfl))).trans ((dk_bind (dk_u1 (h 1 _ rfl))).trans rfl))
theorem dk_59 {code : ByteArray} {pc : Nat} (h : DkAt code pc [59]) : decode code pc = .ok (.istore_n 0, 1) := dk_of ((dk_bind (dk_u1 (h 0 _ rfl))).trans rfl)
theorem dk_60 {code : ByteArray} {pc : Nat} (h : DkAt code pc [60]) : decode code pc = .ok (.istore_n 1, 1) := dk_of ((dk_bind (dk_u1 (h 0 _ rfl))).trans rfl)
theorem dk_61 {code : ByteArray} {pc : Nat} (h : DkAt code pc [61]) : decode code pc = .ok (.istore_n 2, 1) := dk_of ((dk_bind (dk_u1 (h 0 _ rfl))).trans rfl)
theorem dk_62 {code : ByteArray} {pc : Nat} (h : DkAt code pc [62]) : decode code pc = .ok (.istore_n 3, 1) := dk_of ((dk_bind (dk_u1 (h 0 _ rfl))).trans rfl)
theorem dk_76 {code : ByteArray} {pc : Nat} (h : DkAt code pc [76]) : decode code pc = .ok (.astore_n 1, 1) := dk_of ((dk_bind (dk_u1 (h 0 _ rfl))).trans rfl)
theorem dk_77 {code : ByteArray} {pc : Nat} (h : DkAt code pc [77]) : decode code pc = .ok (.astore_n 2, 1) := dk_of ((dk_bind (dk_u1 (h 0 _ rfl))).trans rfl)
theorem dk_78 {code : ByteArray} {pc : Nat} (h : DkAt code pc [78]) : decode code pc = .ok (.astore_n 3, 1) := dk_of ((dk_bind (dk_u1 (h 0 _ rfl))).trans rfl)
theorem dk_79 {code : ByteArray} {pc : Nat} (h : DkAt code pc [79]) : decode code pc = .ok (.iastore, 1) := dk_of ((dk_bind (dk_u1 (h 0 _ rfl))).trans rfl)
theorem dk_80 {code : ByteArray} {pc : Nat} (h : DkAt code pc [80]) : decode code pc = .ok (.lastore, 1) := dk_of ((dk_bind (dk_u1 (h 0 _ rfl))).trans rfl)
theorem dk_83 {code : ByteArray} {pc : Nat} (h : DkAt code pc [83]) : decode code pc = .ok (.aastore, 1) := dk_of ((dk_bind (dk_u1 (h 0 _ rfl))).trans rfl)
theorem dk_84 {code : ByteArray} {pc : Nat} (h : DkAt code pc [84]) : decode code pc = .ok (.bastore, 1) := dk_of ((dk_bind (dk_u1 (h 0 _ rfl))).trans rfl)
theorem dk_87 {code : ByteArray} {pc : Nat} (h : DkAt code pc [87]) : decode code pc = .ok (.pop, 1) := dk_of ((dk_bind (dk_u1 (h 0 _ rfl))).trans rfl)
theorem dk_89 {code : ByteArray} {pc : Nat} (h : DkAt code pc [89]) : decode code pc = .ok (.dup, 1) := dk_of ((dk_bind (dk_u1 (h 0 _ rfl))).trans rfl)
theorem dk_90 {code : ByteArray} {pc : Nat} (h : DkAt code pc [90]) : decode code pc = .ok (.dup_x1, 1) := dk_of ((dk_bind (dk_u1 (h 0 _ rfl))).trans rfl)
theorem dk_92 {code : ByteArray} {pc : Nat} (h : DkAt code pc [92]) : decode code pc = .ok (.dup2, 1) := dk_of ((dk_bind (dk_u1 (h 0 _ rfl))).trans rfl)
theorem dk_96 {code : ByteArray} {pc : Nat} (h : DkAt code pc [96]) : decode code pc = .ok (.iadd, 1) := dk_of ((dk_bind (dk_u1 (h 0 _ rfl))).trans rfl)
theorem dk_100 {code : ByteArray} {pc : Nat} (h : DkAt code pc [100]) : decode code pc = .ok (.isub, 1) := dk_of ((dk_bind (dk_u1 (h 0 _ rfl))).trans rfl)
theorem dk_104 {code : ByteArray} {pc : Nat} (h : DkAt code pc [104]) : decode code pc = .ok (.imul, 1) := dk_of ((dk_bind (dk_u1 (h 0 _ rfl))).trans rfl)
theorem dk_108 {code : ByteArray} {pc : Nat} (h : DkAt code pc [108]) : decode code pc = .ok (.idiv, 1) := dk_of ((dk_bind (dk_u1 (h 0 _ rfl))).trans rfl)
theorem dk_112 {code : ByteArray} {pc : Nat} (h : DkAt code pc [112]) : decode code pc = .ok (.irem, 1) := dk_of ((dk_bind (dk_u1 (h 0 _ rfl))).trans rfl)
theorem dk_116 {code : ByteArray} {pc : Nat} (h : DkAt code pc [116]) : decode code pc = .ok (.ineg, 1) := dk_of ((dk_bind (dk_u1 (h 0 _ rfl))).trans rfl)
theorem dk_120 {code : ByteArray} {pc : Nat} (h : DkAt code pc [120]) : decode code pc = .ok (.ishl, 1) := dk_of ((dk_bind (dk_u1 (h 0 _ rfl))).trans rfl)
theorem dk_122 {code : ByteArray} {pc : Nat} (h : DkAt code pc [122]) : decode code pc = .ok (.ishr, 1) := dk_of ((dk_bind (dk_u1 (h 0 _ rfl))).trans rfl)
theorem dk_124 {code : ByteArray} {pc : Nat} (h : DkAt code pc [124]) : decode code pc = .ok (.iushr, 1) := dk_of ((dk_bind (dk_u1 (h 0 _ rfl))).trans rfl)
theorem dk_126 {code : ByteArray} {pc : Nat} (h : DkAt code pc [126]) : decode code pc = .ok (.iand, 1) := dk_of ((dk_bind (dk_u1 (h 0 _ rfl))).trans rfl)
theorem dk_128 {code : ByteArray} {pc : Nat} (h : DkAt code pc [128]) : decode code pc = .ok (.ior, 1) := dk_of ((dk_bind (dk_u1 (h 0 _ rfl))).trans rfl)
theorem dk_130 {code : ByteArray} {pc : Nat} (h : DkAt code pc [130]) : decode code pc = .ok (.ixor, 1) := dk_of ((dk_bind (dk_u1 (h 0 _ rfl))).trans rfl)
theorem dk_132 {code : ByteArray} {pc : Nat} (a b : UInt8) (h : DkAt code pc [132, a, b]) : decode code pc = .ok (.iinc a.toNat (Reader.signed 8 b.toNat), 3) := dk_of ((dk_bind (dk_u1 (h 0 _ rfl))).trans ((dk_bind (dk_u1 (h 1 _ rfl))).trans ((dk_bind (dk_map (dk_u1 (h 2 _ rfl)))).trans rfl)))
theorem dk_133 {code : ByteArray} {pc : Nat} (h : DkAt code pc [133]) : decode code pc = .ok (.i2l, 1) := dk_of ((dk_bind (dk_u1 (h 0 _ rfl))).trans rfl)
theorem dk_145 {code : ByteArray} {pc : Nat} (h : DkAt code pc [145]) : decode code pc = .ok (.i2b, 1) := dk_of ((dk_bind (dk_u1 (h 0 _ rfl))).trans rfl)
theorem dk_146 {code : ByteArray} {pc : Nat} (h : DkAt code pc [146]) : decode code pc = .ok (.i2c, 1) := dk_of ((dk_bind (dk_u1 (h 0 _ rfl))).trans rfl)
theorem dk_148 {code : ByteArray} {pc : Nat} (h : DkAt code pc [148]) : decode code pc = .ok (.lcmp, 1) := dk_of ((dk_bind (dk_u1 (h 0 _ rfl))).trans rfl)
theorem dk_153 {code : ByteArray} {pc : Nat} (a b : UInt8) (h : DkAt code pc [153, a, b]) : decode code pc = .ok (.ifCond .eq (Reader.signed 16 (a.toNat * 256 + b.toNat)), 3) := dk_of ((dk_bind (dk_u1 (h 0 _ rfl))).trans ((dk_bind (dk_map (dk_u2 (h 1 _ rfl) (h 2 _ rfl)))).trans rfl))
theorem dk_154 {code : ByteArray} {pc : Nat} (a b : UInt8) (h : DkAt code pc [154, a, b]) : decode code pc = .ok (.ifCond .ne (Reader.signed 16 (a.toNat * 256 + b.toNat)), 3) := dk_of ((dk_bind (dk_u1 (h 0 _ rfl))).trans ((dk_bind (dk_map (dk_u2 (h 1 _ rfl) (h 2 _ rfl)))).trans rfl))
theorem dk_155 {code : ByteArray} {pc : Nat} (a b : UInt8) (h : DkAt code pc [155, a, b]) : decode code pc = .ok (.ifCond .lt (Reader.signed 16 (a.toNat * 256 + b.toNat)), 3) := dk_of ((dk_bind (dk_u1 (h 0 _ rfl))).trans ((dk_bind (dk_map (dk_u2 (h 1 _ rfl) (h 2 _ rfl)))).trans rfl))
theorem dk_156 {code : ByteArray} {pc : Nat} (a b : UInt8) (h : DkAt code pc [156, a, b]) : decode code pc = .ok (.ifCond .ge (Reader.signed 16 (a.toNat * 256 + b.toNat)), 3) := dk_of ((dk_bind (dk_u1 (h 0 _ rfl))).trans ((dk_bind (dk_map (dk_u2 (h 1 _ rfl) (h 2 _ rfl)))).trans rfl))
theorem dk_157 {code : ByteArray} {pc : Nat} (a b : UInt8) (h : DkAt code pc [157, a, b]) : decode code pc = .ok (.ifCond .gt (Reader.signed 16 (a.toNat * 256 + b.toNat)), 3) := dk_of ((dk_bind (dk_u1 (h 0 _ rfl))).trans ((dk_bind (dk_map (dk_u2 (h 1 _ rfl) (h 2 _ rfl)))).trans rfl))
theorem dk_158 {code : ByteArray} {pc : Nat} (a b : UInt8) (h : DkAt code pc [158, a, b]) : decode code pc = .ok (.ifCond .le (Reader.signed 16 (a.toNat * 256 + b.toNat)), 3) := dk_of ((dk_bind (dk_u1 (h 0 _ rfl))).trans ((dk_bind (dk_map (dk_u2 (h 1 _ rfl) (h 2 _ rfl)))).trans rfl))
theorem dk_159 {code : ByteArray} {pc : Nat} (a b : UInt8) (h : DkAt code pc [159, a, b]) : decode code pc = .ok (.if_icmp .eq (Reader.signed 16 (a.toNat * 256 + b.toNat)), 3) := dk_of ((dk_bind (dk_u1 (h 0 _ rfl))).trans ((dk_bind (dk_map (dk_u2 (h 1 _ rfl) (h 2 _ rfl)))).trans rfl))
theorem dk_160 {code : ByteArray} {pc : Nat} (a b : UInt8) (h : DkAt code pc [160, a, b]) : decode code pc = .ok (.if_icmp .ne (Reader.signed 16 (a.toNat * 256 + b.toNat)), 3) := dk_of ((dk_bind (dk_u1 (h 0 _ rfl))).trans ((dk_bind (dk_map (dk_u2 (h 1 _ rfl) (h 2 _ rfl)))).trans rfl))
theorem dk_161 {code : ByteArray} {pc : Nat} (a b : UInt8) (h : DkAt code pc [161, a, b]) : decode code pc = .ok (.if_icmp .lt (Reader.signed 16 (a.toNat * 256 + b.toNat)), 3) := dk_of ((dk_bind (dk_u1 (h 0 _ rfl))).trans ((dk_bind (dk_map (dk_u2 (h 1 _ rfl) (h 2 _ rfl)))).trans rfl))
theorem dk_162 {code : ByteArray} {pc : Nat} (a b : UInt8) (h : DkAt code pc [162, a, b]) : decode code pc = .ok (.if_icmp .ge (Reader.signed 16 (a.toNat * 256 + b.toNat)), 3) := dk_of ((dk_bind (dk_u1 (h 0 _ rfl))).trans ((dk_bind (dk_map (dk_u2 (h 1 _ rfl) (h 2 _ rfl)))).trans rfl))
theorem dk_163 {code : ByteArray} {pc : Nat} (a b : UInt8) (h : DkAt code pc [163, a, b]) : decode code pc = .ok (.if_icmp .gt (Reader.signed 16 (a.toNat * 256 + b.toNat)), 3) := dk_of ((dk_bind (dk_u1 (h 0 _ rfl))).trans ((dk_bind (dk_map (dk_u2 (h 1 _ rfl) (h 2 _ rfl)))).trans rfl))
theorem dk_164 {code : ByteArray} {pc : Nat} (a b : UInt8) (h : DkAt code pc [164, a, b]) : decode code pc = .ok (.if_icmp .le (Reader.signed 16 (a.toNat * 256 + b.toNat)), 3) := dk_of ((dk_bind (dk_u1 (h 0 _ rfl))).trans ((dk_bind (dk_map (dk_u2 (h 1 _ rfl) (h 2 _ rfl)))).trans rfl))
theorem dk_166 {code : ByteArray} {pc : Nat} (a b : UInt8) (h : DkAt code pc [166, a, b]) : decode code pc = .ok (.if_acmp .ne (Reader.signed 16 (a.toNat * 256 + b.toNat)), 3) := dk_of ((dk_bind (dk_u1 (h 0 _ rfl))).trans ((dk_bind (dk_map (dk_u2 (h 1 _ rfl) (h 2 _ rfl)))).trans rfl))
theorem dk_167 {code : ByteArray} {pc : Nat} (a b : UInt8) (h : DkAt code pc [167, a, b]) : decode code pc = .ok (.goto (Reader.signed 16 (a.toNat * 256 + b.toNat)), 3) := dk_of ((dk_bind (dk_u1 (h 0 _ rfl))).trans ((dk_bind (dk_map (dk_u2 (h 1 _ rfl) (h 2 _ rfl)))).trans rfl))
theorem dk_172 {code : ByteArray} {pc : Nat} (h : DkAt code pc [172]) : decode code pc = .ok (.ireturn, 1) := dk_of ((dk_bind (dk_u1 (h 0 _ rfl))).trans rfl)
theorem dk_176 {code : ByteArray} {pc : Nat} (h : DkAt code pc [176]) : decode code pc = .ok (.areturn, 1) := dk_of ((dk_bind (dk_u1 (h 0 _ rfl))).trans rfl)
theorem dk_177 {code : ByteArray} {pc : Nat} (h : DkAt code pc [177]) : decode code pc = .ok (.return_, 1) := dk_of ((dk_bind (dk_u1 (h 0 _ rfl))).trans rfl)
theorem dk_178 {code : ByteArray} {pc : Nat} (a b : UInt8) (h : DkAt code pc [178, a, b]) : decode code pc = .ok (.getstatic (a.toNat * 256 + b.toNat), 3) := dk_of ((dk_bind (dk_u1 (h 0 _ rfl))).trans ((dk_bind (dk_u2 (h 1 _ rfl) (h 2 _ rfl))).trans rfl))
theorem dk_180 {code : ByteArray} {pc : Nat} (a b : UInt8) (h : DkAt code pc [180, a, b]) : decode code pc = .ok (.getfield (a.toNat * 256 + b.toNat), 3) := dk_of ((dk_bind (dk_u1 (h 0 _ rfl))).trans ((dk_bind (dk_u2 (h 1 _ rfl) (h 2 _ rfl))).trans rfl))
theorem dk_181 {code : ByteArray} {pc : Nat} (a b : UInt8) (h : DkAt code pc [181, a, b]) : decode code pc = .ok (.putfield (a.toNat * 256 + b.toNat), 3) := dk_of ((dk_bind (dk_u1 (h 0 _ rfl))).trans ((dk_bind (dk_u2 (h 1 _ rfl) (h 2 _ rfl))).trans rfl))
theorem dk_182 {code : ByteArray} {pc : Nat} (a b : UInt8) (h : DkAt code pc [182, a, b]) : decode code pc = .ok (.invokevirtual (a.toNat * 256 + b.toNat), 3) := dk_of ((dk_bind (dk_u1 (h 0 _ rfl))).trans ((dk_bind (dk_u2 (h 1 _ rfl) (h 2 _ rfl))).trans rfl))
theorem dk_183 {code : ByteArray} {pc : Nat} (a b : UInt8) (h : DkAt code pc [183, a, b]) : decode code pc = .ok (.invokespecial (a.toNat * 256 + b.toNat), 3) := dk_of ((dk_bind (dk_u1 (h 0 _ rfl))).trans ((dk_bind (dk_u2 (h 1 _ rfl) (h 2 _ rfl))).trans rfl))
theorem dk_184 {code : ByteArray} {pc : Nat} (a b : UInt8) (h : DkAt code pc [184, a, b]) : decode code pc = .ok (.invokestatic (a.toNat * 256 + b.toNat), 3) := dk_of ((dk_bind (dk_u1 (h 0 _ rfl))).trans ((dk_bind (dk_u2 (h 1 _ rfl) (h 2 _ rfl))).trans rfl))
theorem dk_187 {code : ByteArray} {pc : Nat} (a b : UInt8) (h : DkAt code pc [187, a, b]) : decode code pc = .ok (.new (a.toNat * 256 + b.toNat), 3) := dk_of ((dk_bind (dk_u1 (h 0 _ rfl))).trans ((dk_bind (dk_u2 (h 1 _ rfl) (h 2 _ rfl))).trans rfl))
theorem dk_188_4 {code : ByteArray} {pc : Nat} (h : DkAt code pc [188, 4]) : decode code pc = .ok (.newarray .boolean, 2) := dk_of ((dk_bind (dk_u1 (h 0 _ rfl))).trans ((dk_bind (dk_u1 (h 1 _ rfl))).trans rfl))
theorem dk_188_8 {code : ByteArray} {pc : Nat} (h : DkAt code pc [188, 8]) : decode code pc = .ok (.newarray .byte, 2) := dk_of ((dk_bind (dk_u1 (h 0 _ rfl))).trans ((dk_bind (dk_u1 (h 1 _ rfl))).trans rfl))
theorem dk_188_10 {code : ByteArray} {pc : Nat} (h : DkAt code pc [188, 10]) : decode code pc = .ok (.newarray .int, 2) := dk_of ((dk_bind (dk_u1 (h 0 _ rfl))).trans ((dk_bind (dk_u1 (h 1 _ rfl))).trans rfl))
theorem dk_188_11 {code : ByteArray} {pc : Nat} (h : DkAt code pc [188, 11]) : decode code pc = .ok (.newarray .long, 2) := dk_of ((dk_bind (dk_u1 (h 0 _ rfl))).trans ((dk_bind (dk_u1 (h 1 _ rfl))).trans rfl))
theorem dk_189 {code : ByteArray} {pc : Nat} (a b : UInt8) (h : DkAt code pc [189, a, b]) : decode code pc = .ok (.anewarray (a.toNat * 256 + b.toNat), 3) := dk_of ((dk_bind (dk_u1 (h 0 _ rfl))).trans ((dk_bind (dk_u2 (h 1 _ rfl) (h 2 _ rfl))).trans rfl))
theorem dk_190 {code : ByteArray} {pc : Nat} (h : DkAt code pc [190]) : decode code pc = .ok (.arraylength, 1) := dk_of ((dk_bind (dk_u1 (h 0 _ rfl))).trans rfl)
theorem dk_191 {code : ByteArray} {pc : Nat} (h : DkAt code pc [191]) : decode code pc = .ok (.athrow, 1) := dk_of ((dk_bind (dk_u1 (h 0 _ rfl))).trans rfl)
theorem dk_192 {code : ByteArray} {pc : Nat} (a b : UInt8) (h : DkAt code pc [192, a, b]) : decode code pc = .ok (.checkcast (a.toNat * 256 + b.toNat), 3) := dk_of ((dk_bind (dk_u1 (h 0 _ rfl))).trans ((dk_bind (dk_u2 (h 1 _ rfl) (h 2 _ rfl))).trans rfl))
theorem dk_193 {code : ByteArray} {pc : Nat} (a b : UInt8) (h : DkAt code pc [193, a, b]) : decode code pc = .ok (.instanceof (a.toNat * 256 + b.toNat), 3) := dk_of ((dk_bind (dk_u1 (h 0 _ rfl))).trans ((dk_bind (dk_u2 (h 1 _ rfl) (h 2 _ rfl))).trans rfl))
theorem dk_199 {code : ByteArray} {pc : Nat} (a b : UInt8) (h : DkAt code pc [199, a, b]) : decode code pc = .ok (.ifnonnull (Reader.signed 16 (a.toNat * 256 + b.toNat)), 3) := dk_of ((dk_bind (dk_u1 (h 0 _ rfl))).trans ((dk_bind (dk_map (dk_u2 (h 1 _ rfl) (h 2 _ rfl)))).trans rfl))
theorem q253 : (Jvm.Cond.arrayClass Jvm.ClassFile.FieldType.byte) ∈ lw_all := lw_g (lw_at lw_m1 90 rfl) rfl
set_option maxRecDepth 100000
theorem q254 : (Jvm.Cond.arrayClass Jvm.ClassFile.FieldType.int) ∈ lw_all := lw_g (lw_at lw_m1 91 rfl) rfl
theorem q255 : (Jvm.Cond.arrayClass Jvm.ClassFile.FieldType.boolean) ∈ lw_all := lw_g (lw_at lw_m1 92 rfl) rfl
theorem q365 : (Jvm.Cond.arrayOver (Jvm.ClassFile.FieldType.object "GateLifter$Net")) ∈ lw_tbl := lw_at lw_m1 202 rfl
theorem q413 : (Jvm.Cond.arrayOver (Jvm.ClassFile.FieldType.array Jvm.ClassFile.FieldType.int)) ∈ lw_tbl := lw_at lw_m2 10 rfl
theorem q2323 : (Jvm.Cond.arrayClass Jvm.ClassFile.FieldType.long) ∈ lw_all := lw_g (lw_at lw_m10 0 rfl) rfl
theorem q2356 : (Jvm.Cond.arrayClass Jvm.ClassFile.FieldType.char) ∈ lw_all := lw_g (lw_at lw_m10 33 rfl) rfl
theorem q2357 : (Jvm.Cond.arrayClass Jvm.ClassFile.FieldType.short) ∈ lw_all := lw_g (lw_at lw_m10 34 rfl) rfl
/-! GateLifter$Net -/
set_option maxRecDepth 100000
def RX3 : String := "GateLifter$Net"
def TX3 : u_T := fun k => match k with
  | 0 => ("GateLifter$Net", "from", "[I", true)
  | 1 => ("GateLifter$Net", "to", "[I", true)
  | 2 => ("GateLifter$Net", "rows", "[I", true)
  | 3 => ("GateLifter$Net", "tolls", "[I", true)
  | 4 => ("GateLifter$Net", "open", "[Z", true)
  | 5 => ("GateLifter$Net", "nodes", "I", false)
  | 6 => ("GateLifter$Net", "root", "I", false)
  | 7 => ("GateLifter$Net", "exit", "I", false)
  | _ => ("GateLifter$Net", "many", "I", false)
def tyX3 : Nat → FieldType := fun k => match k with
  | 0 => .array .int
  | 1 => .array .int
  | 2 => .array .int
  | 3 => .array .int
  | 4 => .array .boolean
  | 5 => .int
  | 6 => .int
  | 7 => .int
  | _ => .int
abbrev wsX30 : List Cond := u_ws RX3 TX3 9
theorem nmX3 : ∀ a, a < 9 → ∀ b, b < 9 → a ≠ b → (TX3 a).2.1 ≠ (TX3 b).2.1 := by decide +kernel
theorem tyX3_ok : ∀ k, k < 9 → parseFieldDescriptor (TX3 k).2.2.1 = some (tyX3 k) := by decide +kernel
abbrev cX3_init : ByteArray := prog_4_method_1_code
def yX3_init : MethodName := ⟨RX3, "<init>", "()V"⟩
def dkwX3_init_1 : List UInt8 := [188, 10, 181, 0, 18, 42, 16, 16, 188, 10, 181, 0, 21, 42, 16, 60, 188, 4, 181, 0, 24, 177]
abbrev dktX3_init_1 : List UInt8 := dkwX3_init_1 ++ []
def dkwX3_init_0 : List UInt8 := [42, 183, 0, 3, 42, 16, 60, 188, 10, 181, 0, 9, 42, 16, 60, 188, 10, 181, 0, 15, 42, 16, 16]
abbrev dktX3_init_0 : List UInt8 := dkwX3_init_0 ++ dktX3_init_1
theorem dksX3_init_0 : cX3_init.data.toList.drop 0 = dktX3_init_0 := by decide +kernel
theorem dksX3_init_1 : cX3_init.data.toList.drop 23 = dktX3_init_1 := dk_seg dksX3_init_0 23 rfl rfl
theorem dX3_init_0 : decode cX3_init 0 = .ok (.aload_n 0, 1) := dk_42 (dk_at dksX3_init_0 0 rfl rfl)
theorem dX3_init_1 : decode cX3_init 1 = .ok (.invokespecial 3, 3) := dk_183 0 3 (dk_at dksX3_init_0 1 rfl rfl)
theorem dX3_init_4 : decode cX3_init 4 = .ok (.aload_n 0, 1) := dk_42 (dk_at dksX3_init_0 4 rfl rfl)
theorem dX3_init_5 : decode cX3_init 5 = .ok (.bipush 60, 2) := dk_16 60 (dk_at dksX3_init_0 5 rfl rfl)
theorem dX3_init_7 : decode cX3_init 7 = .ok (.newarray .int, 2) := dk_188_10 (dk_at dksX3_init_0 7 rfl rfl)
theorem dX3_init_9 : decode cX3_init 9 = .ok (.putfield 9, 3) := dk_181 0 9 (dk_at dksX3_init_0 9 rfl rfl)
theorem dX3_init_12 : decode cX3_init 12 = .ok (.aload_n 0, 1) := dk_42 (dk_at dksX3_init_0 12 rfl rfl)
theorem dX3_init_13 : decode cX3_init 13 = .ok (.bipush 60, 2) := dk_16 60 (dk_at dksX3_init_0 13 rfl rfl)
theorem dX3_init_15 : decode cX3_init 15 = .ok (.newarray .int, 2) := dk_188_10 (dk_at dksX3_init_0 15 rfl rfl)
theorem dX3_init_17 : decode cX3_init 17 = .ok (.putfield 15, 3) := dk_181 0 15 (dk_at dksX3_init_0 17 rfl rfl)
theorem dX3_init_20 : decode cX3_init 20 = .ok (.aload_n 0, 1) := dk_42 (dk_at dksX3_init_0 20 rfl rfl)
theorem dX3_init_21 : decode cX3_init 21 = .ok (.bipush 16, 2) := dk_16 16 (dk_at dksX3_init_0 21 rfl rfl)
theorem dX3_init_23 : decode cX3_init 23 = .ok (.newarray .int, 2) := dk_188_10 (dk_at dksX3_init_1 0 rfl rfl)
theorem dX3_init_25 : decode cX3_init 25 = .ok (.putfield 18, 3) := dk_181 0 18 (dk_at dksX3_init_1 2 rfl rfl)
theorem dX3_init_28 : decode cX3_init 28 = .ok (.aload_n 0, 1) := dk_42 (dk_at dksX3_init_1 5 rfl rfl)
theorem dX3_init_29 : decode cX3_init 29 = .ok (.bipush 16, 2) := dk_16 16 (dk_at dksX3_init_1 6 rfl rfl)
theorem dX3_init_31 : decode cX3_init 31 = .ok (.newarray .int, 2) := dk_188_10 (dk_at dksX3_init_1 8 rfl rfl)
theorem dX3_init_33 : decode cX3_init 33 = .ok (.putfield 21, 3) := dk_181 0 21 (dk_at dksX3_init_1 10 rfl rfl)
theorem dX3_init_36 : decode cX3_init 36 = .ok (.aload_n 0, 1) := dk_42 (dk_at dksX3_init_1 13 rfl rfl)
theorem dX3_init_37 : decode cX3_init 37 = .ok (.bipush 60, 2) := dk_16 60 (dk_at dksX3_init_1 14 rfl rfl)
theorem dX3_init_39 : decode cX3_init 39 = .ok (.newarray .boolean, 2) := dk_188_4 (dk_at dksX3_init_1 16 rfl rfl)
theorem dX3_init_41 : decode cX3_init 41 = .ok (.putfield 24, 3) := dk_181 0 24 (dk_at dksX3_init_1 18 rfl rfl)
theorem dX3_init_44 : decode cX3_init 44 = .ok (.return_, 1) := dk_177 (dk_at dksX3_init_1 21 rfl rfl)
abbrev cX3_begins : ByteArray := prog_4_method_2_code
def yX3_begins : MethodName := ⟨RX3, "begins", "(I)LGateLifter$Net;"⟩
def dkwX3_begins_2 : List UInt8 := [176]
abbrev dktX3_begins_2 : List UInt8 := dkwX3_begins_2 ++ []
def dkwX3_begins_1 : List UInt8 := [28, 16, 16, 162, 0, 16, 42, 180, 0, 21, 28, 4, 79, 132, 2, 1, 167, 255, 240, 42, 182, 0, 41, 42]
abbrev dktX3_begins_1 : List UInt8 := dkwX3_begins_1 ++ dktX3_begins_2
def dkwX3_begins_0 : List UInt8 := [42, 27, 181, 0, 28, 42, 3, 181, 0, 32, 42, 27, 4, 100, 181, 0, 35, 42, 3, 181, 0, 38, 3, 61]
abbrev dktX3_begins_0 : List UInt8 := dkwX3_begins_0 ++ dktX3_begins_1
theorem dksX3_begins_0 : cX3_begins.data.toList.drop 0 = dktX3_begins_0 := by decide +kernel
theorem dksX3_begins_1 : cX3_begins.data.toList.drop 24 = dktX3_begins_1 := dk_seg dksX3_begins_0 24 rfl rfl
theorem dksX3_begins_2 : cX3_begins.data.toList.drop 48 = dktX3_begins_2 := dk_seg dksX3_begins_1 24 rfl rfl
theorem dX3_begins_0 : decode cX3_begins 0 = .ok (.aload_n 0, 1) := dk_42 (dk_at dksX3_begins_0 0 rfl rfl)
theorem dX3_begins_1 : decode cX3_begins 1 = .ok (.iload_n 1, 1) := dk_27 (dk_at dksX3_begins_0 1 rfl rfl)
theorem dX3_begins_2 : decode cX3_begins 2 = .ok (.putfield 28, 3) := dk_181 0 28 (dk_at dksX3_begins_0 2 rfl rfl)
theorem dX3_begins_5 : decode cX3_begins 5 = .ok (.aload_n 0, 1) := dk_42 (dk_at dksX3_begins_0 5 rfl rfl)
theorem dX3_begins_6 : decode cX3_begins 6 = .ok (.iconst 0, 1) := dk_3 (dk_at dksX3_begins_0 6 rfl rfl)
theorem dX3_begins_7 : decode cX3_begins 7 = .ok (.putfield 32, 3) := dk_181 0 32 (dk_at dksX3_begins_0 7 rfl rfl)
theorem dX3_begins_10 : decode cX3_begins 10 = .ok (.aload_n 0, 1) := dk_42 (dk_at dksX3_begins_0 10 rfl rfl)
theorem dX3_begins_11 : decode cX3_begins 11 = .ok (.iload_n 1, 1) := dk_27 (dk_at dksX3_begins_0 11 rfl rfl)
theorem dX3_begins_12 : decode cX3_begins 12 = .ok (.iconst 1, 1) := dk_4 (dk_at dksX3_begins_0 12 rfl rfl)
theorem dX3_begins_13 : decode cX3_begins 13 = .ok (.isub, 1) := dk_100 (dk_at dksX3_begins_0 13 rfl rfl)
theorem dX3_begins_14 : decode cX3_begins 14 = .ok (.putfield 35, 3) := dk_181 0 35 (dk_at dksX3_begins_0 14 rfl rfl)
theorem dX3_begins_17 : decode cX3_begins 17 = .ok (.aload_n 0, 1) := dk_42 (dk_at dksX3_begins_0 17 rfl rfl)
theorem dX3_begins_18 : decode cX3_begins 18 = .ok (.iconst 0, 1) := dk_3 (dk_at dksX3_begins_0 18 rfl rfl)
theorem dX3_begins_19 : decode cX3_begins 19 = .ok (.putfield 38, 3) := dk_181 0 38 (dk_at dksX3_begins_0 19 rfl rfl)
theorem dX3_begins_22 : decode cX3_begins 22 = .ok (.iconst 0, 1) := dk_3 (dk_at dksX3_begins_0 22 rfl rfl)
theorem dX3_begins_23 : decode cX3_begins 23 = .ok (.istore_n 2, 1) := dk_61 (dk_at dksX3_begins_0 23 rfl rfl)
theorem dX3_begins_24 : decode cX3_begins 24 = .ok (.iload_n 2, 1) := dk_28 (dk_at dksX3_begins_1 0 rfl rfl)
theorem dX3_begins_25 : decode cX3_begins 25 = .ok (.bipush 16, 2) := dk_16 16 (dk_at dksX3_begins_1 1 rfl rfl)
theorem dX3_begins_27 : decode cX3_begins 27 = .ok (.if_icmp .ge 16, 3) := dk_162 0 16 (dk_at dksX3_begins_1 3 rfl rfl)
theorem dX3_begins_30 : decode cX3_begins 30 = .ok (.aload_n 0, 1) := dk_42 (dk_at dksX3_begins_1 6 rfl rfl)
theorem dX3_begins_31 : decode cX3_begins 31 = .ok (.getfield 21, 3) := dk_180 0 21 (dk_at dksX3_begins_1 7 rfl rfl)
theorem dX3_begins_34 : decode cX3_begins 34 = .ok (.iload_n 2, 1) := dk_28 (dk_at dksX3_begins_1 10 rfl rfl)
theorem dX3_begins_35 : decode cX3_begins 35 = .ok (.iconst 1, 1) := dk_4 (dk_at dksX3_begins_1 11 rfl rfl)
theorem dX3_begins_36 : decode cX3_begins 36 = .ok (.iastore, 1) := dk_79 (dk_at dksX3_begins_1 12 rfl rfl)
theorem dX3_begins_37 : decode cX3_begins 37 = .ok (.iinc 2 1, 3) := dk_132 2 1 (dk_at dksX3_begins_1 13 rfl rfl)
theorem dX3_begins_40 : decode cX3_begins 40 = .ok (.goto (-16), 3) := dk_167 255 240 (dk_at dksX3_begins_1 16 rfl rfl)
theorem dX3_begins_43 : decode cX3_begins 43 = .ok (.aload_n 0, 1) := dk_42 (dk_at dksX3_begins_1 19 rfl rfl)
theorem dX3_begins_44 : decode cX3_begins 44 = .ok (.invokevirtual 41, 3) := dk_182 0 41 (dk_at dksX3_begins_1 20 rfl rfl)
theorem dX3_begins_47 : decode cX3_begins 47 = .ok (.aload_n 0, 1) := dk_42 (dk_at dksX3_begins_1 23 rfl rfl)
theorem dX3_begins_48 : decode cX3_begins 48 = .ok (.areturn, 1) := dk_176 (dk_at dksX3_begins_2 0 rfl rfl)
abbrev cX3_rows : ByteArray := prog_4_method_6_code
def yX3_rows : MethodName := ⟨RX3, "rows", "()V"⟩
def dkwX3_rows_2 : List UInt8 := [27, 46, 92, 46, 4, 42, 180, 0, 15, 27, 46, 120, 128, 79, 132, 1, 1, 167, 255, 214, 177]
abbrev dktX3_rows_2 : List UInt8 := dkwX3_rows_2 ++ []
def dkwX3_rows_1 : List UInt8 := [42, 180, 0, 38, 162, 0, 40, 42, 180, 0, 24, 27, 51, 153, 0, 25, 42, 180, 0, 18, 42, 180, 0, 9]
abbrev dktX3_rows_1 : List UInt8 := dkwX3_rows_1 ++ dktX3_rows_2
def dkwX3_rows_0 : List UInt8 := [3, 60, 27, 16, 16, 162, 0, 16, 42, 180, 0, 18, 27, 3, 79, 132, 1, 1, 167, 255, 240, 3, 60, 27]
abbrev dktX3_rows_0 : List UInt8 := dkwX3_rows_0 ++ dktX3_rows_1
theorem dksX3_rows_0 : cX3_rows.data.toList.drop 0 = dktX3_rows_0 := by decide +kernel
theorem dksX3_rows_1 : cX3_rows.data.toList.drop 24 = dktX3_rows_1 := dk_seg dksX3_rows_0 24 rfl rfl
theorem dksX3_rows_2 : cX3_rows.data.toList.drop 48 = dktX3_rows_2 := dk_seg dksX3_rows_1 24 rfl rfl
theorem dX3_rows_0 : decode cX3_rows 0 = .ok (.iconst 0, 1) := dk_3 (dk_at dksX3_rows_0 0 rfl rfl)
theorem dX3_rows_1 : decode cX3_rows 1 = .ok (.istore_n 1, 1) := dk_60 (dk_at dksX3_rows_0 1 rfl rfl)
theorem dX3_rows_2 : decode cX3_rows 2 = .ok (.iload_n 1, 1) := dk_27 (dk_at dksX3_rows_0 2 rfl rfl)
theorem dX3_rows_3 : decode cX3_rows 3 = .ok (.bipush 16, 2) := dk_16 16 (dk_at dksX3_rows_0 3 rfl rfl)
theorem dX3_rows_5 : decode cX3_rows 5 = .ok (.if_icmp .ge 16, 3) := dk_162 0 16 (dk_at dksX3_rows_0 5 rfl rfl)
theorem dX3_rows_8 : decode cX3_rows 8 = .ok (.aload_n 0, 1) := dk_42 (dk_at dksX3_rows_0 8 rfl rfl)
theorem dX3_rows_9 : decode cX3_rows 9 = .ok (.getfield 18, 3) := dk_180 0 18 (dk_at dksX3_rows_0 9 rfl rfl)
theorem dX3_rows_12 : decode cX3_rows 12 = .ok (.iload_n 1, 1) := dk_27 (dk_at dksX3_rows_0 12 rfl rfl)
theorem dX3_rows_13 : decode cX3_rows 13 = .ok (.iconst 0, 1) := dk_3 (dk_at dksX3_rows_0 13 rfl rfl)
theorem dX3_rows_14 : decode cX3_rows 14 = .ok (.iastore, 1) := dk_79 (dk_at dksX3_rows_0 14 rfl rfl)
theorem dX3_rows_15 : decode cX3_rows 15 = .ok (.iinc 1 1, 3) := dk_132 1 1 (dk_at dksX3_rows_0 15 rfl rfl)
theorem dX3_rows_18 : decode cX3_rows 18 = .ok (.goto (-16), 3) := dk_167 255 240 (dk_at dksX3_rows_0 18 rfl rfl)
theorem dX3_rows_21 : decode cX3_rows 21 = .ok (.iconst 0, 1) := dk_3 (dk_at dksX3_rows_0 21 rfl rfl)
theorem dX3_rows_22 : decode cX3_rows 22 = .ok (.istore_n 1, 1) := dk_60 (dk_at dksX3_rows_0 22 rfl rfl)
theorem dX3_rows_23 : decode cX3_rows 23 = .ok (.iload_n 1, 1) := dk_27 (dk_at dksX3_rows_0 23 rfl rfl)
theorem dX3_rows_24 : decode cX3_rows 24 = .ok (.aload_n 0, 1) := dk_42 (dk_at dksX3_rows_1 0 rfl rfl)
theorem dX3_rows_25 : decode cX3_rows 25 = .ok (.getfield 38, 3) := dk_180 0 38 (dk_at dksX3_rows_1 1 rfl rfl)
theorem dX3_rows_28 : decode cX3_rows 28 = .ok (.if_icmp .ge 40, 3) := dk_162 0 40 (dk_at dksX3_rows_1 4 rfl rfl)
theorem dX3_rows_31 : decode cX3_rows 31 = .ok (.aload_n 0, 1) := dk_42 (dk_at dksX3_rows_1 7 rfl rfl)
theorem dX3_rows_32 : decode cX3_rows 32 = .ok (.getfield 24, 3) := dk_180 0 24 (dk_at dksX3_rows_1 8 rfl rfl)
theorem dX3_rows_35 : decode cX3_rows 35 = .ok (.iload_n 1, 1) := dk_27 (dk_at dksX3_rows_1 11 rfl rfl)
theorem dX3_rows_36 : decode cX3_rows 36 = .ok (.baload, 1) := dk_51 (dk_at dksX3_rows_1 12 rfl rfl)
theorem dX3_rows_37 : decode cX3_rows 37 = .ok (.ifCond .eq 25, 3) := dk_153 0 25 (dk_at dksX3_rows_1 13 rfl rfl)
theorem dX3_rows_40 : decode cX3_rows 40 = .ok (.aload_n 0, 1) := dk_42 (dk_at dksX3_rows_1 16 rfl rfl)
theorem dX3_rows_41 : decode cX3_rows 41 = .ok (.getfield 18, 3) := dk_180 0 18 (dk_at dksX3_rows_1 17 rfl rfl)
theorem dX3_rows_44 : decode cX3_rows 44 = .ok (.aload_n 0, 1) := dk_42 (dk_at dksX3_rows_1 20 rfl rfl)
theorem dX3_rows_45 : decode cX3_rows 45 = .ok (.getfield 9, 3) := dk_180 0 9 (dk_at dksX3_rows_1 21 rfl rfl)
theorem dX3_rows_48 : decode cX3_rows 48 = .ok (.iload_n 1, 1) := dk_27 (dk_at dksX3_rows_2 0 rfl rfl)
theorem dX3_rows_49 : decode cX3_rows 49 = .ok (.iaload, 1) := dk_46 (dk_at dksX3_rows_2 1 rfl rfl)
theorem dX3_rows_50 : decode cX3_rows 50 = .ok (.dup2, 1) := dk_92 (dk_at dksX3_rows_2 2 rfl rfl)
theorem dX3_rows_51 : decode cX3_rows 51 = .ok (.iaload, 1) := dk_46 (dk_at dksX3_rows_2 3 rfl rfl)
theorem dX3_rows_52 : decode cX3_rows 52 = .ok (.iconst 1, 1) := dk_4 (dk_at dksX3_rows_2 4 rfl rfl)
theorem dX3_rows_53 : decode cX3_rows 53 = .ok (.aload_n 0, 1) := dk_42 (dk_at dksX3_rows_2 5 rfl rfl)
theorem dX3_rows_54 : decode cX3_rows 54 = .ok (.getfield 15, 3) := dk_180 0 15 (dk_at dksX3_rows_2 6 rfl rfl)
theorem dX3_rows_57 : decode cX3_rows 57 = .ok (.iload_n 1, 1) := dk_27 (dk_at dksX3_rows_2 9 rfl rfl)
theorem dX3_rows_58 : decode cX3_rows 58 = .ok (.iaload, 1) := dk_46 (dk_at dksX3_rows_2 10 rfl rfl)
theorem dX3_rows_59 : decode cX3_rows 59 = .ok (.ishl, 1) := dk_120 (dk_at dksX3_rows_2 11 rfl rfl)
theorem dX3_rows_60 : decode cX3_rows 60 = .ok (.ior, 1) := dk_128 (dk_at dksX3_rows_2 12 rfl rfl)
theorem dX3_rows_61 : decode cX3_rows 61 = .ok (.iastore, 1) := dk_79 (dk_at dksX3_rows_2 13 rfl rfl)
theorem dX3_rows_62 : decode cX3_rows 62 = .ok (.iinc 1 1, 3) := dk_132 1 1 (dk_at dksX3_rows_2 14 rfl rfl)
theorem dX3_rows_65 : decode cX3_rows 65 = .ok (.goto (-42), 3) := dk_167 255 214 (dk_at dksX3_rows_2 17 rfl rfl)
theorem dX3_rows_68 : decode cX3_rows 68 = .ok (.return_, 1) := dk_177 (dk_at dksX3_rows_2 20 rfl rfl)
abbrev cX3_nodes : ByteArray := prog_4_method_4_code
def yX3_nodes : MethodName := ⟨RX3, "nodes", "()I"⟩
theorem dX3_nodes_0 : decode cX3_nodes 0 = .ok (.aload_n 0, 1) := by decide +kernel
theorem dX3_nodes_1 : decode cX3_nodes 1 = .ok (.getfield 28, 3) := by decide +kernel
theorem dX3_nodes_4 : decode cX3_nodes 4 = .ok (.ireturn, 1) := by decide +kernel
abbrev cX3_next : ByteArray := prog_4_method_5_code
def yX3_next : MethodName := ⟨RX3, "next", "(I)I"⟩
def dkwX3_next_0 : List UInt8 := [42, 180, 0, 18, 27, 46, 172]
abbrev dktX3_next_0 : List UInt8 := dkwX3_next_0 ++ []
theorem dksX3_next_0 : cX3_next.data.toList.drop 0 = dktX3_next_0 := by decide +kernel
theorem dX3_next_0 : decode cX3_next 0 = .ok (.aload_n 0, 1) := dk_42 (dk_at dksX3_next_0 0 rfl rfl)
theorem dX3_next_1 : decode cX3_next 1 = .ok (.getfield 18, 3) := dk_180 0 18 (dk_at dksX3_next_0 1 rfl rfl)
theorem dX3_next_4 : decode cX3_next 4 = .ok (.iload_n 1, 1) := dk_27 (dk_at dksX3_next_0 4 rfl rfl)
theorem dX3_next_5 : decode cX3_next 5 = .ok (.iaload, 1) := dk_46 (dk_at dksX3_next_0 5 rfl rfl)
theorem dX3_next_6 : decode cX3_next 6 = .ok (.ireturn, 1) := dk_172 (dk_at dksX3_next_0 6 rfl rfl)
abbrev cX3_be : ByteArray := prog_4_method_3_code
def yX3_be : MethodName := ⟨RX3, "be", "(LGateLifter$Net;)V"⟩
def dkwX3_be_4 : List UInt8 := [180, 0, 35, 181, 0, 35, 42, 43, 180, 0, 38, 181, 0, 38, 177]
abbrev dktX3_be_4 : List UInt8 := dkwX3_be_4 ++ []
def dkwX3_be_3 : List UInt8 := [16, 16, 184, 0, 43, 42, 43, 180, 0, 28, 181, 0, 28, 42, 43, 180, 0, 32, 181, 0, 32, 42, 43]
abbrev dktX3_be_3 : List UInt8 := dkwX3_be_3 ++ dktX3_be_4
def dkwX3_be_2 : List UInt8 := [180, 0, 18, 3, 42, 180, 0, 18, 3, 16, 16, 184, 0, 43, 43, 180, 0, 21, 3, 42, 180, 0, 21, 3]
abbrev dktX3_be_2 : List UInt8 := dkwX3_be_2 ++ dktX3_be_3
def dkwX3_be_1 : List UInt8 := [3, 16, 60, 184, 0, 43, 43, 180, 0, 24, 3, 42, 180, 0, 24, 3, 16, 60, 184, 0, 43, 43]
abbrev dktX3_be_1 : List UInt8 := dkwX3_be_1 ++ dktX3_be_2
def dkwX3_be_0 : List UInt8 := [43, 180, 0, 9, 3, 42, 180, 0, 9, 3, 16, 60, 184, 0, 43, 43, 180, 0, 15, 3, 42, 180, 0, 15]
abbrev dktX3_be_0 : List UInt8 := dkwX3_be_0 ++ dktX3_be_1
theorem dksX3_be_0 : cX3_be.data.toList.drop 0 = dktX3_be_0 := by decide +kernel
theorem dksX3_be_1 : cX3_be.data.toList.drop 24 = dktX3_be_1 := dk_seg dksX3_be_0 24 rfl rfl
theorem dksX3_be_2 : cX3_be.data.toList.drop 46 = dktX3_be_2 := dk_seg dksX3_be_1 22 rfl rfl
theorem dksX3_be_3 : cX3_be.data.toList.drop 70 = dktX3_be_3 := dk_seg dksX3_be_2 24 rfl rfl
theorem dksX3_be_4 : cX3_be.data.toList.drop 93 = dktX3_be_4 := dk_seg dksX3_be_3 23 rfl rfl
theorem dX3_be_0 : decode cX3_be 0 = .ok (.aload_n 1, 1) := dk_43 (dk_at dksX3_be_0 0 rfl rfl)
theorem dX3_be_1 : decode cX3_be 1 = .ok (.getfield 9, 3) := dk_180 0 9 (dk_at dksX3_be_0 1 rfl rfl)
theorem dX3_be_4 : decode cX3_be 4 = .ok (.iconst 0, 1) := dk_3 (dk_at dksX3_be_0 4 rfl rfl)
theorem dX3_be_5 : decode cX3_be 5 = .ok (.aload_n 0, 1) := dk_42 (dk_at dksX3_be_0 5 rfl rfl)
theorem dX3_be_6 : decode cX3_be 6 = .ok (.getfield 9, 3) := dk_180 0 9 (dk_at dksX3_be_0 6 rfl rfl)
theorem dX3_be_9 : decode cX3_be 9 = .ok (.iconst 0, 1) := dk_3 (dk_at dksX3_be_0 9 rfl rfl)
theorem dX3_be_10 : decode cX3_be 10 = .ok (.bipush 60, 2) := dk_16 60 (dk_at dksX3_be_0 10 rfl rfl)
theorem dX3_be_12 : decode cX3_be 12 = .ok (.invokestatic 43, 3) := dk_184 0 43 (dk_at dksX3_be_0 12 rfl rfl)
theorem dX3_be_15 : decode cX3_be 15 = .ok (.aload_n 1, 1) := dk_43 (dk_at dksX3_be_0 15 rfl rfl)
theorem dX3_be_16 : decode cX3_be 16 = .ok (.getfield 15, 3) := dk_180 0 15 (dk_at dksX3_be_0 16 rfl rfl)
theorem dX3_be_19 : decode cX3_be 19 = .ok (.iconst 0, 1) := dk_3 (dk_at dksX3_be_0 19 rfl rfl)
theorem dX3_be_20 : decode cX3_be 20 = .ok (.aload_n 0, 1) := dk_42 (dk_at dksX3_be_0 20 rfl rfl)
theorem dX3_be_21 : decode cX3_be 21 = .ok (.getfield 15, 3) := dk_180 0 15 (dk_at dksX3_be_0 21 rfl rfl)
theorem dX3_be_24 : decode cX3_be 24 = .ok (.iconst 0, 1) := dk_3 (dk_at dksX3_be_1 0 rfl rfl)
theorem dX3_be_25 : decode cX3_be 25 = .ok (.bipush 60, 2) := dk_16 60 (dk_at dksX3_be_1 1 rfl rfl)
theorem dX3_be_27 : decode cX3_be 27 = .ok (.invokestatic 43, 3) := dk_184 0 43 (dk_at dksX3_be_1 3 rfl rfl)
theorem dX3_be_30 : decode cX3_be 30 = .ok (.aload_n 1, 1) := dk_43 (dk_at dksX3_be_1 6 rfl rfl)
theorem dX3_be_31 : decode cX3_be 31 = .ok (.getfield 24, 3) := dk_180 0 24 (dk_at dksX3_be_1 7 rfl rfl)
theorem dX3_be_34 : decode cX3_be 34 = .ok (.iconst 0, 1) := dk_3 (dk_at dksX3_be_1 10 rfl rfl)
theorem dX3_be_35 : decode cX3_be 35 = .ok (.aload_n 0, 1) := dk_42 (dk_at dksX3_be_1 11 rfl rfl)
theorem dX3_be_36 : decode cX3_be 36 = .ok (.getfield 24, 3) := dk_180 0 24 (dk_at dksX3_be_1 12 rfl rfl)
theorem dX3_be_39 : decode cX3_be 39 = .ok (.iconst 0, 1) := dk_3 (dk_at dksX3_be_1 15 rfl rfl)
theorem dX3_be_40 : decode cX3_be 40 = .ok (.bipush 60, 2) := dk_16 60 (dk_at dksX3_be_1 16 rfl rfl)
theorem dX3_be_42 : decode cX3_be 42 = .ok (.invokestatic 43, 3) := dk_184 0 43 (dk_at dksX3_be_1 18 rfl rfl)
theorem dX3_be_45 : decode cX3_be 45 = .ok (.aload_n 1, 1) := dk_43 (dk_at dksX3_be_1 21 rfl rfl)
theorem dX3_be_46 : decode cX3_be 46 = .ok (.getfield 18, 3) := dk_180 0 18 (dk_at dksX3_be_2 0 rfl rfl)
theorem dX3_be_49 : decode cX3_be 49 = .ok (.iconst 0, 1) := dk_3 (dk_at dksX3_be_2 3 rfl rfl)
theorem dX3_be_50 : decode cX3_be 50 = .ok (.aload_n 0, 1) := dk_42 (dk_at dksX3_be_2 4 rfl rfl)
theorem dX3_be_51 : decode cX3_be 51 = .ok (.getfield 18, 3) := dk_180 0 18 (dk_at dksX3_be_2 5 rfl rfl)
theorem dX3_be_54 : decode cX3_be 54 = .ok (.iconst 0, 1) := dk_3 (dk_at dksX3_be_2 8 rfl rfl)
theorem dX3_be_55 : decode cX3_be 55 = .ok (.bipush 16, 2) := dk_16 16 (dk_at dksX3_be_2 9 rfl rfl)
theorem dX3_be_57 : decode cX3_be 57 = .ok (.invokestatic 43, 3) := dk_184 0 43 (dk_at dksX3_be_2 11 rfl rfl)
theorem dX3_be_60 : decode cX3_be 60 = .ok (.aload_n 1, 1) := dk_43 (dk_at dksX3_be_2 14 rfl rfl)
theorem dX3_be_61 : decode cX3_be 61 = .ok (.getfield 21, 3) := dk_180 0 21 (dk_at dksX3_be_2 15 rfl rfl)
theorem dX3_be_64 : decode cX3_be 64 = .ok (.iconst 0, 1) := dk_3 (dk_at dksX3_be_2 18 rfl rfl)
theorem dX3_be_65 : decode cX3_be 65 = .ok (.aload_n 0, 1) := dk_42 (dk_at dksX3_be_2 19 rfl rfl)
theorem dX3_be_66 : decode cX3_be 66 = .ok (.getfield 21, 3) := dk_180 0 21 (dk_at dksX3_be_2 20 rfl rfl)
theorem dX3_be_69 : decode cX3_be 69 = .ok (.iconst 0, 1) := dk_3 (dk_at dksX3_be_2 23 rfl rfl)
theorem dX3_be_70 : decode cX3_be 70 = .ok (.bipush 16, 2) := dk_16 16 (dk_at dksX3_be_3 0 rfl rfl)
theorem dX3_be_72 : decode cX3_be 72 = .ok (.invokestatic 43, 3) := dk_184 0 43 (dk_at dksX3_be_3 2 rfl rfl)
theorem dX3_be_75 : decode cX3_be 75 = .ok (.aload_n 0, 1) := dk_42 (dk_at dksX3_be_3 5 rfl rfl)
theorem dX3_be_76 : decode cX3_be 76 = .ok (.aload_n 1, 1) := dk_43 (dk_at dksX3_be_3 6 rfl rfl)
theorem dX3_be_77 : decode cX3_be 77 = .ok (.getfield 28, 3) := dk_180 0 28 (dk_at dksX3_be_3 7 rfl rfl)
theorem dX3_be_80 : decode cX3_be 80 = .ok (.putfield 28, 3) := dk_181 0 28 (dk_at dksX3_be_3 10 rfl rfl)
theorem dX3_be_83 : decode cX3_be 83 = .ok (.aload_n 0, 1) := dk_42 (dk_at dksX3_be_3 13 rfl rfl)
theorem dX3_be_84 : decode cX3_be 84 = .ok (.aload_n 1, 1) := dk_43 (dk_at dksX3_be_3 14 rfl rfl)
theorem dX3_be_85 : decode cX3_be 85 = .ok (.getfield 32, 3) := dk_180 0 32 (dk_at dksX3_be_3 15 rfl rfl)
theorem dX3_be_88 : decode cX3_be 88 = .ok (.putfield 32, 3) := dk_181 0 32 (dk_at dksX3_be_3 18 rfl rfl)
theorem dX3_be_91 : decode cX3_be 91 = .ok (.aload_n 0, 1) := dk_42 (dk_at dksX3_be_3 21 rfl rfl)
theorem dX3_be_92 : decode cX3_be 92 = .ok (.aload_n 1, 1) := dk_43 (dk_at dksX3_be_3 22 rfl rfl)
theorem dX3_be_93 : decode cX3_be 93 = .ok (.getfield 35, 3) := dk_180 0 35 (dk_at dksX3_be_4 0 rfl rfl)
theorem dX3_be_96 : decode cX3_be 96 = .ok (.putfield 35, 3) := dk_181 0 35 (dk_at dksX3_be_4 3 rfl rfl)
theorem dX3_be_99 : decode cX3_be 99 = .ok (.aload_n 0, 1) := dk_42 (dk_at dksX3_be_4 6 rfl rfl)
theorem dX3_be_100 : decode cX3_be 100 = .ok (.aload_n 1, 1) := dk_43 (dk_at dksX3_be_4 7 rfl rfl)
theorem dX3_be_101 : decode cX3_be 101 = .ok (.getfield 38, 3) := dk_180 0 38 (dk_at dksX3_be_4 8 rfl rfl)
theorem dX3_be_104 : decode cX3_be 104 = .ok (.putfield 38, 3) := dk_181 0 38 (dk_at dksX3_be_4 11 rfl rfl)
theorem dX3_be_107 : decode cX3_be 107 = .ok (.return_, 1) := dk_177 (dk_at dksX3_be_4 14 rfl rfl)
abbrev cX3_isOpenFrom : ByteArray := prog_4_method_14_code
def yX3_isOpenFrom : MethodName := ⟨RX3, "isOpenFrom", "(II)Z"⟩
def dkwX3_isOpenFrom_1 : List UInt8 := [167, 0, 4, 3, 172]
abbrev dktX3_isOpenFrom_1 : List UInt8 := dkwX3_isOpenFrom_1 ++ []
def dkwX3_isOpenFrom_0 : List UInt8 := [42, 180, 0, 24, 27, 51, 153, 0, 20, 28, 42, 180, 0, 9, 27, 46, 184, 0, 60, 153, 0, 7, 4]
abbrev dktX3_isOpenFrom_0 : List UInt8 := dkwX3_isOpenFrom_0 ++ dktX3_isOpenFrom_1
theorem dksX3_isOpenFrom_0 : cX3_isOpenFrom.data.toList.drop 0 = dktX3_isOpenFrom_0 := by decide +kernel
theorem dksX3_isOpenFrom_1 : cX3_isOpenFrom.data.toList.drop 23 = dktX3_isOpenFrom_1 := dk_seg dksX3_isOpenFrom_0 23 rfl rfl
theorem dX3_isOpenFrom_0 : decode cX3_isOpenFrom 0 = .ok (.aload_n 0, 1) := dk_42 (dk_at dksX3_isOpenFrom_0 0 rfl rfl)
theorem dX3_isOpenFrom_1 : decode cX3_isOpenFrom 1 = .ok (.getfield 24, 3) := dk_180 0 24 (dk_at dksX3_isOpenFrom_0 1 rfl rfl)
theorem dX3_isOpenFrom_4 : decode cX3_isOpenFrom 4 = .ok (.iload_n 1, 1) := dk_27 (dk_at dksX3_isOpenFrom_0 4 rfl rfl)
theorem dX3_isOpenFrom_5 : decode cX3_isOpenFrom 5 = .ok (.baload, 1) := dk_51 (dk_at dksX3_isOpenFrom_0 5 rfl rfl)
theorem dX3_isOpenFrom_6 : decode cX3_isOpenFrom 6 = .ok (.ifCond .eq 20, 3) := dk_153 0 20 (dk_at dksX3_isOpenFrom_0 6 rfl rfl)
theorem dX3_isOpenFrom_9 : decode cX3_isOpenFrom 9 = .ok (.iload_n 2, 1) := dk_28 (dk_at dksX3_isOpenFrom_0 9 rfl rfl)
theorem dX3_isOpenFrom_10 : decode cX3_isOpenFrom 10 = .ok (.aload_n 0, 1) := dk_42 (dk_at dksX3_isOpenFrom_0 10 rfl rfl)
theorem dX3_isOpenFrom_11 : decode cX3_isOpenFrom 11 = .ok (.getfield 9, 3) := dk_180 0 9 (dk_at dksX3_isOpenFrom_0 11 rfl rfl)
theorem dX3_isOpenFrom_14 : decode cX3_isOpenFrom 14 = .ok (.iload_n 1, 1) := dk_27 (dk_at dksX3_isOpenFrom_0 14 rfl rfl)
theorem dX3_isOpenFrom_15 : decode cX3_isOpenFrom 15 = .ok (.iaload, 1) := dk_46 (dk_at dksX3_isOpenFrom_0 15 rfl rfl)
theorem dX3_isOpenFrom_16 : decode cX3_isOpenFrom 16 = .ok (.invokestatic 60, 3) := dk_184 0 60 (dk_at dksX3_isOpenFrom_0 16 rfl rfl)
theorem dX3_isOpenFrom_19 : decode cX3_isOpenFrom 19 = .ok (.ifCond .eq 7, 3) := dk_153 0 7 (dk_at dksX3_isOpenFrom_0 19 rfl rfl)
theorem dX3_isOpenFrom_22 : decode cX3_isOpenFrom 22 = .ok (.iconst 1, 1) := dk_4 (dk_at dksX3_isOpenFrom_0 22 rfl rfl)
theorem dX3_isOpenFrom_23 : decode cX3_isOpenFrom 23 = .ok (.goto 4, 3) := dk_167 0 4 (dk_at dksX3_isOpenFrom_1 0 rfl rfl)
theorem dX3_isOpenFrom_26 : decode cX3_isOpenFrom 26 = .ok (.iconst 0, 1) := dk_3 (dk_at dksX3_isOpenFrom_1 3 rfl rfl)
theorem dX3_isOpenFrom_27 : decode cX3_isOpenFrom 27 = .ok (.ireturn, 1) := dk_172 (dk_at dksX3_isOpenFrom_1 4 rfl rfl)
abbrev cX3_reachedBut : ByteArray := prog_4_method_15_code
def yX3_reachedBut : MethodName := ⟨RX3, "reachedBut", "(I)I"⟩
def dkwX3_reachedBut_1 : List UInt8 := [182, 0, 41, 28, 172]
abbrev dktX3_reachedBut_1 : List UInt8 := dkwX3_reachedBut_1 ++ []
def dkwX3_reachedBut_0 : List UInt8 := [42, 180, 0, 24, 27, 3, 84, 42, 182, 0, 41, 42, 182, 0, 64, 61, 42, 180, 0, 24, 27, 4, 84, 42]
abbrev dktX3_reachedBut_0 : List UInt8 := dkwX3_reachedBut_0 ++ dktX3_reachedBut_1
theorem dksX3_reachedBut_0 : cX3_reachedBut.data.toList.drop 0 = dktX3_reachedBut_0 := by decide +kernel
theorem dksX3_reachedBut_1 : cX3_reachedBut.data.toList.drop 24 = dktX3_reachedBut_1 := dk_seg dksX3_reachedBut_0 24 rfl rfl
theorem dX3_reachedBut_0 : decode cX3_reachedBut 0 = .ok (.aload_n 0, 1) := dk_42 (dk_at dksX3_reachedBut_0 0 rfl rfl)
theorem dX3_reachedBut_1 : decode cX3_reachedBut 1 = .ok (.getfield 24, 3) := dk_180 0 24 (dk_at dksX3_reachedBut_0 1 rfl rfl)
theorem dX3_reachedBut_4 : decode cX3_reachedBut 4 = .ok (.iload_n 1, 1) := dk_27 (dk_at dksX3_reachedBut_0 4 rfl rfl)
theorem dX3_reachedBut_5 : decode cX3_reachedBut 5 = .ok (.iconst 0, 1) := dk_3 (dk_at dksX3_reachedBut_0 5 rfl rfl)
theorem dX3_reachedBut_6 : decode cX3_reachedBut 6 = .ok (.bastore, 1) := dk_84 (dk_at dksX3_reachedBut_0 6 rfl rfl)
theorem dX3_reachedBut_7 : decode cX3_reachedBut 7 = .ok (.aload_n 0, 1) := dk_42 (dk_at dksX3_reachedBut_0 7 rfl rfl)
theorem dX3_reachedBut_8 : decode cX3_reachedBut 8 = .ok (.invokevirtual 41, 3) := dk_182 0 41 (dk_at dksX3_reachedBut_0 8 rfl rfl)
theorem dX3_reachedBut_11 : decode cX3_reachedBut 11 = .ok (.aload_n 0, 1) := dk_42 (dk_at dksX3_reachedBut_0 11 rfl rfl)
theorem dX3_reachedBut_12 : decode cX3_reachedBut 12 = .ok (.invokevirtual 64, 3) := dk_182 0 64 (dk_at dksX3_reachedBut_0 12 rfl rfl)
theorem dX3_reachedBut_15 : decode cX3_reachedBut 15 = .ok (.istore_n 2, 1) := dk_61 (dk_at dksX3_reachedBut_0 15 rfl rfl)
theorem dX3_reachedBut_16 : decode cX3_reachedBut 16 = .ok (.aload_n 0, 1) := dk_42 (dk_at dksX3_reachedBut_0 16 rfl rfl)
theorem dX3_reachedBut_17 : decode cX3_reachedBut 17 = .ok (.getfield 24, 3) := dk_180 0 24 (dk_at dksX3_reachedBut_0 17 rfl rfl)
theorem dX3_reachedBut_20 : decode cX3_reachedBut 20 = .ok (.iload_n 1, 1) := dk_27 (dk_at dksX3_reachedBut_0 20 rfl rfl)
theorem dX3_reachedBut_21 : decode cX3_reachedBut 21 = .ok (.iconst 1, 1) := dk_4 (dk_at dksX3_reachedBut_0 21 rfl rfl)
theorem dX3_reachedBut_22 : decode cX3_reachedBut 22 = .ok (.bastore, 1) := dk_84 (dk_at dksX3_reachedBut_0 22 rfl rfl)
theorem dX3_reachedBut_23 : decode cX3_reachedBut 23 = .ok (.aload_n 0, 1) := dk_42 (dk_at dksX3_reachedBut_0 23 rfl rfl)
theorem dX3_reachedBut_24 : decode cX3_reachedBut 24 = .ok (.invokevirtual 41, 3) := dk_182 0 41 (dk_at dksX3_reachedBut_1 0 rfl rfl)
theorem dX3_reachedBut_27 : decode cX3_reachedBut 27 = .ok (.iload_n 2, 1) := dk_28 (dk_at dksX3_reachedBut_1 3 rfl rfl)
theorem dX3_reachedBut_28 : decode cX3_reachedBut 28 = .ok (.ireturn, 1) := dk_172 (dk_at dksX3_reachedBut_1 4 rfl rfl)
abbrev cX3_reached : ByteArray := prog_4_method_9_code
def yX3_reached : MethodName := ⟨RX3, "reached", "()I"⟩
def dkwX3_reached_0 : List UInt8 := [42, 42, 180, 0, 32, 3, 182, 0, 49, 172]
abbrev dktX3_reached_0 : List UInt8 := dkwX3_reached_0 ++ []
theorem dksX3_reached_0 : cX3_reached.data.toList.drop 0 = dktX3_reached_0 := by decide +kernel
theorem dX3_reached_0 : decode cX3_reached 0 = .ok (.aload_n 0, 1) := dk_42 (dk_at dksX3_reached_0 0 rfl rfl)
theorem dX3_reached_1 : decode cX3_reached 1 = .ok (.aload_n 0, 1) := dk_42 (dk_at dksX3_reached_0 1 rfl rfl)
theorem dX3_reached_2 : decode cX3_reached 2 = .ok (.getfield 32, 3) := dk_180 0 32 (dk_at dksX3_reached_0 2 rfl rfl)
theorem dX3_reached_5 : decode cX3_reached 5 = .ok (.iconst 0, 1) := dk_3 (dk_at dksX3_reached_0 5 rfl rfl)
theorem dX3_reached_6 : decode cX3_reached 6 = .ok (.invokevirtual 49, 3) := dk_182 0 49 (dk_at dksX3_reached_0 6 rfl rfl)
theorem dX3_reached_9 : decode cX3_reached 9 = .ok (.ireturn, 1) := dk_172 (dk_at dksX3_reached_0 9 rfl rfl)
abbrev cX3_tells : ByteArray := prog_4_method_10_code
def yX3_tells : MethodName := ⟨RX3, "tells", "(IZ)I"⟩
def dkwX3_tells_2 : List UInt8 := [181, 0, 32, 3, 172]
abbrev dktX3_tells_2 : List UInt8 := dkwX3_tells_2 ++ []
def dkwX3_tells_1 : List UInt8 := [180, 0, 32, 27, 160, 0, 5, 7, 172, 28, 153, 0, 11, 42, 27, 181, 0, 35, 167, 0, 8, 42, 27]
abbrev dktX3_tells_1 : List UInt8 := dkwX3_tells_1 ++ dktX3_tells_2
def dkwX3_tells_0 : List UInt8 := [42, 27, 182, 0, 53, 154, 0, 5, 4, 172, 28, 153, 0, 10, 42, 180, 0, 35, 167, 0, 7, 42]
abbrev dktX3_tells_0 : List UInt8 := dkwX3_tells_0 ++ dktX3_tells_1
theorem dksX3_tells_0 : cX3_tells.data.toList.drop 0 = dktX3_tells_0 := by decide +kernel
theorem dksX3_tells_1 : cX3_tells.data.toList.drop 22 = dktX3_tells_1 := dk_seg dksX3_tells_0 22 rfl rfl
theorem dksX3_tells_2 : cX3_tells.data.toList.drop 45 = dktX3_tells_2 := dk_seg dksX3_tells_1 23 rfl rfl
theorem dX3_tells_0 : decode cX3_tells 0 = .ok (.aload_n 0, 1) := dk_42 (dk_at dksX3_tells_0 0 rfl rfl)
theorem dX3_tells_1 : decode cX3_tells 1 = .ok (.iload_n 1, 1) := dk_27 (dk_at dksX3_tells_0 1 rfl rfl)
theorem dX3_tells_2 : decode cX3_tells 2 = .ok (.invokevirtual 53, 3) := dk_182 0 53 (dk_at dksX3_tells_0 2 rfl rfl)
theorem dX3_tells_5 : decode cX3_tells 5 = .ok (.ifCond .ne 5, 3) := dk_154 0 5 (dk_at dksX3_tells_0 5 rfl rfl)
theorem dX3_tells_8 : decode cX3_tells 8 = .ok (.iconst 1, 1) := dk_4 (dk_at dksX3_tells_0 8 rfl rfl)
theorem dX3_tells_9 : decode cX3_tells 9 = .ok (.ireturn, 1) := dk_172 (dk_at dksX3_tells_0 9 rfl rfl)
theorem dX3_tells_10 : decode cX3_tells 10 = .ok (.iload_n 2, 1) := dk_28 (dk_at dksX3_tells_0 10 rfl rfl)
theorem dX3_tells_11 : decode cX3_tells 11 = .ok (.ifCond .eq 10, 3) := dk_153 0 10 (dk_at dksX3_tells_0 11 rfl rfl)
theorem dX3_tells_14 : decode cX3_tells 14 = .ok (.aload_n 0, 1) := dk_42 (dk_at dksX3_tells_0 14 rfl rfl)
theorem dX3_tells_15 : decode cX3_tells 15 = .ok (.getfield 35, 3) := dk_180 0 35 (dk_at dksX3_tells_0 15 rfl rfl)
theorem dX3_tells_18 : decode cX3_tells 18 = .ok (.goto 7, 3) := dk_167 0 7 (dk_at dksX3_tells_0 18 rfl rfl)
theorem dX3_tells_21 : decode cX3_tells 21 = .ok (.aload_n 0, 1) := dk_42 (dk_at dksX3_tells_0 21 rfl rfl)
theorem dX3_tells_22 : decode cX3_tells 22 = .ok (.getfield 32, 3) := dk_180 0 32 (dk_at dksX3_tells_1 0 rfl rfl)
theorem dX3_tells_25 : decode cX3_tells 25 = .ok (.iload_n 1, 1) := dk_27 (dk_at dksX3_tells_1 3 rfl rfl)
theorem dX3_tells_26 : decode cX3_tells 26 = .ok (.if_icmp .ne 5, 3) := dk_160 0 5 (dk_at dksX3_tells_1 4 rfl rfl)
theorem dX3_tells_29 : decode cX3_tells 29 = .ok (.iconst 4, 1) := dk_7 (dk_at dksX3_tells_1 7 rfl rfl)
theorem dX3_tells_30 : decode cX3_tells 30 = .ok (.ireturn, 1) := dk_172 (dk_at dksX3_tells_1 8 rfl rfl)
theorem dX3_tells_31 : decode cX3_tells 31 = .ok (.iload_n 2, 1) := dk_28 (dk_at dksX3_tells_1 9 rfl rfl)
theorem dX3_tells_32 : decode cX3_tells 32 = .ok (.ifCond .eq 11, 3) := dk_153 0 11 (dk_at dksX3_tells_1 10 rfl rfl)
theorem dX3_tells_35 : decode cX3_tells 35 = .ok (.aload_n 0, 1) := dk_42 (dk_at dksX3_tells_1 13 rfl rfl)
theorem dX3_tells_36 : decode cX3_tells 36 = .ok (.iload_n 1, 1) := dk_27 (dk_at dksX3_tells_1 14 rfl rfl)
theorem dX3_tells_37 : decode cX3_tells 37 = .ok (.putfield 35, 3) := dk_181 0 35 (dk_at dksX3_tells_1 15 rfl rfl)
theorem dX3_tells_40 : decode cX3_tells 40 = .ok (.goto 8, 3) := dk_167 0 8 (dk_at dksX3_tells_1 18 rfl rfl)
theorem dX3_tells_43 : decode cX3_tells 43 = .ok (.aload_n 0, 1) := dk_42 (dk_at dksX3_tells_1 21 rfl rfl)
theorem dX3_tells_44 : decode cX3_tells 44 = .ok (.iload_n 1, 1) := dk_27 (dk_at dksX3_tells_1 22 rfl rfl)
theorem dX3_tells_45 : decode cX3_tells 45 = .ok (.putfield 32, 3) := dk_181 0 32 (dk_at dksX3_tells_2 0 rfl rfl)
theorem dX3_tells_48 : decode cX3_tells 48 = .ok (.iconst 0, 1) := dk_3 (dk_at dksX3_tells_2 3 rfl rfl)
theorem dX3_tells_49 : decode cX3_tells 49 = .ok (.ireturn, 1) := dk_172 (dk_at dksX3_tells_2 4 rfl rfl)
abbrev cX3_isNode : ByteArray := prog_4_method_7_code
def yX3_isNode : MethodName := ⟨RX3, "isNode", "(I)Z"⟩
def dkwX3_isNode_0 : List UInt8 := [27, 155, 0, 15, 27, 42, 180, 0, 28, 162, 0, 7, 4, 167, 0, 4, 3, 172]
abbrev dktX3_isNode_0 : List UInt8 := dkwX3_isNode_0 ++ []
theorem dksX3_isNode_0 : cX3_isNode.data.toList.drop 0 = dktX3_isNode_0 := by decide +kernel
theorem dX3_isNode_0 : decode cX3_isNode 0 = .ok (.iload_n 1, 1) := dk_27 (dk_at dksX3_isNode_0 0 rfl rfl)
theorem dX3_isNode_1 : decode cX3_isNode 1 = .ok (.ifCond .lt 15, 3) := dk_155 0 15 (dk_at dksX3_isNode_0 1 rfl rfl)
theorem dX3_isNode_4 : decode cX3_isNode 4 = .ok (.iload_n 1, 1) := dk_27 (dk_at dksX3_isNode_0 4 rfl rfl)
theorem dX3_isNode_5 : decode cX3_isNode 5 = .ok (.aload_n 0, 1) := dk_42 (dk_at dksX3_isNode_0 5 rfl rfl)
theorem dX3_isNode_6 : decode cX3_isNode 6 = .ok (.getfield 28, 3) := dk_180 0 28 (dk_at dksX3_isNode_0 6 rfl rfl)
theorem dX3_isNode_9 : decode cX3_isNode 9 = .ok (.if_icmp .ge 7, 3) := dk_162 0 7 (dk_at dksX3_isNode_0 9 rfl rfl)
theorem dX3_isNode_12 : decode cX3_isNode 12 = .ok (.iconst 1, 1) := dk_4 (dk_at dksX3_isNode_0 12 rfl rfl)
theorem dX3_isNode_13 : decode cX3_isNode 13 = .ok (.goto 4, 3) := dk_167 0 4 (dk_at dksX3_isNode_0 13 rfl rfl)
theorem dX3_isNode_16 : decode cX3_isNode 16 = .ok (.iconst 0, 1) := dk_3 (dk_at dksX3_isNode_0 16 rfl rfl)
theorem dX3_isNode_17 : decode cX3_isNode 17 = .ok (.ireturn, 1) := dk_172 (dk_at dksX3_isNode_0 17 rfl rfl)
abbrev cX3_lays : ByteArray := prog_4_method_12_code
def yX3_lays : MethodName := ⟨RX3, "lays", "(II)I"⟩
def dkwX3_lays_3 : List UInt8 := [182, 0, 41, 3, 172]
abbrev dktX3_lays_3 : List UInt8 := dkwX3_lays_3 ++ []
def dkwX3_lays_2 : List UInt8 := [79, 42, 180, 0, 24, 42, 180, 0, 38, 4, 84, 42, 89, 180, 0, 38, 4, 96, 181, 0, 38, 42]
abbrev dktX3_lays_2 : List UInt8 := dkwX3_lays_2 ++ dktX3_lays_3
def dkwX3_lays_1 : List UInt8 := [160, 0, 5, 5, 172, 42, 180, 0, 9, 42, 180, 0, 38, 27, 79, 42, 180, 0, 15, 42, 180, 0, 38, 28]
abbrev dktX3_lays_1 : List UInt8 := dkwX3_lays_1 ++ dktX3_lays_2
def dkwX3_lays_0 : List UInt8 := [42, 27, 182, 0, 53, 153, 0, 11, 42, 28, 182, 0, 53, 154, 0, 5, 4, 172, 42, 180, 0, 38, 16, 60]
abbrev dktX3_lays_0 : List UInt8 := dkwX3_lays_0 ++ dktX3_lays_1
theorem dksX3_lays_0 : cX3_lays.data.toList.drop 0 = dktX3_lays_0 := by decide +kernel
theorem dksX3_lays_1 : cX3_lays.data.toList.drop 24 = dktX3_lays_1 := dk_seg dksX3_lays_0 24 rfl rfl
theorem dksX3_lays_2 : cX3_lays.data.toList.drop 48 = dktX3_lays_2 := dk_seg dksX3_lays_1 24 rfl rfl
theorem dksX3_lays_3 : cX3_lays.data.toList.drop 70 = dktX3_lays_3 := dk_seg dksX3_lays_2 22 rfl rfl
theorem dX3_lays_0 : decode cX3_lays 0 = .ok (.aload_n 0, 1) := dk_42 (dk_at dksX3_lays_0 0 rfl rfl)
theorem dX3_lays_1 : decode cX3_lays 1 = .ok (.iload_n 1, 1) := dk_27 (dk_at dksX3_lays_0 1 rfl rfl)
theorem dX3_lays_2 : decode cX3_lays 2 = .ok (.invokevirtual 53, 3) := dk_182 0 53 (dk_at dksX3_lays_0 2 rfl rfl)
theorem dX3_lays_5 : decode cX3_lays 5 = .ok (.ifCond .eq 11, 3) := dk_153 0 11 (dk_at dksX3_lays_0 5 rfl rfl)
theorem dX3_lays_8 : decode cX3_lays 8 = .ok (.aload_n 0, 1) := dk_42 (dk_at dksX3_lays_0 8 rfl rfl)
theorem dX3_lays_9 : decode cX3_lays 9 = .ok (.iload_n 2, 1) := dk_28 (dk_at dksX3_lays_0 9 rfl rfl)
theorem dX3_lays_10 : decode cX3_lays 10 = .ok (.invokevirtual 53, 3) := dk_182 0 53 (dk_at dksX3_lays_0 10 rfl rfl)
theorem dX3_lays_13 : decode cX3_lays 13 = .ok (.ifCond .ne 5, 3) := dk_154 0 5 (dk_at dksX3_lays_0 13 rfl rfl)
theorem dX3_lays_16 : decode cX3_lays 16 = .ok (.iconst 1, 1) := dk_4 (dk_at dksX3_lays_0 16 rfl rfl)
theorem dX3_lays_17 : decode cX3_lays 17 = .ok (.ireturn, 1) := dk_172 (dk_at dksX3_lays_0 17 rfl rfl)
theorem dX3_lays_18 : decode cX3_lays 18 = .ok (.aload_n 0, 1) := dk_42 (dk_at dksX3_lays_0 18 rfl rfl)
theorem dX3_lays_19 : decode cX3_lays 19 = .ok (.getfield 38, 3) := dk_180 0 38 (dk_at dksX3_lays_0 19 rfl rfl)
theorem dX3_lays_22 : decode cX3_lays 22 = .ok (.bipush 60, 2) := dk_16 60 (dk_at dksX3_lays_0 22 rfl rfl)
theorem dX3_lays_24 : decode cX3_lays 24 = .ok (.if_icmp .ne 5, 3) := dk_160 0 5 (dk_at dksX3_lays_1 0 rfl rfl)
theorem dX3_lays_27 : decode cX3_lays 27 = .ok (.iconst 2, 1) := dk_5 (dk_at dksX3_lays_1 3 rfl rfl)
theorem dX3_lays_28 : decode cX3_lays 28 = .ok (.ireturn, 1) := dk_172 (dk_at dksX3_lays_1 4 rfl rfl)
theorem dX3_lays_29 : decode cX3_lays 29 = .ok (.aload_n 0, 1) := dk_42 (dk_at dksX3_lays_1 5 rfl rfl)
theorem dX3_lays_30 : decode cX3_lays 30 = .ok (.getfield 9, 3) := dk_180 0 9 (dk_at dksX3_lays_1 6 rfl rfl)
theorem dX3_lays_33 : decode cX3_lays 33 = .ok (.aload_n 0, 1) := dk_42 (dk_at dksX3_lays_1 9 rfl rfl)
theorem dX3_lays_34 : decode cX3_lays 34 = .ok (.getfield 38, 3) := dk_180 0 38 (dk_at dksX3_lays_1 10 rfl rfl)
theorem dX3_lays_37 : decode cX3_lays 37 = .ok (.iload_n 1, 1) := dk_27 (dk_at dksX3_lays_1 13 rfl rfl)
theorem dX3_lays_38 : decode cX3_lays 38 = .ok (.iastore, 1) := dk_79 (dk_at dksX3_lays_1 14 rfl rfl)
theorem dX3_lays_39 : decode cX3_lays 39 = .ok (.aload_n 0, 1) := dk_42 (dk_at dksX3_lays_1 15 rfl rfl)
theorem dX3_lays_40 : decode cX3_lays 40 = .ok (.getfield 15, 3) := dk_180 0 15 (dk_at dksX3_lays_1 16 rfl rfl)
theorem dX3_lays_43 : decode cX3_lays 43 = .ok (.aload_n 0, 1) := dk_42 (dk_at dksX3_lays_1 19 rfl rfl)
theorem dX3_lays_44 : decode cX3_lays 44 = .ok (.getfield 38, 3) := dk_180 0 38 (dk_at dksX3_lays_1 20 rfl rfl)
theorem dX3_lays_47 : decode cX3_lays 47 = .ok (.iload_n 2, 1) := dk_28 (dk_at dksX3_lays_1 23 rfl rfl)
theorem dX3_lays_48 : decode cX3_lays 48 = .ok (.iastore, 1) := dk_79 (dk_at dksX3_lays_2 0 rfl rfl)
theorem dX3_lays_49 : decode cX3_lays 49 = .ok (.aload_n 0, 1) := dk_42 (dk_at dksX3_lays_2 1 rfl rfl)
theorem dX3_lays_50 : decode cX3_lays 50 = .ok (.getfield 24, 3) := dk_180 0 24 (dk_at dksX3_lays_2 2 rfl rfl)
theorem dX3_lays_53 : decode cX3_lays 53 = .ok (.aload_n 0, 1) := dk_42 (dk_at dksX3_lays_2 5 rfl rfl)
theorem dX3_lays_54 : decode cX3_lays 54 = .ok (.getfield 38, 3) := dk_180 0 38 (dk_at dksX3_lays_2 6 rfl rfl)
theorem dX3_lays_57 : decode cX3_lays 57 = .ok (.iconst 1, 1) := dk_4 (dk_at dksX3_lays_2 9 rfl rfl)
theorem dX3_lays_58 : decode cX3_lays 58 = .ok (.bastore, 1) := dk_84 (dk_at dksX3_lays_2 10 rfl rfl)
theorem dX3_lays_59 : decode cX3_lays 59 = .ok (.aload_n 0, 1) := dk_42 (dk_at dksX3_lays_2 11 rfl rfl)
theorem dX3_lays_60 : decode cX3_lays 60 = .ok (.dup, 1) := dk_89 (dk_at dksX3_lays_2 12 rfl rfl)
theorem dX3_lays_61 : decode cX3_lays 61 = .ok (.getfield 38, 3) := dk_180 0 38 (dk_at dksX3_lays_2 13 rfl rfl)
theorem dX3_lays_64 : decode cX3_lays 64 = .ok (.iconst 1, 1) := dk_4 (dk_at dksX3_lays_2 16 rfl rfl)
theorem dX3_lays_65 : decode cX3_lays 65 = .ok (.iadd, 1) := dk_96 (dk_at dksX3_lays_2 17 rfl rfl)
theorem dX3_lays_66 : decode cX3_lays 66 = .ok (.putfield 38, 3) := dk_181 0 38 (dk_at dksX3_lays_2 18 rfl rfl)
theorem dX3_lays_69 : decode cX3_lays 69 = .ok (.aload_n 0, 1) := dk_42 (dk_at dksX3_lays_2 21 rfl rfl)
theorem dX3_lays_70 : decode cX3_lays 70 = .ok (.invokevirtual 41, 3) := dk_182 0 41 (dk_at dksX3_lays_3 0 rfl rfl)
theorem dX3_lays_73 : decode cX3_lays 73 = .ok (.iconst 0, 1) := dk_3 (dk_at dksX3_lays_3 3 rfl rfl)
theorem dX3_lays_74 : decode cX3_lays 74 = .ok (.ireturn, 1) := dk_172 (dk_at dksX3_lays_3 4 rfl rfl)
abbrev cX3_turns : ByteArray := prog_4_method_13_code
def yX3_turns : MethodName := ⟨RX3, "turns", "(IZ)I"⟩
def dkwX3_turns_1 : List UInt8 := [180, 0, 24, 27, 28, 84, 42, 182, 0, 41, 3, 172]
abbrev dktX3_turns_1 : List UInt8 := dkwX3_turns_1 ++ []
def dkwX3_turns_0 : List UInt8 := [42, 27, 182, 0, 57, 154, 0, 5, 6, 172, 42, 180, 0, 24, 27, 51, 28, 160, 0, 5, 7, 172, 42]
abbrev dktX3_turns_0 : List UInt8 := dkwX3_turns_0 ++ dktX3_turns_1
theorem dksX3_turns_0 : cX3_turns.data.toList.drop 0 = dktX3_turns_0 := by decide +kernel
theorem dksX3_turns_1 : cX3_turns.data.toList.drop 23 = dktX3_turns_1 := dk_seg dksX3_turns_0 23 rfl rfl
theorem dX3_turns_0 : decode cX3_turns 0 = .ok (.aload_n 0, 1) := dk_42 (dk_at dksX3_turns_0 0 rfl rfl)
theorem dX3_turns_1 : decode cX3_turns 1 = .ok (.iload_n 1, 1) := dk_27 (dk_at dksX3_turns_0 1 rfl rfl)
theorem dX3_turns_2 : decode cX3_turns 2 = .ok (.invokevirtual 57, 3) := dk_182 0 57 (dk_at dksX3_turns_0 2 rfl rfl)
theorem dX3_turns_5 : decode cX3_turns 5 = .ok (.ifCond .ne 5, 3) := dk_154 0 5 (dk_at dksX3_turns_0 5 rfl rfl)
theorem dX3_turns_8 : decode cX3_turns 8 = .ok (.iconst 3, 1) := dk_6 (dk_at dksX3_turns_0 8 rfl rfl)
theorem dX3_turns_9 : decode cX3_turns 9 = .ok (.ireturn, 1) := dk_172 (dk_at dksX3_turns_0 9 rfl rfl)
theorem dX3_turns_10 : decode cX3_turns 10 = .ok (.aload_n 0, 1) := dk_42 (dk_at dksX3_turns_0 10 rfl rfl)
theorem dX3_turns_11 : decode cX3_turns 11 = .ok (.getfield 24, 3) := dk_180 0 24 (dk_at dksX3_turns_0 11 rfl rfl)
theorem dX3_turns_14 : decode cX3_turns 14 = .ok (.iload_n 1, 1) := dk_27 (dk_at dksX3_turns_0 14 rfl rfl)
theorem dX3_turns_15 : decode cX3_turns 15 = .ok (.baload, 1) := dk_51 (dk_at dksX3_turns_0 15 rfl rfl)
theorem dX3_turns_16 : decode cX3_turns 16 = .ok (.iload_n 2, 1) := dk_28 (dk_at dksX3_turns_0 16 rfl rfl)
theorem dX3_turns_17 : decode cX3_turns 17 = .ok (.if_icmp .ne 5, 3) := dk_160 0 5 (dk_at dksX3_turns_0 17 rfl rfl)
theorem dX3_turns_20 : decode cX3_turns 20 = .ok (.iconst 4, 1) := dk_7 (dk_at dksX3_turns_0 20 rfl rfl)
theorem dX3_turns_21 : decode cX3_turns 21 = .ok (.ireturn, 1) := dk_172 (dk_at dksX3_turns_0 21 rfl rfl)
theorem dX3_turns_22 : decode cX3_turns 22 = .ok (.aload_n 0, 1) := dk_42 (dk_at dksX3_turns_0 22 rfl rfl)
theorem dX3_turns_23 : decode cX3_turns 23 = .ok (.getfield 24, 3) := dk_180 0 24 (dk_at dksX3_turns_1 0 rfl rfl)
theorem dX3_turns_26 : decode cX3_turns 26 = .ok (.iload_n 1, 1) := dk_27 (dk_at dksX3_turns_1 3 rfl rfl)
theorem dX3_turns_27 : decode cX3_turns 27 = .ok (.iload_n 2, 1) := dk_28 (dk_at dksX3_turns_1 4 rfl rfl)
theorem dX3_turns_28 : decode cX3_turns 28 = .ok (.bastore, 1) := dk_84 (dk_at dksX3_turns_1 5 rfl rfl)
theorem dX3_turns_29 : decode cX3_turns 29 = .ok (.aload_n 0, 1) := dk_42 (dk_at dksX3_turns_1 6 rfl rfl)
theorem dX3_turns_30 : decode cX3_turns 30 = .ok (.invokevirtual 41, 3) := dk_182 0 41 (dk_at dksX3_turns_1 7 rfl rfl)
theorem dX3_turns_33 : decode cX3_turns 33 = .ok (.iconst 0, 1) := dk_3 (dk_at dksX3_turns_1 10 rfl rfl)
theorem dX3_turns_34 : decode cX3_turns 34 = .ok (.ireturn, 1) := dk_172 (dk_at dksX3_turns_1 11 rfl rfl)
abbrev cX3_isArc : ByteArray := prog_4_method_8_code
def yX3_isArc : MethodName := ⟨RX3, "isArc", "(I)Z"⟩
def dkwX3_isArc_0 : List UInt8 := [27, 155, 0, 15, 27, 42, 180, 0, 38, 162, 0, 7, 4, 167, 0, 4, 3, 172]
abbrev dktX3_isArc_0 : List UInt8 := dkwX3_isArc_0 ++ []
theorem dksX3_isArc_0 : cX3_isArc.data.toList.drop 0 = dktX3_isArc_0 := by decide +kernel
theorem dX3_isArc_0 : decode cX3_isArc 0 = .ok (.iload_n 1, 1) := dk_27 (dk_at dksX3_isArc_0 0 rfl rfl)
theorem dX3_isArc_1 : decode cX3_isArc 1 = .ok (.ifCond .lt 15, 3) := dk_155 0 15 (dk_at dksX3_isArc_0 1 rfl rfl)
theorem dX3_isArc_4 : decode cX3_isArc 4 = .ok (.iload_n 1, 1) := dk_27 (dk_at dksX3_isArc_0 4 rfl rfl)
theorem dX3_isArc_5 : decode cX3_isArc 5 = .ok (.aload_n 0, 1) := dk_42 (dk_at dksX3_isArc_0 5 rfl rfl)
theorem dX3_isArc_6 : decode cX3_isArc 6 = .ok (.getfield 38, 3) := dk_180 0 38 (dk_at dksX3_isArc_0 6 rfl rfl)
theorem dX3_isArc_9 : decode cX3_isArc 9 = .ok (.if_icmp .ge 7, 3) := dk_162 0 7 (dk_at dksX3_isArc_0 9 rfl rfl)
theorem dX3_isArc_12 : decode cX3_isArc 12 = .ok (.iconst 1, 1) := dk_4 (dk_at dksX3_isArc_0 12 rfl rfl)
theorem dX3_isArc_13 : decode cX3_isArc 13 = .ok (.goto 4, 3) := dk_167 0 4 (dk_at dksX3_isArc_0 13 rfl rfl)
theorem dX3_isArc_16 : decode cX3_isArc 16 = .ok (.iconst 0, 1) := dk_3 (dk_at dksX3_isArc_0 16 rfl rfl)
theorem dX3_isArc_17 : decode cX3_isArc 17 = .ok (.ireturn, 1) := dk_172 (dk_at dksX3_isArc_0 17 rfl rfl)
abbrev cX3_asks : ByteArray := prog_4_method_11_code
def yX3_asks : MethodName := ⟨RX3, "asks", "(II)I"⟩
def dkwX3_asks_1 : List UInt8 := [180, 0, 21, 27, 28, 79, 3, 172]
abbrev dktX3_asks_1 : List UInt8 := dkwX3_asks_1 ++ []
def dkwX3_asks_0 : List UInt8 := [42, 27, 182, 0, 53, 154, 0, 5, 4, 172, 42, 180, 0, 21, 27, 46, 28, 160, 0, 5, 7, 172, 42]
abbrev dktX3_asks_0 : List UInt8 := dkwX3_asks_0 ++ dktX3_asks_1
theorem dksX3_asks_0 : cX3_asks.data.toList.drop 0 = dktX3_asks_0 := by decide +kernel
theorem dksX3_asks_1 : cX3_asks.data.toList.drop 23 = dktX3_asks_1 := dk_seg dksX3_asks_0 23 rfl rfl
theorem dX3_asks_0 : decode cX3_asks 0 = .ok (.aload_n 0, 1) := dk_42 (dk_at dksX3_asks_0 0 rfl rfl)
theorem dX3_asks_1 : decode cX3_asks 1 = .ok (.iload_n 1, 1) := dk_27 (dk_at dksX3_asks_0 1 rfl rfl)
theorem dX3_asks_2 : decode cX3_asks 2 = .ok (.invokevirtual 53, 3) := dk_182 0 53 (dk_at dksX3_asks_0 2 rfl rfl)
theorem dX3_asks_5 : decode cX3_asks 5 = .ok (.ifCond .ne 5, 3) := dk_154 0 5 (dk_at dksX3_asks_0 5 rfl rfl)
theorem dX3_asks_8 : decode cX3_asks 8 = .ok (.iconst 1, 1) := dk_4 (dk_at dksX3_asks_0 8 rfl rfl)
theorem dX3_asks_9 : decode cX3_asks 9 = .ok (.ireturn, 1) := dk_172 (dk_at dksX3_asks_0 9 rfl rfl)
theorem dX3_asks_10 : decode cX3_asks 10 = .ok (.aload_n 0, 1) := dk_42 (dk_at dksX3_asks_0 10 rfl rfl)
theorem dX3_asks_11 : decode cX3_asks 11 = .ok (.getfield 21, 3) := dk_180 0 21 (dk_at dksX3_asks_0 11 rfl rfl)
theorem dX3_asks_14 : decode cX3_asks 14 = .ok (.iload_n 1, 1) := dk_27 (dk_at dksX3_asks_0 14 rfl rfl)
theorem dX3_asks_15 : decode cX3_asks 15 = .ok (.iaload, 1) := dk_46 (dk_at dksX3_asks_0 15 rfl rfl)
theorem dX3_asks_16 : decode cX3_asks 16 = .ok (.iload_n 2, 1) := dk_28 (dk_at dksX3_asks_0 16 rfl rfl)
theorem dX3_asks_17 : decode cX3_asks 17 = .ok (.if_icmp .ne 5, 3) := dk_160 0 5 (dk_at dksX3_asks_0 17 rfl rfl)
theorem dX3_asks_20 : decode cX3_asks 20 = .ok (.iconst 4, 1) := dk_7 (dk_at dksX3_asks_0 20 rfl rfl)
theorem dX3_asks_21 : decode cX3_asks 21 = .ok (.ireturn, 1) := dk_172 (dk_at dksX3_asks_0 21 rfl rfl)
theorem dX3_asks_22 : decode cX3_asks 22 = .ok (.aload_n 0, 1) := dk_42 (dk_at dksX3_asks_0 22 rfl rfl)
theorem dX3_asks_23 : decode cX3_asks 23 = .ok (.getfield 21, 3) := dk_180 0 21 (dk_at dksX3_asks_1 0 rfl rfl)
theorem dX3_asks_26 : decode cX3_asks 26 = .ok (.iload_n 1, 1) := dk_27 (dk_at dksX3_asks_1 3 rfl rfl)
theorem dX3_asks_27 : decode cX3_asks 27 = .ok (.iload_n 2, 1) := dk_28 (dk_at dksX3_asks_1 4 rfl rfl)
theorem dX3_asks_28 : decode cX3_asks 28 = .ok (.iastore, 1) := dk_79 (dk_at dksX3_asks_1 5 rfl rfl)
theorem dX3_asks_29 : decode cX3_asks 29 = .ok (.iconst 0, 1) := dk_3 (dk_at dksX3_asks_1 6 rfl rfl)
theorem dX3_asks_30 : decode cX3_asks 30 = .ok (.ireturn, 1) := dk_172 (dk_at dksX3_asks_1 7 rfl rfl)
theorem q166 : (Jvm.Cond.initialized "GateLifter$Net") ∈ lw_all := lw_g (lw_at lw_m1 3 rfl) rfl
theorem q208 : (Jvm.Cond.instantiable "GateLifter$Net" (9 : Nat)) ∈ lw_all := lw_g (lw_at lw_m1 45 rfl) rfl
theorem q210 : (Jvm.Cond.instanceMethod ({ cls := "GateLifter$Net", name := "<init>", desc := "()V" } : Jvm.MethodName)) ∈ lw_all := lw_g (lw_at lw_m1 47 rfl) rfl
theorem q211 : (Jvm.Cond.code ({ cls := "GateLifter$Net", name := "<init>", desc := "()V" } : Jvm.MethodName) prog_4_method_1_code (1 : Nat) (Option.none : Option Jvm.ClassFile.FieldType)) ∈ lw_all := lw_g (lw_at lw_m1 48 rfl) rfl
theorem q212 : (Jvm.Cond.methodLink "GateLifter$Net" (3 : Nat) ({ cls := "java/lang/Object", name := "<init>", desc := "()V" } : Jvm.MethodName)) ∈ lw_all := lw_g (lw_at lw_m1 49 rfl) rfl
theorem q213 : (Jvm.Cond.fieldLink "GateLifter$Net" (9 : Nat) "GateLifter$Net" "from" "[I") ∈ lw_all := lw_g (lw_at lw_m1 50 rfl) rfl
theorem q215 : (Jvm.Cond.fieldLink "GateLifter$Net" (15 : Nat) "GateLifter$Net" "to" "[I") ∈ lw_all := lw_g (lw_at lw_m1 52 rfl) rfl
theorem q217 : (Jvm.Cond.fieldLink "GateLifter$Net" (18 : Nat) "GateLifter$Net" "rows" "[I") ∈ lw_all := lw_g (lw_at lw_m1 54 rfl) rfl
theorem q220 : (Jvm.Cond.fieldLink "GateLifter$Net" (21 : Nat) "GateLifter$Net" "tolls" "[I") ∈ lw_all := lw_g (lw_at lw_m1 57 rfl) rfl
theorem q222 : (Jvm.Cond.fieldLink "GateLifter$Net" (24 : Nat) "GateLifter$Net" "open" "[Z") ∈ lw_all := lw_g (lw_at lw_m1 59 rfl) rfl
theorem q224 : (Jvm.Cond.fieldLink "GateLifter$Net" (28 : Nat) "GateLifter$Net" "nodes" "I") ∈ lw_all := lw_g (lw_at lw_m1 61 rfl) rfl
theorem q227 : (Jvm.Cond.fieldLink "GateLifter$Net" (32 : Nat) "GateLifter$Net" "root" "I") ∈ lw_all := lw_g (lw_at lw_m1 64 rfl) rfl
theorem q230 : (Jvm.Cond.fieldLink "GateLifter$Net" (35 : Nat) "GateLifter$Net" "exit" "I") ∈ lw_all := lw_g (lw_at lw_m1 67 rfl) rfl
theorem q232 : (Jvm.Cond.fieldLink "GateLifter$Net" (38 : Nat) "GateLifter$Net" "many" "I") ∈ lw_all := lw_g (lw_at lw_m1 69 rfl) rfl
theorem q234 : (Jvm.Cond.laysFinal "GateLifter$Net" "GateLifter$Net" "from" "[I") ∈ lw_all := lw_g (lw_at lw_m1 71 rfl) rfl
theorem q235 : (Jvm.Cond.soleField "GateLifter$Net" "from") ∈ lw_all := lw_g (lw_at lw_m1 72 rfl) rfl
theorem q236 : (Jvm.Cond.laysFinal "GateLifter$Net" "GateLifter$Net" "to" "[I") ∈ lw_all := lw_g (lw_at lw_m1 73 rfl) rfl
theorem q237 : (Jvm.Cond.soleField "GateLifter$Net" "to") ∈ lw_all := lw_g (lw_at lw_m1 74 rfl) rfl
theorem q238 : (Jvm.Cond.laysFinal "GateLifter$Net" "GateLifter$Net" "rows" "[I") ∈ lw_all := lw_g (lw_at lw_m1 75 rfl) rfl
theorem q239 : (Jvm.Cond.soleField "GateLifter$Net" "rows") ∈ lw_all := lw_g (lw_at lw_m1 76 rfl) rfl
theorem q240 : (Jvm.Cond.laysFinal "GateLifter$Net" "GateLifter$Net" "tolls" "[I") ∈ lw_all := lw_g (lw_at lw_m1 77 rfl) rfl
theorem q241 : (Jvm.Cond.soleField "GateLifter$Net" "tolls") ∈ lw_all := lw_g (lw_at lw_m1 78 rfl) rfl
theorem q242 : (Jvm.Cond.laysFinal "GateLifter$Net" "GateLifter$Net" "open" "[Z") ∈ lw_all := lw_g (lw_at lw_m1 79 rfl) rfl
theorem q243 : (Jvm.Cond.soleField "GateLifter$Net" "open") ∈ lw_all := lw_g (lw_at lw_m1 80 rfl) rfl
theorem q244 : (Jvm.Cond.lays "GateLifter$Net" "GateLifter$Net" "nodes" "I") ∈ lw_all := lw_g (lw_at lw_m1 81 rfl) rfl
theorem q245 : (Jvm.Cond.soleField "GateLifter$Net" "nodes") ∈ lw_all := lw_g (lw_at lw_m1 82 rfl) rfl
theorem q246 : (Jvm.Cond.lays "GateLifter$Net" "GateLifter$Net" "root" "I") ∈ lw_all := lw_g (lw_at lw_m1 83 rfl) rfl
theorem q247 : (Jvm.Cond.soleField "GateLifter$Net" "root") ∈ lw_all := lw_g (lw_at lw_m1 84 rfl) rfl
theorem q248 : (Jvm.Cond.lays "GateLifter$Net" "GateLifter$Net" "exit" "I") ∈ lw_all := lw_g (lw_at lw_m1 85 rfl) rfl
theorem q249 : (Jvm.Cond.soleField "GateLifter$Net" "exit") ∈ lw_all := lw_g (lw_at lw_m1 86 rfl) rfl
theorem q250 : (Jvm.Cond.lays "GateLifter$Net" "GateLifter$Net" "many" "I") ∈ lw_all := lw_g (lw_at lw_m1 87 rfl) rfl
theorem q251 : (Jvm.Cond.soleField "GateLifter$Net" "many") ∈ lw_all := lw_g (lw_at lw_m1 88 rfl) rfl
theorem q252 : (Jvm.Cond.superclass "GateLifter$Net" "java/lang/Object") ∈ lw_all := lw_g (lw_at lw_m1 89 rfl) rfl
theorem q457 : (Jvm.Cond.instanceMethod ({ cls := "GateLifter$Net", name := "begins", desc := "(I)LGateLifter$Net;" } : Jvm.MethodName)) ∈ lw_all := lw_g (lw_at lw_m2 54 rfl) rfl
theorem q458 : (Jvm.Cond.selects "GateLifter$Net" ({ cls := "GateLifter$Net", name := "begins", desc := "(I)LGateLifter$Net;" } : Jvm.MethodName) ({ cls := "GateLifter$Net", name := "begins", desc := "(I)LGateLifter$Net;" } : Jvm.MethodName)) ∈ lw_all := lw_g (lw_at lw_m2 55 rfl) rfl
theorem q459 : (Jvm.Cond.code ({ cls := "GateLifter$Net", name := "begins", desc := "(I)LGateLifter$Net;" } : Jvm.MethodName) prog_4_method_2_code (3 : Nat) (Option.some (Jvm.ClassFile.FieldType.object "GateLifter$Net"))) ∈ lw_all := lw_g (lw_at lw_m2 56 rfl) rfl
theorem q460 : (Jvm.Cond.methodLink "GateLifter$Net" (41 : Nat) ({ cls := "GateLifter$Net", name := "rows", desc := "()V" } : Jvm.MethodName)) ∈ lw_all := lw_g (lw_at lw_m2 57 rfl) rfl
theorem q461 : (Jvm.Cond.privateMethod ({ cls := "GateLifter$Net", name := "rows", desc := "()V" } : Jvm.MethodName)) ∈ lw_tbl := lw_at lw_m2 58 rfl
theorem q462 : (Jvm.Cond.instanceMethod ({ cls := "GateLifter$Net", name := "rows", desc := "()V" } : Jvm.MethodName)) ∈ lw_all := lw_g (lw_at lw_m2 59 rfl) rfl
theorem q463 : (Jvm.Cond.code ({ cls := "GateLifter$Net", name := "rows", desc := "()V" } : Jvm.MethodName) prog_4_method_6_code (2 : Nat) (Option.none : Option Jvm.ClassFile.FieldType)) ∈ lw_all := lw_g (lw_at lw_m2 60 rfl) rfl
theorem q480 : (Jvm.Cond.castable "GateLifter$Net" "GateLifter$Flow") ∈ lw_tbl := lw_at lw_m2 77 rfl
theorem q481 : (Jvm.Cond.selects "GateLifter$Net" ({ cls := "GateLifter$Flow", name := "nodes", desc := "()I" } : Jvm.MethodName) ({ cls := "GateLifter$Net", name := "nodes", desc := "()I" } : Jvm.MethodName)) ∈ lw_all := lw_g (lw_at lw_m2 78 rfl) rfl
theorem q482 : (Jvm.Cond.unhidden "GateLifter$Net" "nodes" "()I") ∈ lw_tbl := lw_at lw_m2 79 rfl
theorem q483 : (Jvm.Cond.instanceMethod ({ cls := "GateLifter$Net", name := "nodes", desc := "()I" } : Jvm.MethodName)) ∈ lw_all := lw_g (lw_at lw_m2 80 rfl) rfl
theorem q484 : (Jvm.Cond.publicMethod ({ cls := "GateLifter$Net", name := "nodes", desc := "()I" } : Jvm.MethodName)) ∈ lw_tbl := lw_at lw_m2 81 rfl
theorem q485 : (Jvm.Cond.code ({ cls := "GateLifter$Net", name := "nodes", desc := "()I" } : Jvm.MethodName) prog_4_method_4_code (1 : Nat) (Option.some Jvm.ClassFile.FieldType.int)) ∈ lw_all := lw_g (lw_at lw_m2 82 rfl) rfl
theorem q507 : (Jvm.Cond.selects "GateLifter$Net" ({ cls := "GateLifter$Flow", name := "next", desc := "(I)I" } : Jvm.MethodName) ({ cls := "GateLifter$Net", name := "next", desc := "(I)I" } : Jvm.MethodName)) ∈ lw_all := lw_g (lw_at lw_m2 104 rfl) rfl
theorem q508 : (Jvm.Cond.unhidden "GateLifter$Net" "next" "(I)I") ∈ lw_tbl := lw_at lw_m2 105 rfl
theorem q509 : (Jvm.Cond.instanceMethod ({ cls := "GateLifter$Net", name := "next", desc := "(I)I" } : Jvm.MethodName)) ∈ lw_all := lw_g (lw_at lw_m2 106 rfl) rfl
theorem q510 : (Jvm.Cond.publicMethod ({ cls := "GateLifter$Net", name := "next", desc := "(I)I" } : Jvm.MethodName)) ∈ lw_tbl := lw_at lw_m2 107 rfl
theorem q511 : (Jvm.Cond.code ({ cls := "GateLifter$Net", name := "next", desc := "(I)I" } : Jvm.MethodName) prog_4_method_5_code (2 : Nat) (Option.some Jvm.ClassFile.FieldType.int)) ∈ lw_all := lw_g (lw_at lw_m2 108 rfl) rfl
theorem q723 : (Jvm.Cond.instanceMethod ({ cls := "GateLifter$Net", name := "be", desc := "(LGateLifter$Net;)V" } : Jvm.MethodName)) ∈ lw_all := lw_g (lw_at lw_m3 80 rfl) rfl
theorem q724 : (Jvm.Cond.selects "GateLifter$Net" ({ cls := "GateLifter$Net", name := "be", desc := "(LGateLifter$Net;)V" } : Jvm.MethodName) ({ cls := "GateLifter$Net", name := "be", desc := "(LGateLifter$Net;)V" } : Jvm.MethodName)) ∈ lw_all := lw_g (lw_at lw_m3 81 rfl) rfl
theorem q725 : (Jvm.Cond.code ({ cls := "GateLifter$Net", name := "be", desc := "(LGateLifter$Net;)V" } : Jvm.MethodName) prog_4_method_3_code (2 : Nat) (Option.none : Option Jvm.ClassFile.FieldType)) ∈ lw_all := lw_g (lw_at lw_m3 82 rfl) rfl
theorem q726 : (Jvm.Cond.methodLink "GateLifter$Net" (43 : Nat) ({ cls := "java/lang/System", name := "arraycopy", desc := "(Ljava/lang/Object;ILjava/lang/Object;II)V" } : Jvm.MethodName)) ∈ lw_all := lw_g (lw_at lw_m3 83 rfl) rfl
theorem q789 : (Jvm.Cond.instanceMethod ({ cls := "GateLifter$Net", name := "isOpenFrom", desc := "(II)Z" } : Jvm.MethodName)) ∈ lw_all := lw_g (lw_at lw_m3 146 rfl) rfl
theorem q790 : (Jvm.Cond.selects "GateLifter$Net" ({ cls := "GateLifter$Net", name := "isOpenFrom", desc := "(II)Z" } : Jvm.MethodName) ({ cls := "GateLifter$Net", name := "isOpenFrom", desc := "(II)Z" } : Jvm.MethodName)) ∈ lw_all := lw_g (lw_at lw_m3 147 rfl) rfl
theorem q791 : (Jvm.Cond.code ({ cls := "GateLifter$Net", name := "isOpenFrom", desc := "(II)Z" } : Jvm.MethodName) prog_4_method_14_code (3 : Nat) (Option.some Jvm.ClassFile.FieldType.boolean)) ∈ lw_all := lw_g (lw_at lw_m3 148 rfl) rfl
theorem q792 : (Jvm.Cond.methodLinkNest "GateLifter$Net" (60 : Nat) ({ cls := "GateLifter", name := "has", desc := "(II)Z" } : Jvm.MethodName) "GateLifter") ∈ lw_tbl := lw_at lw_m3 149 rfl
theorem q794 : (Jvm.Cond.instanceMethod ({ cls := "GateLifter$Net", name := "reachedBut", desc := "(I)I" } : Jvm.MethodName)) ∈ lw_all := lw_g (lw_at lw_m3 151 rfl) rfl
theorem q795 : (Jvm.Cond.selects "GateLifter$Net" ({ cls := "GateLifter$Net", name := "reachedBut", desc := "(I)I" } : Jvm.MethodName) ({ cls := "GateLifter$Net", name := "reachedBut", desc := "(I)I" } : Jvm.MethodName)) ∈ lw_all := lw_g (lw_at lw_m3 152 rfl) rfl
theorem q796 : (Jvm.Cond.code ({ cls := "GateLifter$Net", name := "reachedBut", desc := "(I)I" } : Jvm.MethodName) prog_4_method_15_code (3 : Nat) (Option.some Jvm.ClassFile.FieldType.int)) ∈ lw_all := lw_g (lw_at lw_m3 153 rfl) rfl
theorem q797 : (Jvm.Cond.methodLink "GateLifter$Net" (64 : Nat) ({ cls := "GateLifter$Net", name := "reached", desc := "()I" } : Jvm.MethodName)) ∈ lw_all := lw_g (lw_at lw_m3 154 rfl) rfl
theorem q798 : (Jvm.Cond.instanceMethod ({ cls := "GateLifter$Net", name := "reached", desc := "()I" } : Jvm.MethodName)) ∈ lw_all := lw_g (lw_at lw_m3 155 rfl) rfl
theorem q799 : (Jvm.Cond.selects "GateLifter$Net" ({ cls := "GateLifter$Net", name := "reached", desc := "()I" } : Jvm.MethodName) ({ cls := "GateLifter$Net", name := "reached", desc := "()I" } : Jvm.MethodName)) ∈ lw_all := lw_g (lw_at lw_m3 156 rfl) rfl
theorem q800 : (Jvm.Cond.code ({ cls := "GateLifter$Net", name := "reached", desc := "()I" } : Jvm.MethodName) prog_4_method_9_code (1 : Nat) (Option.some Jvm.ClassFile.FieldType.int)) ∈ lw_all := lw_g (lw_at lw_m3 157 rfl) rfl
theorem q801 : (Jvm.Cond.unhidden "GateLifter$Net" "reach" "(II)I") ∈ lw_tbl := lw_at lw_m3 158 rfl
theorem q1255 : (Jvm.Cond.instanceMethod ({ cls := "GateLifter$Net", name := "tells", desc := "(IZ)I" } : Jvm.MethodName)) ∈ lw_all := lw_g (lw_at lw_m5 132 rfl) rfl
theorem q1256 : (Jvm.Cond.selects "GateLifter$Net" ({ cls := "GateLifter$Net", name := "tells", desc := "(IZ)I" } : Jvm.MethodName) ({ cls := "GateLifter$Net", name := "tells", desc := "(IZ)I" } : Jvm.MethodName)) ∈ lw_all := lw_g (lw_at lw_m5 133 rfl) rfl
theorem q1257 : (Jvm.Cond.code ({ cls := "GateLifter$Net", name := "tells", desc := "(IZ)I" } : Jvm.MethodName) prog_4_method_10_code (3 : Nat) (Option.some Jvm.ClassFile.FieldType.int)) ∈ lw_all := lw_g (lw_at lw_m5 134 rfl) rfl
theorem q1258 : (Jvm.Cond.methodLink "GateLifter$Net" (53 : Nat) ({ cls := "GateLifter$Net", name := "isNode", desc := "(I)Z" } : Jvm.MethodName)) ∈ lw_all := lw_g (lw_at lw_m5 135 rfl) rfl
theorem q1259 : (Jvm.Cond.instanceMethod ({ cls := "GateLifter$Net", name := "isNode", desc := "(I)Z" } : Jvm.MethodName)) ∈ lw_all := lw_g (lw_at lw_m5 136 rfl) rfl
theorem q1260 : (Jvm.Cond.selects "GateLifter$Net" ({ cls := "GateLifter$Net", name := "isNode", desc := "(I)Z" } : Jvm.MethodName) ({ cls := "GateLifter$Net", name := "isNode", desc := "(I)Z" } : Jvm.MethodName)) ∈ lw_all := lw_g (lw_at lw_m5 137 rfl) rfl
theorem q1261 : (Jvm.Cond.code ({ cls := "GateLifter$Net", name := "isNode", desc := "(I)Z" } : Jvm.MethodName) prog_4_method_7_code (2 : Nat) (Option.some Jvm.ClassFile.FieldType.boolean)) ∈ lw_all := lw_g (lw_at lw_m5 138 rfl) rfl
theorem q1275 : (Jvm.Cond.instanceMethod ({ cls := "GateLifter$Net", name := "lays", desc := "(II)I" } : Jvm.MethodName)) ∈ lw_all := lw_g (lw_at lw_m5 152 rfl) rfl
theorem q1276 : (Jvm.Cond.selects "GateLifter$Net" ({ cls := "GateLifter$Net", name := "lays", desc := "(II)I" } : Jvm.MethodName) ({ cls := "GateLifter$Net", name := "lays", desc := "(II)I" } : Jvm.MethodName)) ∈ lw_all := lw_g (lw_at lw_m5 153 rfl) rfl
theorem q1277 : (Jvm.Cond.code ({ cls := "GateLifter$Net", name := "lays", desc := "(II)I" } : Jvm.MethodName) prog_4_method_12_code (3 : Nat) (Option.some Jvm.ClassFile.FieldType.int)) ∈ lw_all := lw_g (lw_at lw_m5 154 rfl) rfl
theorem q1283 : (Jvm.Cond.instanceMethod ({ cls := "GateLifter$Net", name := "turns", desc := "(IZ)I" } : Jvm.MethodName)) ∈ lw_all := lw_g (lw_at lw_m5 160 rfl) rfl
theorem q1284 : (Jvm.Cond.selects "GateLifter$Net" ({ cls := "GateLifter$Net", name := "turns", desc := "(IZ)I" } : Jvm.MethodName) ({ cls := "GateLifter$Net", name := "turns", desc := "(IZ)I" } : Jvm.MethodName)) ∈ lw_all := lw_g (lw_at lw_m5 161 rfl) rfl
theorem q1285 : (Jvm.Cond.code ({ cls := "GateLifter$Net", name := "turns", desc := "(IZ)I" } : Jvm.MethodName) prog_4_method_13_code (3 : Nat) (Option.some Jvm.ClassFile.FieldType.int)) ∈ lw_all := lw_g (lw_at lw_m5 162 rfl) rfl
theorem q1286 : (Jvm.Cond.methodLink "GateLifter$Net" (57 : Nat) ({ cls := "GateLifter$Net", name := "isArc", desc := "(I)Z" } : Jvm.MethodName)) ∈ lw_all := lw_g (lw_at lw_m5 163 rfl) rfl
theorem q1287 : (Jvm.Cond.instanceMethod ({ cls := "GateLifter$Net", name := "isArc", desc := "(I)Z" } : Jvm.MethodName)) ∈ lw_all := lw_g (lw_at lw_m5 164 rfl) rfl
theorem q1288 : (Jvm.Cond.selects "GateLifter$Net" ({ cls := "GateLifter$Net", name := "isArc", desc := "(I)Z" } : Jvm.MethodName) ({ cls := "GateLifter$Net", name := "isArc", desc := "(I)Z" } : Jvm.MethodName)) ∈ lw_all := lw_g (lw_at lw_m5 165 rfl) rfl
theorem q1289 : (Jvm.Cond.code ({ cls := "GateLifter$Net", name := "isArc", desc := "(I)Z" } : Jvm.MethodName) prog_4_method_8_code (2 : Nat) (Option.some Jvm.ClassFile.FieldType.boolean)) ∈ lw_all := lw_g (lw_at lw_m5 166 rfl) rfl
theorem q1295 : (Jvm.Cond.instanceMethod ({ cls := "GateLifter$Net", name := "asks", desc := "(II)I" } : Jvm.MethodName)) ∈ lw_all := lw_g (lw_at lw_m5 172 rfl) rfl
theorem q1296 : (Jvm.Cond.selects "GateLifter$Net" ({ cls := "GateLifter$Net", name := "asks", desc := "(II)I" } : Jvm.MethodName) ({ cls := "GateLifter$Net", name := "asks", desc := "(II)I" } : Jvm.MethodName)) ∈ lw_all := lw_g (lw_at lw_m5 173 rfl) rfl
theorem q1297 : (Jvm.Cond.code ({ cls := "GateLifter$Net", name := "asks", desc := "(II)I" } : Jvm.MethodName) prog_4_method_11_code (3 : Nat) (Option.some Jvm.ClassFile.FieldType.int)) ∈ lw_all := lw_g (lw_at lw_m5 174 rfl) rfl
theorem q2341 : (Jvm.Cond.castable "GateLifter$Net" "java/lang/Object") ∈ lw_tbl := lw_at lw_m10 18 rfl
theorem in_X3 : ∀ w ∈ wsX30, w ∈ lw_all := lw_in wsX30 [234, 236, 238, 240, 242, 244, 246, 248, 250] (by decide +kernel) (by decide +kernel)
/-! GateLifter$Flow -/
set_option maxRecDepth 100000
def RX8 : String := "GateLifter$Flow"
abbrev cX8_reach : ByteArray := prog_2_method_3_code
def yX8_reach : MethodName := ⟨RX8, "reach", "(II)I"⟩
def dkwX8_reach_2 : List UInt8 := [185, 0, 13, 2, 0, 28, 2, 130, 126, 128, 62, 132, 5, 1, 167, 255, 218, 167, 255, 203, 29, 172]
abbrev dktX8_reach_2 : List UInt8 := dkwX8_reach_2 ++ []
def dkwX8_reach_1 : List UInt8 := [185, 0, 1, 1, 0, 162, 0, 33, 29, 21, 5, 184, 0, 7, 153, 0, 18, 29, 42, 21, 5]
abbrev dktX8_reach_1 : List UInt8 := dkwX8_reach_1 ++ dktX8_reach_2
def dkwX8_reach_0 : List UInt8 := [4, 27, 120, 62, 3, 54, 4, 21, 4, 29, 159, 0, 53, 29, 54, 4, 3, 54, 5, 21, 5, 42]
abbrev dktX8_reach_0 : List UInt8 := dkwX8_reach_0 ++ dktX8_reach_1
theorem dksX8_reach_0 : cX8_reach.data.toList.drop 0 = dktX8_reach_0 := by decide +kernel
theorem dksX8_reach_1 : cX8_reach.data.toList.drop 22 = dktX8_reach_1 := dk_seg dksX8_reach_0 22 rfl rfl
theorem dksX8_reach_2 : cX8_reach.data.toList.drop 43 = dktX8_reach_2 := dk_seg dksX8_reach_1 21 rfl rfl
theorem dX8_reach_0 : decode cX8_reach 0 = .ok (.iconst 1, 1) := dk_4 (dk_at dksX8_reach_0 0 rfl rfl)
theorem dX8_reach_1 : decode cX8_reach 1 = .ok (.iload_n 1, 1) := dk_27 (dk_at dksX8_reach_0 1 rfl rfl)
theorem dX8_reach_2 : decode cX8_reach 2 = .ok (.ishl, 1) := dk_120 (dk_at dksX8_reach_0 2 rfl rfl)
theorem dX8_reach_3 : decode cX8_reach 3 = .ok (.istore_n 3, 1) := dk_62 (dk_at dksX8_reach_0 3 rfl rfl)
theorem dX8_reach_4 : decode cX8_reach 4 = .ok (.iconst 0, 1) := dk_3 (dk_at dksX8_reach_0 4 rfl rfl)
theorem dX8_reach_5 : decode cX8_reach 5 = .ok (.istore 4, 2) := dk_54 4 (dk_at dksX8_reach_0 5 rfl rfl)
theorem dX8_reach_7 : decode cX8_reach 7 = .ok (.iload 4, 2) := dk_21 4 (dk_at dksX8_reach_0 7 rfl rfl)
theorem dX8_reach_9 : decode cX8_reach 9 = .ok (.iload_n 3, 1) := dk_29 (dk_at dksX8_reach_0 9 rfl rfl)
theorem dX8_reach_10 : decode cX8_reach 10 = .ok (.if_icmp .eq 53, 3) := dk_159 0 53 (dk_at dksX8_reach_0 10 rfl rfl)
theorem dX8_reach_13 : decode cX8_reach 13 = .ok (.iload_n 3, 1) := dk_29 (dk_at dksX8_reach_0 13 rfl rfl)
theorem dX8_reach_14 : decode cX8_reach 14 = .ok (.istore 4, 2) := dk_54 4 (dk_at dksX8_reach_0 14 rfl rfl)
theorem dX8_reach_16 : decode cX8_reach 16 = .ok (.iconst 0, 1) := dk_3 (dk_at dksX8_reach_0 16 rfl rfl)
theorem dX8_reach_17 : decode cX8_reach 17 = .ok (.istore 5, 2) := dk_54 5 (dk_at dksX8_reach_0 17 rfl rfl)
theorem dX8_reach_19 : decode cX8_reach 19 = .ok (.iload 5, 2) := dk_21 5 (dk_at dksX8_reach_0 19 rfl rfl)
theorem dX8_reach_21 : decode cX8_reach 21 = .ok (.aload_n 0, 1) := dk_42 (dk_at dksX8_reach_0 21 rfl rfl)
theorem dX8_reach_22 : decode cX8_reach 22 = .ok (.invokeinterface 1 1, 5) := by decide +kernel
theorem dX8_reach_27 : decode cX8_reach 27 = .ok (.if_icmp .ge 33, 3) := dk_162 0 33 (dk_at dksX8_reach_1 5 rfl rfl)
theorem dX8_reach_30 : decode cX8_reach 30 = .ok (.iload_n 3, 1) := dk_29 (dk_at dksX8_reach_1 8 rfl rfl)
theorem dX8_reach_31 : decode cX8_reach 31 = .ok (.iload 5, 2) := dk_21 5 (dk_at dksX8_reach_1 9 rfl rfl)
theorem dX8_reach_33 : decode cX8_reach 33 = .ok (.invokestatic 7, 3) := dk_184 0 7 (dk_at dksX8_reach_1 11 rfl rfl)
theorem dX8_reach_36 : decode cX8_reach 36 = .ok (.ifCond .eq 18, 3) := dk_153 0 18 (dk_at dksX8_reach_1 14 rfl rfl)
theorem dX8_reach_39 : decode cX8_reach 39 = .ok (.iload_n 3, 1) := dk_29 (dk_at dksX8_reach_1 17 rfl rfl)
theorem dX8_reach_40 : decode cX8_reach 40 = .ok (.aload_n 0, 1) := dk_42 (dk_at dksX8_reach_1 18 rfl rfl)
theorem dX8_reach_41 : decode cX8_reach 41 = .ok (.iload 5, 2) := dk_21 5 (dk_at dksX8_reach_1 19 rfl rfl)
theorem dX8_reach_43 : decode cX8_reach 43 = .ok (.invokeinterface 13 2, 5) := by decide +kernel
theorem dX8_reach_48 : decode cX8_reach 48 = .ok (.iload_n 2, 1) := dk_28 (dk_at dksX8_reach_2 5 rfl rfl)
theorem dX8_reach_49 : decode cX8_reach 49 = .ok (.iconst (-1), 1) := dk_2 (dk_at dksX8_reach_2 6 rfl rfl)
theorem dX8_reach_50 : decode cX8_reach 50 = .ok (.ixor, 1) := dk_130 (dk_at dksX8_reach_2 7 rfl rfl)
theorem dX8_reach_51 : decode cX8_reach 51 = .ok (.iand, 1) := dk_126 (dk_at dksX8_reach_2 8 rfl rfl)
theorem dX8_reach_52 : decode cX8_reach 52 = .ok (.ior, 1) := dk_128 (dk_at dksX8_reach_2 9 rfl rfl)
theorem dX8_reach_53 : decode cX8_reach 53 = .ok (.istore_n 3, 1) := dk_62 (dk_at dksX8_reach_2 10 rfl rfl)
theorem dX8_reach_54 : decode cX8_reach 54 = .ok (.iinc 5 1, 3) := dk_132 5 1 (dk_at dksX8_reach_2 11 rfl rfl)
theorem dX8_reach_57 : decode cX8_reach 57 = .ok (.goto (-38), 3) := dk_167 255 218 (dk_at dksX8_reach_2 14 rfl rfl)
theorem dX8_reach_60 : decode cX8_reach 60 = .ok (.goto (-53), 3) := dk_167 255 203 (dk_at dksX8_reach_2 17 rfl rfl)
theorem dX8_reach_63 : decode cX8_reach 63 = .ok (.iload_n 3, 1) := dk_29 (dk_at dksX8_reach_2 20 rfl rfl)
theorem dX8_reach_64 : decode cX8_reach 64 = .ok (.ireturn, 1) := dk_172 (dk_at dksX8_reach_2 21 rfl rfl)
abbrev cX8_turned : ByteArray := prog_2_method_4_code
def yX8_turned : MethodName := ⟨RX8, "turned", "(LGateLifter$Flow;)LGateLifter$Flow;"⟩
def dkwX8_turned_0 : List UInt8 := [187, 0, 17, 89, 42, 183, 0, 19, 176]
abbrev dktX8_turned_0 : List UInt8 := dkwX8_turned_0 ++ []
theorem dksX8_turned_0 : cX8_turned.data.toList.drop 0 = dktX8_turned_0 := by decide +kernel
theorem dX8_turned_0 : decode cX8_turned 0 = .ok (.new 17, 3) := dk_187 0 17 (dk_at dksX8_turned_0 0 rfl rfl)
theorem dX8_turned_3 : decode cX8_turned 3 = .ok (.dup, 1) := dk_89 (dk_at dksX8_turned_0 3 rfl rfl)
theorem dX8_turned_4 : decode cX8_turned 4 = .ok (.aload_n 0, 1) := dk_42 (dk_at dksX8_turned_0 4 rfl rfl)
theorem dX8_turned_5 : decode cX8_turned 5 = .ok (.invokespecial 19, 3) := dk_183 0 19 (dk_at dksX8_turned_0 5 rfl rfl)
theorem dX8_turned_8 : decode cX8_turned 8 = .ok (.areturn, 1) := dk_176 (dk_at dksX8_turned_0 8 rfl rfl)
theorem q191 : (Jvm.Cond.initialized "GateLifter$Flow") ∈ lw_all := lw_g (lw_at lw_m1 28 rfl) rfl
theorem q471 : (Jvm.Cond.declares ({ cls := "GateLifter$Flow", name := "reach", desc := "(II)I" } : Jvm.MethodName)) ∈ lw_tbl := lw_at lw_m2 68 rfl
theorem q473 : (Jvm.Cond.instanceMethod ({ cls := "GateLifter$Flow", name := "reach", desc := "(II)I" } : Jvm.MethodName)) ∈ lw_all := lw_g (lw_at lw_m2 70 rfl) rfl
theorem q474 : (Jvm.Cond.publicMethod ({ cls := "GateLifter$Flow", name := "reach", desc := "(II)I" } : Jvm.MethodName)) ∈ lw_tbl := lw_at lw_m2 71 rfl
theorem q475 : (Jvm.Cond.code ({ cls := "GateLifter$Flow", name := "reach", desc := "(II)I" } : Jvm.MethodName) prog_2_method_3_code (6 : Nat) (Option.some Jvm.ClassFile.FieldType.int)) ∈ lw_all := lw_g (lw_at lw_m2 72 rfl) rfl
theorem q476 : (Jvm.Cond.interfaceEntry "GateLifter$Flow" (1 : Nat)) ∈ lw_tbl := lw_at lw_m2 73 rfl
theorem q477 : (Jvm.Cond.methodLink "GateLifter$Flow" (1 : Nat) ({ cls := "GateLifter$Flow", name := "nodes", desc := "()I" } : Jvm.MethodName)) ∈ lw_all := lw_g (lw_at lw_m2 74 rfl) rfl
theorem q478 : (Jvm.Cond.interfaceMethod "GateLifter$Flow" "GateLifter$Flow" "nodes" "()I") ∈ lw_tbl := lw_at lw_m2 75 rfl
theorem q479 : (Jvm.Cond.declares ({ cls := "GateLifter$Flow", name := "nodes", desc := "()I" } : Jvm.MethodName)) ∈ lw_tbl := lw_at lw_m2 76 rfl
theorem q500 : (Jvm.Cond.methodLinkNest "GateLifter$Flow" (7 : Nat) ({ cls := "GateLifter", name := "has", desc := "(II)Z" } : Jvm.MethodName) "GateLifter") ∈ lw_tbl := lw_at lw_m2 97 rfl
theorem q503 : (Jvm.Cond.interfaceEntry "GateLifter$Flow" (13 : Nat)) ∈ lw_tbl := lw_at lw_m2 100 rfl
theorem q504 : (Jvm.Cond.methodLink "GateLifter$Flow" (13 : Nat) ({ cls := "GateLifter$Flow", name := "next", desc := "(I)I" } : Jvm.MethodName)) ∈ lw_all := lw_g (lw_at lw_m2 101 rfl) rfl
theorem q505 : (Jvm.Cond.interfaceMethod "GateLifter$Flow" "GateLifter$Flow" "next" "(I)I") ∈ lw_tbl := lw_at lw_m2 102 rfl
theorem q506 : (Jvm.Cond.declares ({ cls := "GateLifter$Flow", name := "next", desc := "(I)I" } : Jvm.MethodName)) ∈ lw_tbl := lw_at lw_m2 103 rfl
theorem q855 : (Jvm.Cond.static ({ cls := "GateLifter$Flow", name := "turned", desc := "(LGateLifter$Flow;)LGateLifter$Flow;" } : Jvm.MethodName)) ∈ lw_all := lw_g (lw_at lw_m3 212 rfl) rfl
theorem q856 : (Jvm.Cond.code ({ cls := "GateLifter$Flow", name := "turned", desc := "(LGateLifter$Flow;)LGateLifter$Flow;" } : Jvm.MethodName) prog_2_method_4_code (1 : Nat) (Option.some (Jvm.ClassFile.FieldType.object "GateLifter$Flow"))) ∈ lw_all := lw_g (lw_at lw_m3 213 rfl) rfl
theorem q857 : (Jvm.Cond.classLink "GateLifter$Flow" (17 : Nat) "GateLifter$Turned") ∈ lw_all := lw_g (lw_at lw_m3 214 rfl) rfl
theorem q859 : (Jvm.Cond.methodLink "GateLifter$Flow" (19 : Nat) ({ cls := "GateLifter$Turned", name := "<init>", desc := "(LGateLifter$Flow;)V" } : Jvm.MethodName)) ∈ lw_all := lw_g (lw_at lw_m3 216 rfl) rfl
theorem q869 : (Jvm.Cond.interfaceMethod "GateLifter$Flow" "GateLifter$Flow" "reach" "(II)I") ∈ lw_tbl := lw_at lw_m3 226 rfl
/-! GateLifter$Turned -/
set_option maxRecDepth 100000
def RX9 : String := "GateLifter$Turned"
def TX9 : u_T := fun k => match k with
  | _ => ("GateLifter$Turned", "of", "LGateLifter$Flow;", true)
def tyX9 : Nat → FieldType := fun k => match k with
  | _ => .object "GateLifter$Flow"
abbrev wsX90 : List Cond := u_ws RX9 TX9 1
theorem nmX9 : ∀ a, a < 1 → ∀ b, b < 1 → a ≠ b → (TX9 a).2.1 ≠ (TX9 b).2.1 := by decide +kernel
theorem tyX9_ok : ∀ k, k < 1 → parseFieldDescriptor (TX9 k).2.2.1 = some (tyX9 k) := by decide +kernel
abbrev cX9_nodes : ByteArray := prog_8_method_2_code
def yX9_nodes : MethodName := ⟨RX9, "nodes", "()I"⟩
def dkwX9_nodes_0 : List UInt8 := [42, 180, 0, 7, 185, 0, 13, 1, 0, 172]
abbrev dktX9_nodes_0 : List UInt8 := dkwX9_nodes_0 ++ []
theorem dksX9_nodes_0 : cX9_nodes.data.toList.drop 0 = dktX9_nodes_0 := by decide +kernel
theorem dX9_nodes_0 : decode cX9_nodes 0 = .ok (.aload_n 0, 1) := dk_42 (dk_at dksX9_nodes_0 0 rfl rfl)
theorem dX9_nodes_1 : decode cX9_nodes 1 = .ok (.getfield 7, 3) := dk_180 0 7 (dk_at dksX9_nodes_0 1 rfl rfl)
theorem dX9_nodes_4 : decode cX9_nodes 4 = .ok (.invokeinterface 13 1, 5) := by decide +kernel
theorem dX9_nodes_9 : decode cX9_nodes 9 = .ok (.ireturn, 1) := dk_172 (dk_at dksX9_nodes_0 9 rfl rfl)
abbrev cX9_next : ByteArray := prog_8_method_3_code
def yX9_next : MethodName := ⟨RX9, "next", "(I)I"⟩
def dkwX9_next_2 : List UInt8 := [167, 255, 213, 28, 172]
abbrev dktX9_next_2 : List UInt8 := dkwX9_next_2 ++ []
def dkwX9_next_1 : List UInt8 := [185, 0, 19, 2, 0, 27, 184, 0, 23, 153, 0, 9, 4, 29, 120, 167, 0, 4, 3, 128, 61, 132, 3, 1]
abbrev dktX9_next_1 : List UInt8 := dkwX9_next_1 ++ dktX9_next_2
def dkwX9_next_0 : List UInt8 := [3, 61, 3, 62, 29, 42, 180, 0, 7, 185, 0, 13, 1, 0, 162, 0, 36, 28, 42, 180, 0, 7, 29]
abbrev dktX9_next_0 : List UInt8 := dkwX9_next_0 ++ dktX9_next_1
theorem dksX9_next_0 : cX9_next.data.toList.drop 0 = dktX9_next_0 := by decide +kernel
theorem dksX9_next_1 : cX9_next.data.toList.drop 23 = dktX9_next_1 := dk_seg dksX9_next_0 23 rfl rfl
theorem dksX9_next_2 : cX9_next.data.toList.drop 47 = dktX9_next_2 := dk_seg dksX9_next_1 24 rfl rfl
theorem dX9_next_0 : decode cX9_next 0 = .ok (.iconst 0, 1) := dk_3 (dk_at dksX9_next_0 0 rfl rfl)
theorem dX9_next_1 : decode cX9_next 1 = .ok (.istore_n 2, 1) := dk_61 (dk_at dksX9_next_0 1 rfl rfl)
theorem dX9_next_2 : decode cX9_next 2 = .ok (.iconst 0, 1) := dk_3 (dk_at dksX9_next_0 2 rfl rfl)
theorem dX9_next_3 : decode cX9_next 3 = .ok (.istore_n 3, 1) := dk_62 (dk_at dksX9_next_0 3 rfl rfl)
theorem dX9_next_4 : decode cX9_next 4 = .ok (.iload_n 3, 1) := dk_29 (dk_at dksX9_next_0 4 rfl rfl)
theorem dX9_next_5 : decode cX9_next 5 = .ok (.aload_n 0, 1) := dk_42 (dk_at dksX9_next_0 5 rfl rfl)
theorem dX9_next_6 : decode cX9_next 6 = .ok (.getfield 7, 3) := dk_180 0 7 (dk_at dksX9_next_0 6 rfl rfl)
theorem dX9_next_9 : decode cX9_next 9 = .ok (.invokeinterface 13 1, 5) := by decide +kernel
theorem dX9_next_14 : decode cX9_next 14 = .ok (.if_icmp .ge 36, 3) := dk_162 0 36 (dk_at dksX9_next_0 14 rfl rfl)
theorem dX9_next_17 : decode cX9_next 17 = .ok (.iload_n 2, 1) := dk_28 (dk_at dksX9_next_0 17 rfl rfl)
theorem dX9_next_18 : decode cX9_next 18 = .ok (.aload_n 0, 1) := dk_42 (dk_at dksX9_next_0 18 rfl rfl)
theorem dX9_next_19 : decode cX9_next 19 = .ok (.getfield 7, 3) := dk_180 0 7 (dk_at dksX9_next_0 19 rfl rfl)
theorem dX9_next_22 : decode cX9_next 22 = .ok (.iload_n 3, 1) := dk_29 (dk_at dksX9_next_0 22 rfl rfl)
theorem dX9_next_23 : decode cX9_next 23 = .ok (.invokeinterface 19 2, 5) := by decide +kernel
theorem dX9_next_28 : decode cX9_next 28 = .ok (.iload_n 1, 1) := dk_27 (dk_at dksX9_next_1 5 rfl rfl)
theorem dX9_next_29 : decode cX9_next 29 = .ok (.invokestatic 23, 3) := dk_184 0 23 (dk_at dksX9_next_1 6 rfl rfl)
theorem dX9_next_32 : decode cX9_next 32 = .ok (.ifCond .eq 9, 3) := dk_153 0 9 (dk_at dksX9_next_1 9 rfl rfl)
theorem dX9_next_35 : decode cX9_next 35 = .ok (.iconst 1, 1) := dk_4 (dk_at dksX9_next_1 12 rfl rfl)
theorem dX9_next_36 : decode cX9_next 36 = .ok (.iload_n 3, 1) := dk_29 (dk_at dksX9_next_1 13 rfl rfl)
theorem dX9_next_37 : decode cX9_next 37 = .ok (.ishl, 1) := dk_120 (dk_at dksX9_next_1 14 rfl rfl)
theorem dX9_next_38 : decode cX9_next 38 = .ok (.goto 4, 3) := dk_167 0 4 (dk_at dksX9_next_1 15 rfl rfl)
theorem dX9_next_41 : decode cX9_next 41 = .ok (.iconst 0, 1) := dk_3 (dk_at dksX9_next_1 18 rfl rfl)
theorem dX9_next_42 : decode cX9_next 42 = .ok (.ior, 1) := dk_128 (dk_at dksX9_next_1 19 rfl rfl)
theorem dX9_next_43 : decode cX9_next 43 = .ok (.istore_n 2, 1) := dk_61 (dk_at dksX9_next_1 20 rfl rfl)
theorem dX9_next_44 : decode cX9_next 44 = .ok (.iinc 3 1, 3) := dk_132 3 1 (dk_at dksX9_next_1 21 rfl rfl)
theorem dX9_next_47 : decode cX9_next 47 = .ok (.goto (-43), 3) := dk_167 255 213 (dk_at dksX9_next_2 0 rfl rfl)
theorem dX9_next_50 : decode cX9_next 50 = .ok (.iload_n 2, 1) := dk_28 (dk_at dksX9_next_2 3 rfl rfl)
theorem dX9_next_51 : decode cX9_next 51 = .ok (.ireturn, 1) := dk_172 (dk_at dksX9_next_2 4 rfl rfl)
abbrev cX9_init : ByteArray := prog_8_method_1_code
def yX9_init : MethodName := ⟨RX9, "<init>", "(LGateLifter$Flow;)V"⟩
def dkwX9_init_0 : List UInt8 := [42, 183, 0, 1, 42, 43, 181, 0, 7, 177]
abbrev dktX9_init_0 : List UInt8 := dkwX9_init_0 ++ []
theorem dksX9_init_0 : cX9_init.data.toList.drop 0 = dktX9_init_0 := by decide +kernel
theorem dX9_init_0 : decode cX9_init 0 = .ok (.aload_n 0, 1) := dk_42 (dk_at dksX9_init_0 0 rfl rfl)
theorem dX9_init_1 : decode cX9_init 1 = .ok (.invokespecial 1, 3) := dk_183 0 1 (dk_at dksX9_init_0 1 rfl rfl)
theorem dX9_init_4 : decode cX9_init 4 = .ok (.aload_n 0, 1) := dk_42 (dk_at dksX9_init_0 4 rfl rfl)
theorem dX9_init_5 : decode cX9_init 5 = .ok (.aload_n 1, 1) := dk_43 (dk_at dksX9_init_0 5 rfl rfl)
theorem dX9_init_6 : decode cX9_init 6 = .ok (.putfield 7, 3) := dk_181 0 7 (dk_at dksX9_init_0 6 rfl rfl)
theorem dX9_init_9 : decode cX9_init 9 = .ok (.return_, 1) := dk_177 (dk_at dksX9_init_0 9 rfl rfl)
theorem q192 : (Jvm.Cond.initialized "GateLifter$Turned") ∈ lw_all := lw_g (lw_at lw_m1 29 rfl) rfl
theorem q492 : (Jvm.Cond.castable "GateLifter$Turned" "GateLifter$Flow") ∈ lw_tbl := lw_at lw_m2 89 rfl
theorem q493 : (Jvm.Cond.selects "GateLifter$Turned" ({ cls := "GateLifter$Flow", name := "nodes", desc := "()I" } : Jvm.MethodName) ({ cls := "GateLifter$Turned", name := "nodes", desc := "()I" } : Jvm.MethodName)) ∈ lw_all := lw_g (lw_at lw_m2 90 rfl) rfl
theorem q494 : (Jvm.Cond.unhidden "GateLifter$Turned" "nodes" "()I") ∈ lw_tbl := lw_at lw_m2 91 rfl
theorem q495 : (Jvm.Cond.instanceMethod ({ cls := "GateLifter$Turned", name := "nodes", desc := "()I" } : Jvm.MethodName)) ∈ lw_all := lw_g (lw_at lw_m2 92 rfl) rfl
theorem q496 : (Jvm.Cond.publicMethod ({ cls := "GateLifter$Turned", name := "nodes", desc := "()I" } : Jvm.MethodName)) ∈ lw_tbl := lw_at lw_m2 93 rfl
theorem q497 : (Jvm.Cond.code ({ cls := "GateLifter$Turned", name := "nodes", desc := "()I" } : Jvm.MethodName) prog_8_method_2_code (1 : Nat) (Option.some Jvm.ClassFile.FieldType.int)) ∈ lw_all := lw_g (lw_at lw_m2 94 rfl) rfl
theorem q498 : (Jvm.Cond.interfaceEntry "GateLifter$Turned" (13 : Nat)) ∈ lw_tbl := lw_at lw_m2 95 rfl
theorem q499 : (Jvm.Cond.methodLink "GateLifter$Turned" (13 : Nat) ({ cls := "GateLifter$Flow", name := "nodes", desc := "()I" } : Jvm.MethodName)) ∈ lw_all := lw_g (lw_at lw_m2 96 rfl) rfl
theorem q517 : (Jvm.Cond.selects "GateLifter$Turned" ({ cls := "GateLifter$Flow", name := "next", desc := "(I)I" } : Jvm.MethodName) ({ cls := "GateLifter$Turned", name := "next", desc := "(I)I" } : Jvm.MethodName)) ∈ lw_all := lw_g (lw_at lw_m2 114 rfl) rfl
theorem q518 : (Jvm.Cond.unhidden "GateLifter$Turned" "next" "(I)I") ∈ lw_tbl := lw_at lw_m2 115 rfl
theorem q519 : (Jvm.Cond.instanceMethod ({ cls := "GateLifter$Turned", name := "next", desc := "(I)I" } : Jvm.MethodName)) ∈ lw_all := lw_g (lw_at lw_m2 116 rfl) rfl
theorem q520 : (Jvm.Cond.publicMethod ({ cls := "GateLifter$Turned", name := "next", desc := "(I)I" } : Jvm.MethodName)) ∈ lw_tbl := lw_at lw_m2 117 rfl
theorem q521 : (Jvm.Cond.code ({ cls := "GateLifter$Turned", name := "next", desc := "(I)I" } : Jvm.MethodName) prog_8_method_3_code (4 : Nat) (Option.some Jvm.ClassFile.FieldType.int)) ∈ lw_all := lw_g (lw_at lw_m2 118 rfl) rfl
theorem q522 : (Jvm.Cond.interfaceEntry "GateLifter$Turned" (19 : Nat)) ∈ lw_tbl := lw_at lw_m2 119 rfl
theorem q523 : (Jvm.Cond.methodLink "GateLifter$Turned" (19 : Nat) ({ cls := "GateLifter$Flow", name := "next", desc := "(I)I" } : Jvm.MethodName)) ∈ lw_all := lw_g (lw_at lw_m2 120 rfl) rfl
theorem q524 : (Jvm.Cond.methodLinkNest "GateLifter$Turned" (23 : Nat) ({ cls := "GateLifter", name := "has", desc := "(II)Z" } : Jvm.MethodName) "GateLifter") ∈ lw_tbl := lw_at lw_m2 121 rfl
theorem q858 : (Jvm.Cond.instantiable "GateLifter$Turned" (1 : Nat)) ∈ lw_all := lw_g (lw_at lw_m3 215 rfl) rfl
theorem q860 : (Jvm.Cond.instanceMethod ({ cls := "GateLifter$Turned", name := "<init>", desc := "(LGateLifter$Flow;)V" } : Jvm.MethodName)) ∈ lw_all := lw_g (lw_at lw_m3 217 rfl) rfl
theorem q861 : (Jvm.Cond.code ({ cls := "GateLifter$Turned", name := "<init>", desc := "(LGateLifter$Flow;)V" } : Jvm.MethodName) prog_8_method_1_code (2 : Nat) (Option.none : Option Jvm.ClassFile.FieldType)) ∈ lw_all := lw_g (lw_at lw_m3 218 rfl) rfl
theorem q862 : (Jvm.Cond.methodLink "GateLifter$Turned" (1 : Nat) ({ cls := "java/lang/Object", name := "<init>", desc := "()V" } : Jvm.MethodName)) ∈ lw_all := lw_g (lw_at lw_m3 219 rfl) rfl
theorem q863 : (Jvm.Cond.fieldLink "GateLifter$Turned" (7 : Nat) "GateLifter$Turned" "of" "LGateLifter$Flow;") ∈ lw_all := lw_g (lw_at lw_m3 220 rfl) rfl
theorem q864 : (Jvm.Cond.laysFinal "GateLifter$Turned" "GateLifter$Turned" "of" "LGateLifter$Flow;") ∈ lw_all := lw_g (lw_at lw_m3 221 rfl) rfl
theorem q865 : (Jvm.Cond.soleField "GateLifter$Turned" "of") ∈ lw_all := lw_g (lw_at lw_m3 222 rfl) rfl
theorem q866 : (Jvm.Cond.superclass "GateLifter$Turned" "java/lang/Object") ∈ lw_all := lw_g (lw_at lw_m3 223 rfl) rfl
theorem q870 : (Jvm.Cond.unhidden "GateLifter$Turned" "reach" "(II)I") ∈ lw_tbl := lw_at lw_m3 227 rfl
theorem q2354 : (Jvm.Cond.castable "GateLifter$Turned" "java/lang/Object") ∈ lw_tbl := lw_at lw_m10 31 rfl
theorem in_X9 : ∀ w ∈ wsX90, w ∈ lw_all := lw_in wsX90 [864] (by decide +kernel) (by decide +kernel)
