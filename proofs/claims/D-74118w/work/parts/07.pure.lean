/-! ===== Int32 by its bits: bt x i ===== -/
def bt (x : Int32) (i : Nat) : Bool := x.toBitVec.getLsbD i
theorem b_ext {x y : Int32} (h : ∀ i, i < 32 → bt x i = bt y i) : x = y := Int32.toBitVec_inj.mp (BitVec.eq_of_getLsbD_eq (fun i hi => h i hi))
theorem b_or (x y : Int32) (i : Nat) : bt (x ||| y) i = (bt x i || bt y i) := by unfold bt; rw [Int32.toBitVec_or, BitVec.getLsbD_or]
theorem b_and (x y : Int32) (i : Nat) : bt (x &&& y) i = (bt x i && bt y i) := by unfold bt; rw [Int32.toBitVec_and, BitVec.getLsbD_and]
theorem b_xor (x y : Int32) (i : Nat) : bt (x ^^^ y) i = (bt x i ^^ bt y i) := by unfold bt; rw [Int32.toBitVec_xor, BitVec.getLsbD_xor]
theorem b_big {x : Int32} {i : Nat} (h : 32 ≤ i) : bt x i = false := BitVec.getLsbD_of_ge _ _ h
theorem b_255 (i : Nat) : bt 255 i = decide (i < 8) := by
  rcases Nat.lt_or_ge i 32 with h | h
  · exact (by decide +kernel : ∀ i, i < 32 → bt 255 i = decide (i < 8)) i h
  · rw [b_big h, decide_eq_false (by omega)]
theorem b_65535 (i : Nat) : bt 65535 i = decide (i < 16) := by
  rcases Nat.lt_or_ge i 32 with h | h
  · exact (by decide +kernel : ∀ i, i < 32 → bt 65535 i = decide (i < 16)) i h
  · rw [b_big h, decide_eq_false (by omega)]
theorem b_m1 : ∀ i, i < 32 → bt (-1) i = true := by decide +kernel
theorem b_0 (i : Nat) : bt 0 i = false := BitVec.getLsbD_zero
theorem s_l : ∀ n, n < 32 → ((nI n &&& 31).toBitVec.smod 32).toNat = n := by decide +kernel
theorem s_u : ∀ n, n < 32 → (((nI n).toUInt32 &&& Int32.toUInt32 31).toBitVec % 32).toNat = n := by decide +kernel
theorem b_shl (n : Nat) (hn : n < 32) (x : Int32) {i : Nat} (hi : i < 32) : bt (x <<< (nI n &&& 31)) i = (decide (n ≤ i) && bt x (i - n)) := by
  unfold bt
  rw [Int32.toBitVec_shiftLeft]
  show (x.toBitVec <<< ((nI n &&& 31).toBitVec.smod 32).toNat).getLsbD i = _
  rw [s_l n hn, BitVec.getLsbD_shiftLeft]
  rcases Nat.lt_or_ge i n with h | h
  · simp [h, Nat.not_le.mpr h]
  · simp [hi, h, Nat.not_lt.mpr h]
theorem b_ushr (n : Nat) (hn : n < 32) (x : Int32) (i : Nat) : bt ((x.toUInt32 >>> ((nI n).toUInt32 &&& Int32.toUInt32 31)).toInt32) i = bt x (n + i) := by
  show (x.toUInt32 >>> ((nI n).toUInt32 &&& Int32.toUInt32 31)).toBitVec.getLsbD i = x.toUInt32.toBitVec.getLsbD (n + i)
  rw [UInt32.toBitVec_shiftRight]
  show (x.toUInt32.toBitVec >>> (((nI n).toUInt32 &&& Int32.toUInt32 31).toBitVec % 32).toNat).getLsbD i = _
  rw [s_u n hn, BitVec.getLsbD_ushiftRight]
theorem b_sshr (n : Nat) (hn : n < 32) (x : Int32) {i : Nat} (hi : i < 32) : bt (x >>> (nI n &&& 31)) i = if n + i < 32 then bt x (n + i) else bt x 31 := by
  unfold bt
  rw [Int32.toBitVec_shiftRight]
  show (x.toBitVec.sshiftRight ((nI n &&& 31).toBitVec.smod 32).toNat).getLsbD i = _
  rw [s_l n hn, BitVec.getLsbD_sshiftRight, BitVec.msb_eq_getLsbD_last]
  simp [hi]
theorem b_shl8 (x : Int32) {i : Nat} (hi : i < 32) : bt (x <<< ((8 : Int32) &&& 31)) i = (decide (8 ≤ i) && bt x (i - 8)) := b_shl 8 (by omega) x hi
theorem b_shl16 (x : Int32) {i : Nat} (hi : i < 32) : bt (x <<< ((16 : Int32) &&& 31)) i = (decide (16 ≤ i) && bt x (i - 16)) := b_shl 16 (by omega) x hi
theorem b_shl24 (x : Int32) {i : Nat} (hi : i < 32) : bt (x <<< ((24 : Int32) &&& 31)) i = (decide (24 ≤ i) && bt x (i - 24)) := b_shl 24 (by omega) x hi
theorem b_sshr8 (x : Int32) {i : Nat} (hi : i < 32) : bt (x >>> ((8 : Int32) &&& 31)) i = if 8 + i < 32 then bt x (8 + i) else bt x 31 := b_sshr 8 (by omega) x hi
/-! ===== nI under and, xor, >>>, one bit, 65535 ===== -/
/-! the pure words: sets as bits, loops (own work behind the pasted family) -/
def i1 (b : Prop) [Decidable b] : Int32 := if b then 1 else 0
theorem i1_eq0 {b : Prop} [Decidable b] : i1 b = 0 ↔ ¬ b := by unfold i1; split <;> simp_all
theorem i1_eq1 {b : Prop} [Decidable b] : i1 b = 1 ↔ b := by unfold i1; split <;> simp_all
theorem i1_or {b : Prop} [Decidable b] : i1 b = 0 ∨ i1 b = 1 := by unfold i1; split <;> simp_all
theorem i1_t {b : Prop} [Decidable b] (h : b) : i1 b = 1 := i1_eq1.2 h
theorem i1_f {b : Prop} [Decidable b] (h : ¬ b) : i1 b = 0 := i1_eq0.2 h
theorem i1_c {a b : Prop} [Decidable a] [Decidable b] (h : a ↔ b) : i1 a = i1 b := by
  unfold i1; by_cases ha : a
  · rw [if_pos ha, if_pos (h.1 ha)]
  · rw [if_neg ha, if_neg (fun x => ha (h.2 x))]
abbrev hs (s k : Int32) : Prop := (s >>> (k &&& 31)) &&& 1 = 1
theorem b_one : ∀ i, i < 32 → bt 1 i = decide (i = 0) := by decide +kernel
theorem b_and1 (x : Int32) : x &&& 1 = 1 ↔ bt x 0 = true := by
  constructor
  · intro h
    have := congrArg (fun z => bt z 0) h
    simp only [b_and] at this
    rw [b_one 0 (by omega)] at this
    simpa using this
  · intro h
    apply b_ext
    intro i hi
    rw [b_and, b_one i hi]
    by_cases h0 : i = 0
    · subst h0; simp [h]
    · simp [h0]
theorem hs_bt {s : Int32} {k : Nat} (hk : k < 32) : hs s (nI k) ↔ bt s k = true := by
  unfold hs
  rw [b_and1, b_sshr k hk s (by omega)]
  simp [hk]
theorem b_bit {k j : Nat} (hk : k < 32) (hj : j < 32) : bt ((1 : Int32) <<< (nI k &&& 31)) j = decide (j = k) := by
  rw [b_shl k hk 1 hj]
  by_cases h : k ≤ j
  · rw [b_one _ (by omega)]
    by_cases e : j = k
    · subst e; simp
    · have e2 : ¬ j - k = 0 := by omega
      simp [e, e2]
  · have e : ¬ j = k := by omega
    simp [h, e]
theorem b_not (x : Int32) {i : Nat} (hi : i < 32) : bt (x ^^^ (-1)) i = !(bt x i) := by
  rw [b_xor, b_m1 i hi]; cases bt x i <;> rfl
/-- an int as a set of nodes -/
def IsSet (x : Int32) (P : Nat → Prop) : Prop := ∀ k, k < 32 → (bt x k = true ↔ k < 16 ∧ P k)
theorem IsSet.uniq {x y : Int32} {P : Nat → Prop} (hx : IsSet x P) (hy : IsSet y P) : x = y := by
  apply b_ext
  intro i hi
  exact Bool.eq_iff_iff.2 ((hx i hi).trans (hy i hi).symm)
theorem IsSet.congr {x : Int32} {P Q : Nat → Prop} (hx : IsSet x P) (h : ∀ k, k < 16 → (P k ↔ Q k)) : IsSet x Q := fun k hk =>
  (hx k hk).trans ⟨fun a => ⟨a.1, (h k a.1).1 a.2⟩, fun a => ⟨a.1, (h k a.1).2 a.2⟩⟩
theorem IsSet.bit {k : Nat} (hk : k < 16) : IsSet ((1 : Int32) <<< (nI k &&& 31)) (fun j => j = k) := by
  intro j hj
  rw [b_bit (by omega) hj, decide_eq_true_iff]
  exact ⟨fun e => ⟨by omega, e⟩, fun e => e.2⟩
theorem IsSet.or {x y : Int32} {P Q : Nat → Prop} (hx : IsSet x P) (hy : IsSet y Q) : IsSet (x ||| y) (fun j => P j ∨ Q j) := by
  intro j hj
  rw [b_or, Bool.or_eq_true, hx j hj, hy j hj]
  exact ⟨fun e => e.elim (fun a => ⟨a.1, Or.inl a.2⟩) (fun a => ⟨a.1, Or.inr a.2⟩), fun e => e.2.elim (fun a => Or.inl ⟨e.1, a⟩) (fun a => Or.inr ⟨e.1, a⟩)⟩
theorem IsSet.and {x y : Int32} {P Q : Nat → Prop} (hx : IsSet x P) (hy : IsSet y Q) : IsSet (x &&& y) (fun j => P j ∧ Q j) := by
  intro j hj
  rw [b_and, Bool.and_eq_true, hx j hj, hy j hj]
  exact ⟨fun e => ⟨e.1.1, e.1.2, e.2.2⟩, fun e => ⟨⟨e.1, e.2.1⟩, e.1, e.2.2⟩⟩
theorem IsSet.andNot {x y : Int32} {P Q : Nat → Prop} (hx : IsSet x P) (hy : IsSet y Q) : IsSet (x &&& (y ^^^ (-1))) (fun j => P j ∧ ¬ Q j) := by
  intro j hj
  rw [b_and, Bool.and_eq_true, b_not y hj, hx j hj]
  have h2 := hy j hj
  cases hb : bt y j
  · rw [hb] at h2
    exact ⟨fun e => ⟨e.1.1, e.1.2, fun q => Bool.false_ne_true (h2.2 ⟨e.1.1, q⟩)⟩, fun e => ⟨⟨e.1, e.2.1⟩, rfl⟩⟩
  · rw [hb] at h2
    exact ⟨fun e => absurd e.2 (by simp), fun e => absurd (h2.1 rfl).2 e.2.2⟩
theorem IsSet.zero : IsSet 0 (fun _ => False) := fun k _ => by rw [b_0]; simp
theorem IsSet.hs {x : Int32} {P : Nat → Prop} (h : IsSet x P) {k : Nat} (hk : k < 16) : hs x (nI k) ↔ P k := by
  rw [hs_bt (by omega), h k (by omega)]; exact ⟨fun a => a.2, fun a => ⟨hk, a⟩⟩
theorem IsSet.eq0 {x : Int32} {P : Nat → Prop} (h : IsSet x P) : x = 0 ↔ ∀ k, k < 16 → ¬ P k := by
  constructor
  · intro e k hk hp
    have := (h k (by omega)).2 ⟨hk, hp⟩
    rw [e, b_0] at this; exact absurd this (by simp)
  · intro a
    exact h.uniq (IsSet.zero.congr (fun k hk => ⟨fun f => f.elim, fun p => a k hk p⟩))
theorem IsSet.self (x : Int32) (h : ∀ k, 16 ≤ k → k < 32 → bt x k = false) : IsSet x (fun k => bt x k = true) := by
  intro k hk
  constructor
  · intro e; refine ⟨?_, e⟩
    rcases Nat.lt_or_ge k 16 with q | q
    · exact q
    · rw [h k q hk] at e; exact absurd e (by simp)
  · exact fun e => e.2
/-- a loop that counts up, its invariant by the count -/
theorem up0 {X : Int32 → Prop} (n : Nat) (I : Nat → Prop) (hs : ∀ k, k < n → I k → (I (k + 1) → X (nI k + 1)) → X (nI k)) (he : I n → X (nI n)) : ∀ k, k ≤ n → I k → X (nI k) := by
  intro k hk
  obtain ⟨d, rfl⟩ : ∃ d, n = k + d := ⟨n - k, by omega⟩
  induction d generalizing k with
  | zero => exact he
  | succ d ih =>
    intro h
    refine hs k (by omega) h (fun h' => ?_)
    rw [nI_1]
    exact ih (k + 1) (by rw [show k + 1 + d = k + (d + 1) by omega]; exact hs) (by rw [show k + 1 + d = k + (d + 1) by omega]; exact he) (by omega) h'
theorem up1 {T : Type} {X : Int32 → T → Prop} (n : Nat) (I : Nat → T → Prop) (hs : ∀ k a, k < n → I k a → (∀ a', I (k + 1) a' → X (nI k + 1) a') → X (nI k) a) (he : ∀ a, I n a → X (nI n) a) : ∀ k a, k ≤ n → I k a → X (nI k) a := by
  intro k a hk
  obtain ⟨d, rfl⟩ : ∃ d, n = k + d := ⟨n - k, by omega⟩
  induction d generalizing k a with
  | zero => exact he a
  | succ d ih =>
    intro h
    refine hs k a (by omega) h (fun a' h' => ?_)
    rw [nI_1]
    exact ih (k + 1) a' (by rw [show k + 1 + d = k + (d + 1) by omega]; exact hs) (by rw [show k + 1 + d = k + (d + 1) by omega]; exact he) (by omega) h'
theorem up2 {T U : Type} {X : Int32 → T → U → Prop} (n : Nat) (I : Nat → T → U → Prop) (hs : ∀ k a b, k < n → I k a b → (∀ a' b', I (k + 1) a' b' → X (nI k + 1) a' b') → X (nI k) a b) (he : ∀ a b, I n a b → X (nI n) a b) (k : Nat) (a : T) (b : U) (hk : k ≤ n) (h : I k a b) : X (nI k) a b :=
  up1 (X := fun i (p : T × U) => X i p.1 p.2) n (fun k p => I k p.1 p.2) (fun k p hk h hh => hs k p.1 p.2 hk h (fun a' b' h' => hh (a', b') h')) (fun p h => he p.1 p.2 h) k (a, b) hk h
theorem up3 {T U V : Type} {X : Int32 → T → U → V → Prop} (n : Nat) (I : Nat → T → U → V → Prop) (hs : ∀ k a b c, k < n → I k a b c → (∀ a' b' c', I (k + 1) a' b' c' → X (nI k + 1) a' b' c') → X (nI k) a b c) (he : ∀ a b c, I n a b c → X (nI n) a b c) (k : Nat) (a : T) (b : U) (c : V) (hk : k ≤ n) (h : I k a b c) : X (nI k) a b c :=
  up1 (X := fun i (p : T × U × V) => X i p.1 p.2.1 p.2.2) n (fun k p => I k p.1 p.2.1 p.2.2) (fun k p hk h hh => hs k p.1 p.2.1 p.2.2 hk h (fun a' b' c' h' => hh (a', b', c') h')) (fun p h => he p.1 p.2.1 p.2.2 h) k (a, b, c) hk h
/-- a loop by a measure -/
theorem dn1 {T : Type} {X : T → Prop} (I : T → Prop) (μ : T → Nat) (hs : ∀ a, I a → (∀ a', I a' → μ a' < μ a → X a') → X a) : ∀ a, I a → X a := by
  intro a
  induction h : μ a using Nat.strongRecOn generalizing a with
  | ind n ih =>
    intro ha
    exact hs a ha (fun a' h1 h2 => ih (μ a') (by omega) a' rfl h1)
theorem clN {k : Nat} (h : k < 2 ^ 31) : (nI k).toNatClampNeg = k := nI_clamp h
/-- comparisons of small numbers -/
theorem leN {a b : Nat} (ha : a < 2 ^ 31) (hb : b < 2 ^ 31) : (nI a ≤ nI b) = (a ≤ b) := propext (nI_leI ha hb)
theorem ltN {a b : Nat} (ha : a < 2 ^ 31) (hb : b < 2 ^ 31) : (nI a < nI b) = (a < b) := propext (nI_ltI ha hb)
theorem eqN {a b : Nat} (ha : a < 2 ^ 31) (hb : b < 2 ^ 31) : (nI a = nI b) = (a = b) := propext (nI_eq ha hb)
theorem n0 : (0 : Int32) = nI 0 := rfl
theorem n1 : (1 : Int32) = nI 1 := rfl
theorem n2 : (2 : Int32) = nI 2 := rfl
theorem n16 : (16 : Int32) = nI 16 := rfl
theorem n60 : (60 : Int32) = nI 60 := rfl
/-- a value between two numbers is a number -/
theorem of_in {x : Int32} {n : Nat} (hn : n < 2 ^ 31) : (0 ≤ x ∧ x < nI n) ↔ ∃ k : Nat, k < n ∧ x = nI k := by
  constructor
  · rintro ⟨h0, h1⟩
    obtain ⟨j, hj, rfl⟩ := nI_of (x := x) (Int32.not_lt.2 h0)
    rw [ltN hj hn] at h1
    exact ⟨j, h1, rfl⟩
  · rintro ⟨k, hk, rfl⟩
    rw [n0, leN (by omega) (by omega), ltN (by omega) hn]
    exact ⟨by omega, hk⟩
theorem upd_s {f : Nat → Int32} {k : Nat} {x : Int32} : upd f k x k = x := pk_us
theorem upd_n {f : Nat → Int32} {k j : Nat} {x : Int32} (h : j ≠ k) : upd f k x j = f j := pk_un h
/-- an arc's ends, and whether it is open, as they lie in the arrays -/
def NetB (f t o : Nat → Int32) (mn : Int32) : Prop := ∃ m : Nat, mn = nI m ∧ m ≤ 60 ∧ (∀ k, k < m → ∃ a b : Nat, f k = nI a ∧ t k = nI b ∧ a < 16 ∧ b < 16) ∧ (∀ k, k < 60 → o k = 0 ∨ o k = 1)
def RowsIs (f t o : Nat → Int32) (mn : Int32) (w : Nat → Int32) : Prop := ∀ a, a < 16 → IsSet (w a) (fun b => ∃ k : Nat, k < mn.toNatClampNeg ∧ o k = 1 ∧ f k = nI a ∧ t k = nI b)
theorem vp_lt {k n : Int32} {N : Nat} (hN : N < 2 ^ 31) (h0 : 0 ≤ k) (h1 : k < n) (h2 : n ≤ nI N) : vp_in k N := by
  rw [vp_in_iff]
  rw [Int32.le_iff_toInt_le] at h0 h2
  rw [Int32.lt_iff_toInt_lt] at h1
  rw [nI_toInt hN] at h2
  have : (0 : Int32).toInt = 0 := rfl
  omega
theorem vp16 {k n : Int32} (h0 : 0 ≤ k) (h1 : k < n) (h2 : n ≤ 16) : vp_in k 16 := vp_lt (by decide) h0 h1 h2
theorem NetB.mn60 {f t o : Nat → Int32} {mn : Int32} (h : NetB f t o mn) : mn ≤ 60 := by
  obtain ⟨m, rfl, hm, -⟩ := h
  rw [n60, leN (by omega) (by omega)]; exact hm
theorem vp60 {k mn : Int32} (h2 : mn ≤ 60) (h0 : 0 ≤ k) (h1 : k < mn) : vp_in k 60 := vp_lt (by decide) h0 h1 h2
theorem NetB.opn {f t o : Nat → Int32} {mn k z : Int32} (h : NetB f t o mn) (hz : z = 0 ∨ z = 1) : NetB f t (upd o k.toNatClampNeg z) mn := by
  obtain ⟨m, rfl, hm, hf, ho⟩ := h
  refine ⟨m, rfl, hm, hf, fun j hj => ?_⟩
  by_cases e : j = k.toNatClampNeg
  · subst e; rw [upd_s]; exact hz
  · rw [upd_n e]; exact ho j hj
theorem NetB.zero {f t o : Nat → Int32} (ho : ∀ k, k < 60 → o k = 0 ∨ o k = 1) : NetB f t o 0 := ⟨0, rfl, by omega, fun k hk => absurd hk (by omega), ho⟩
theorem NetB.bits {f t o : Nat → Int32} {mn : Int32} (h : NetB f t o mn) : ∀ k, k < 60 → o k = 0 ∨ o k = 1 := by
  obtain ⟨m, rfl, hm, hf, ho⟩ := h; exact ho
theorem nar_z {z : Int32} (hz : z = 0 ∨ z = 1) : vp_nar .boolean z = z := by rcases hz with h | h <;> subst h <;> rfl
theorem in16 {k n : Int32} (h0 : 0 ≤ k) (h1 : k < n) (h2 : n ≤ 16) : ∃ a : Nat, a < 16 ∧ k = nI a := by
  obtain ⟨j, hj, e⟩ := (of_in (x := k) (n := 16) (by decide)).1 ⟨h0, Int32.lt_of_lt_of_le h1 h2⟩
  exact ⟨j, hj, e⟩
theorem NetB.lay {f t o : Nat → Int32} {mn a b nd : Int32} (h : NetB f t o mn) (hn : ¬ mn = 60) (ha : 0 ≤ a ∧ a < nd) (hb : 0 ≤ b ∧ b < nd) (hnd : nd ≤ 16) : vp_in mn 60 ∧ NetB (upd f mn.toNatClampNeg a) (upd t mn.toNatClampNeg b) (upd o mn.toNatClampNeg 1) (mn + 1) := by
  obtain ⟨m, rfl, hm, hf, ho⟩ := h
  obtain ⟨p, hp, rfl⟩ := in16 ha.1 ha.2 hnd
  obtain ⟨q, hq, rfl⟩ := in16 hb.1 hb.2 hnd
  rw [n60, eqN (by omega) (by omega)] at hn
  refine ⟨vp_in_nI (by omega) (by decide), m + 1, nI_1 m, by omega, fun k hk => ?_, fun k hk => ?_⟩
  · rw [clN (by omega)]
    by_cases e : k = m
    · subst e; rw [upd_s, upd_s]; exact ⟨p, q, rfl, rfl, hp, hq⟩
    · rw [upd_n e, upd_n e]; exact hf k (by omega)
  · rw [clN (by omega)]
    by_cases e : k = m
    · subst e; rw [upd_s]; exact Or.inr rfl
    · rw [upd_n e]; exact ho k hk
