/-- a set of nodes below 16 -/
def B16 (s : Int32) : Prop := ∀ k, 16 ≤ k → k < 32 → bt s k = false
noncomputable def pc (s : Int32) : Nat := cnt 16 (fun k => bt s k = true)
theorem B16.of {s : Int32} {P : Nat → Prop} (h : IsSet s P) : B16 s := fun k h1 h2 => by
  cases hb : bt s k
  · rfl
  · exact absurd ((h k h2).1 hb).1 (by omega)
theorem pc_set {s : Int32} {P : Nat → Prop} (h : IsSet s P) : pc s = cnt 16 P := cnt_congr (fun k hk => (h k (by omega)).trans ⟨fun a => a.2, fun a => ⟨hk, a⟩⟩)
def smB : Nat → Int32 → Nat
  | 0, _ => 0
  | n + 1, s => smB n s + (bt s n).toNat
theorem cnt_bt (s : Int32) : ∀ n, cnt n (fun k => bt s k = true) = smB n s
  | 0 => rfl
  | n + 1 => by
    show _ = smB n s + (bt s n).toNat
    cases hb : bt s n
    · rw [cnt_n (by rw [hb]; simp), cnt_bt s n]; rfl
    · rw [cnt_s hb, cnt_bt s n]; rfl
theorem B16.nat {s : Int32} (h : B16 s) : ∃ n : Nat, n < 65536 ∧ s = nI n := by
  refine ⟨s.toBitVec.toNat, ?_, ?_⟩
  · apply Classical.byContradiction
    intro hc
    have h1 : s.toBitVec.toNat / 65536 ≠ 0 := by omega
    obtain ⟨j, hj⟩ := Nat.exists_testBit_of_ne_zero h1
    rw [show (65536 : Nat) = 2 ^ 16 from rfl, Nat.testBit_div_two_pow] at hj
    have hb : bt s (16 + j) = true := by unfold bt; rw [BitVec.getLsbD]; rw [Nat.add_comm]; exact hj
    rcases Nat.lt_or_ge (16 + j) 32 with q | q
    · rw [h (16 + j) (by omega) q] at hb; exact absurd hb (by simp)
    · rw [b_big q] at hb; exact absurd hb (by simp)
  · exact (Int32.toBitVec_inj.1 (by show s.toBitVec = BitVec.ofNat 32 s.toBitVec.toNat; simp))
/-- bits counted, in numbers -/
def bcN (n : Nat) : Nat :=
  let a := n - ((n / 2) &&& 1431655765)
  let b := (a &&& 858993459) + ((a / 4) &&& 858993459)
  let c := (b + b / 16) &&& 252645135
  let d := c + c / 256
  let e := d + d / 65536
  e &&& 63
def bcS (n : Nat) : Nat := n % 2 + n / 2 % 2 + n / 4 % 2 + n / 8 % 2 + n / 16 % 2 + n / 32 % 2 + n / 64 % 2 + n / 128 % 2 + n / 256 % 2 + n / 512 % 2 + n / 1024 % 2 + n / 2048 % 2 + n / 4096 % 2 + n / 8192 % 2 + n / 16384 % 2 + n / 32768 % 2
theorem and_split {x y d c : Nat} (hd : d < 256) (hc : c < 256) : (256 * x + d) &&& (256 * y + c) = 256 * (x &&& y) + (d &&& c) := by
  have hdc : d &&& c < 2 ^ 8 := Nat.lt_of_le_of_lt Nat.and_le_left hd
  apply Nat.eq_of_testBit_eq
  intro i
  rw [Nat.testBit_and, show (256 : Nat) = 2 ^ 8 from rfl, Nat.testBit_two_pow_mul_add _ hd, Nat.testBit_two_pow_mul_add _ hc, Nat.testBit_two_pow_mul_add _ hdc]
  split <;> rw [Nat.testBit_and]
def b1 (a : Nat) : Nat := a - ((a / 2) &&& 5592405)
def b2 (a : Nat) : Nat := (a &&& 3355443) + ((a / 4) &&& 3355443)
def b3 (a : Nat) : Nat := (a + a / 16) &&& 986895
theorem bc_b : ∀ a, a < 256 → (a / 2) &&& 5592405 ≤ a ∧ b1 a < 256 ∧ b2 (b1 a) ≤ 68 ∧ b2 (b1 a) % 16 ≤ 4 ∧ b3 (b2 (b1 a)) ≤ 8 ∧ b3 (b2 (b1 a)) = bcS a ∧ (b1 a) &&& 3355443 ≤ 51 ∧ (b1 a / 4) &&& 3355443 ≤ 51 := by decide +kernel
theorem bc_1 : ∀ z, z < 2 → ∀ b, b < 256 → (128 * z + b / 2) &&& 85 = (b / 2) &&& 5592405 := by decide +kernel
theorem bc_2 : ∀ z, z < 4 → ∀ b, b < 256 → (64 * z + b / 4) &&& 51 = (b / 4) &&& 3355443 ∧ b &&& 51 = b &&& 3355443 := by decide +kernel
theorem bc_3 : ∀ z, z < 5 → ∀ b, b < 69 → (b + 16 * z + b / 16) &&& 15 = (b + b / 16) &&& 986895 := by decide +kernel
theorem bc_4 : ∀ a, a < 9 → ∀ b, b < 9 → (256 * a + (a + b)) &&& 63 = a + b := by decide +kernel
theorem bc_5 : ∀ a, a < 256 → ∀ b, b < 256 → bcS (256 * a + b) = bcS a + bcS b := by
  intro a ha b hb
  unfold bcS
  rw [show (256 * a + b) % 2 = b % 2 by omega, show (256 * a + b) / 2 % 2 = b / 2 % 2 by omega, show (256 * a + b) / 4 % 2 = b / 4 % 2 by omega, show (256 * a + b) / 8 % 2 = b / 8 % 2 by omega, show (256 * a + b) / 16 % 2 = b / 16 % 2 by omega, show (256 * a + b) / 32 % 2 = b / 32 % 2 by omega, show (256 * a + b) / 64 % 2 = b / 64 % 2 by omega, show (256 * a + b) / 128 % 2 = b / 128 % 2 by omega, show (256 * a + b) / 256 % 2 = a % 2 by omega, show (256 * a + b) / 512 % 2 = a / 2 % 2 by omega, show (256 * a + b) / 1024 % 2 = a / 4 % 2 by omega, show (256 * a + b) / 2048 % 2 = a / 8 % 2 by omega, show (256 * a + b) / 4096 % 2 = a / 16 % 2 by omega, show (256 * a + b) / 8192 % 2 = a / 32 % 2 by omega, show (256 * a + b) / 16384 % 2 = a / 64 % 2 by omega, show (256 * a + b) / 32768 % 2 = a / 128 % 2 by omega]
  rw [show a / 256 = 0 by omega, show a / 512 = 0 by omega, show a / 1024 = 0 by omega, show a / 2048 = 0 by omega, show a / 4096 = 0 by omega, show a / 8192 = 0 by omega, show a / 16384 = 0 by omega, show a / 32768 = 0 by omega, show b / 256 = 0 by omega, show b / 512 = 0 by omega, show b / 1024 = 0 by omega, show b / 2048 = 0 by omega, show b / 4096 = 0 by omega, show b / 8192 = 0 by omega, show b / 16384 = 0 by omega, show b / 32768 = 0 by omega]
  simp only [Nat.zero_mod, Nat.add_zero]
  ac_rfl
theorem bc_all {n : Nat} (hn : n < 65536) : bcN n = bcS n := by
  obtain ⟨a, b, ha, hb, rfl⟩ : ∃ a b, a < 256 ∧ b < 256 ∧ n = 256 * a + b := ⟨n / 256, n % 256, by omega, by omega, by omega⟩
  obtain ⟨p1, p2, p3, p4, p5, p6, p7, p8⟩ := bc_b a ha
  obtain ⟨q1, q2, q3, q4, q5, q6, q7, q8⟩ := bc_b b hb
  have e1 : ((256 * a + b) / 2) &&& 1431655765 = 256 * ((a / 2) &&& 5592405) + ((b / 2) &&& 5592405) := by
    rw [← bc_1 (a % 2) (by omega) b hb, show (256 * a + b) / 2 = 256 * (a / 2) + (128 * (a % 2) + b / 2) by omega, show (1431655765 : Nat) = 256 * 5592405 + 85 from rfl, and_split (by omega) (by omega)]
  have f1 : 256 * a + b - (((256 * a + b) / 2) &&& 1431655765) = 256 * b1 a + b1 b := by
    rw [e1]; unfold b1; omega
  have e2 : ((256 * b1 a + b1 b) &&& 858993459) = 256 * (b1 a &&& 3355443) + (b1 b &&& 3355443) := by
    rw [← (bc_2 0 (by omega) (b1 b) q2).2, show (858993459 : Nat) = 256 * 3355443 + 51 from rfl, and_split (by omega) (by omega)]
  have e3 : ((256 * b1 a + b1 b) / 4) &&& 858993459 = 256 * ((b1 a / 4) &&& 3355443) + ((b1 b / 4) &&& 3355443) := by
    rw [← (bc_2 (b1 a % 4) (by omega) (b1 b) q2).1, show (256 * b1 a + b1 b) / 4 = 256 * (b1 a / 4) + (64 * (b1 a % 4) + b1 b / 4) by omega, show (858993459 : Nat) = 256 * 3355443 + 51 from rfl, and_split (by omega) (by omega)]
  have f2 : ((256 * b1 a + b1 b) &&& 858993459) + (((256 * b1 a + b1 b) / 4) &&& 858993459) = 256 * b2 (b1 a) + b2 (b1 b) := by
    rw [e2, e3]; unfold b2; omega
  have f3 : ((256 * b2 (b1 a) + b2 (b1 b)) + (256 * b2 (b1 a) + b2 (b1 b)) / 16) &&& 252645135 = 256 * b3 (b2 (b1 a)) + b3 (b2 (b1 b)) := by
    rw [show (256 * b2 (b1 a) + b2 (b1 b)) + (256 * b2 (b1 a) + b2 (b1 b)) / 16 = 256 * (b2 (b1 a) + b2 (b1 a) / 16) + (b2 (b1 b) + 16 * (b2 (b1 a) % 16) + b2 (b1 b) / 16) by omega, show (252645135 : Nat) = 256 * 986895 + 15 from rfl, and_split (by omega) (by omega), bc_3 _ (by omega) _ (by omega)]
    rfl
  unfold bcN
  dsimp only
  rw [f1, f2, f3, show 256 * b3 (b2 (b1 a)) + b3 (b2 (b1 b)) + (256 * b3 (b2 (b1 a)) + b3 (b2 (b1 b))) / 256 = 256 * b3 (b2 (b1 a)) + (b3 (b2 (b1 a)) + b3 (b2 (b1 b))) by omega, show 256 * b3 (b2 (b1 a)) + (b3 (b2 (b1 a)) + b3 (b2 (b1 b))) + (256 * b3 (b2 (b1 a)) + (b3 (b2 (b1 a)) + b3 (b2 (b1 b)))) / 65536 = 256 * b3 (b2 (b1 a)) + (b3 (b2 (b1 a)) + b3 (b2 (b1 b))) by omega, bc_4 _ (by omega) _ (by omega), p6, q6, bc_5 a ha b hb]
theorem smB_nat {n : Nat} (hn : n < 65536) : smB 16 (nI n) = bcS n := by
  have h : ∀ k, k < 32 → (bt (nI n) k).toNat = n / 2 ^ k % 2 := fun k hk => by
    unfold bt
    rw [show (nI n).toBitVec = BitVec.ofNat 32 n from rfl, BitVec.getLsbD_ofNat]
    simp only [hk, decide_true, Bool.true_and]
    rw [Nat.testBit_eq_decide_div_mod_eq]
    rcases Nat.mod_two_eq_zero_or_one (n / 2 ^ k) with e | e <;> rw [e] <;> rfl
  simp only [smB, h 0 (by omega), h 1 (by omega), h 2 (by omega), h 3 (by omega), h 4 (by omega), h 5 (by omega), h 6 (by omega), h 7 (by omega), h 8 (by omega), h 9 (by omega), h 10 (by omega), h 11 (by omega), h 12 (by omega), h 13 (by omega), h 14 (by omega), h 15 (by omega)]
  unfold bcS
  simp only [Nat.pow_zero, Nat.div_one, Nat.zero_add]
/-- who lies in all, the start, the rows: what 'gates' asks -/
def El (E : Nat → Nat → Prop) (al : Int32) (u v : Nat) : Prop := E u v ∧ bt al u = true ∧ bt al v = true
def GPre (nd : Int32) (ρ : Nat → Int32) (fr al : Int32) : Prop := ∃ n f : Nat, nd = nI n ∧ n ≤ 16 ∧ fr = nI f ∧ f < n ∧ RowsW n ρ ∧ IsSet al (Rd (El (Er nd ρ) al) f) ∧ ∀ k, bt al k = true → k < n
def GPost (nd : Int32) (ρ : Nat → Int32) (fr al : Int32) (to : Nat → Int32) : Prop := ∀ n f : Nat, nd = nI n → n ≤ 16 → fr = nI f → f < 16 → ∀ x, x < n → (bt al x = true → IsSet (to x) (fun g => Dm (El (Er nd ρ) al) f g x)) ∧ (¬ bt al x = true → to x = 0)
/-- the one of a set whose own set has most -/
def Deepest (nd : Int32) (st : Nat → Int32) (s r : Int32) : Prop := ∀ n : Nat, nd = nI n → n ≤ 16 → (r = -1 ∧ ∀ k, k < n → ¬ bt s k = true) ∨ ∃ g : Nat, g < n ∧ r = nI g ∧ bt s g = true ∧ ∀ k, k < n → bt s k = true → pc (st k) ≤ pc (st g)
/-- a forest of keepers, each node with its depth -/
def Chn (S : Nat → Prop) (kp : Nat → Int32) (D : Nat → Nat) : Prop := ∀ x, S x → x < 16 ∧ ((kp x = -1 ∧ D x = 0) ∨ ∃ g : Nat, kp x = nI g ∧ S g ∧ D x = D g + 1)
theorem nI_m1 {a : Nat} (h : a < 2 ^ 31) : ¬ nI a = -1 := fun e => by
  have := congrArg Int32.toInt e
  rw [nI_toInt h] at this
  have h2 : (-1 : Int32).toInt = -1 := rfl
  omega
theorem tn_sub {s t : Int32} (h : ∀ k, k < 32 → bt s k = true → bt t k = true) : s.toBitVec.toNat ≤ t.toBitVec.toNat := by
  have e : s = s &&& t := by
    apply b_ext
    intro i hi
    rw [b_and]
    cases hb : bt s i
    · rfl
    · rw [h i hi hb]; rfl
  rw [e, Int32.toBitVec_and, BitVec.toNat_and]
  exact Nat.and_le_right
def smT : Nat → (Nat → Int32) → Nat
  | 0, _ => 0
  | n + 1, a => smT n a + (a n).toBitVec.toNat
theorem smT_far {n x : Nat} {a : Nat → Int32} {v : Int32} (h : n ≤ x) : smT n (upd a x v) = smT n a := by
  induction n with
  | zero => rfl
  | succ n ih =>
    show smT n (upd a x v) + (upd a x v n).toBitVec.toNat = smT n a + (a n).toBitVec.toNat
    rw [ih (by omega), upd_n (by omega)]
theorem smT_upd {n x : Nat} {a : Nat → Int32} {v : Int32} (h : x < n) : smT n (upd a x v) + (a x).toBitVec.toNat = smT n a + v.toBitVec.toNat := by
  induction n with
  | zero => omega
  | succ n ih =>
    show smT n (upd a x v) + (upd a x v n).toBitVec.toNat + _ = smT n a + (a n).toBitVec.toNat + _
    by_cases e : x = n
    · subst e; rw [upd_s, smT_far (Nat.le_refl _)]; omega
    · rw [upd_n (fun z => e z.symm)]; have := ih (by omega); omega
/-! the gates' loop -/
section GLOOP
/-- what one round would make of x -/
def Fp (n : Nat) (E : Nat → Nat → Prop) (al : Int32) (a : Nat → Int32) (x g : Nat) : Prop := g = x ∨ (bt al g = true ∧ ∀ o, o < n → bt al o = true → E o x → bt (a o) g = true)
/-- what holds of the sets all along -/
def Gi (n f : Nat) (E : Nat → Nat → Prop) (al : Int32) (a : Nat → Int32) : Prop := (∀ x, x < n → bt al x = true → IsSet (a x) (fun g => bt (a x) g = true)) ∧ (∀ x, x < n → ¬ bt al x = true → a x = 0) ∧ IsSet (a f) (fun g => g = f) ∧ (∀ x g, x < n → bt al x = true → Dm (El E al) f g x → bt (a x) g = true) ∧ ∀ x g, x < n → bt al x = true → x ≠ f → g < 32 → Fp n E al a x g → bt (a x) g = true
variable {n f : Nat} {E : Nat → Nat → Prop} {al : Int32}
theorem Gi.fin (hal : IsSet al (Rd (El E al) f)) (haln : ∀ k, bt al k = true → k < n) (hn : n ≤ 16) {a : Nat → Int32} (h : Gi n f E al a) (hc : ∀ x, x < n → bt al x = true → x ≠ f → ∀ g, g < 32 → bt (a x) g = true → Fp n E al a x g) {x : Nat} (hx : x < n) (hb : bt al x = true) : IsSet (a x) (fun g => Dm (El E al) f g x) := by
  obtain ⟨h1, h2, h3, h4, h5⟩ := h
  have hR : Rd (El E al) f x := ((hal x (by omega)).1 hb).2
  intro g hg
  constructor
  · intro hbg
    have g16 := ((h1 x hx hb g hg).1 hbg).1
    refine ⟨g16, hR, fun q => ?_⟩
    have key := Rs.ind (X := fun y => bt al y = true → ¬ bt (a y) g = true) (fun z s w _ => by
      subst s
      intro hz
      exact w (((h3 g hg).1 hz).2).symm) (fun u v _ ih e w hv => by
      intro hz
      by_cases ev : v = f
      · subst ev; exact w (((h3 g hg).1 hz).2).symm
      · rcases hc v (haln v hv) hv ev g hg hz with r | r
        · exact w r.symm
        · exact ih e.2.1 (r.2 u (haln u e.2.1) e.2.1 e.1)) q hb
    exact key hbg
  · rintro ⟨hg16, hd⟩
    exact h4 x g hx hb hd
/-- one node's set made anew -/
theorem El.lt (haln : ∀ k, bt al k = true → k < n) (hf : f < n) {g : Nat} (h : Rd (El E al) f g) : g < n := Rs.ind (X := fun g => g < n) (fun z s _ => by rw [s]; exact hf) (fun _ w _ _ e _ => haln w e.2.2) h
theorem Gi.put (hal : IsSet al (Rd (El E al) f)) (haln : ∀ k, bt al k = true → k < n) (hfn : f < n) (hn : n ≤ 16) {a : Nat → Int32} (h : Gi n f E al a) {x : Nat} (hx : x < n) (hb : bt al x = true) (hf : x ≠ f) {v : Int32} (hv : IsSet v (Fp n E al a x)) : Gi n f E al (upd a x v) ∧ (∀ k, k < 32 → bt v k = true → bt (a x) k = true) := by
  obtain ⟨h1, h2, h3, h4, h5⟩ := h
  have sub : ∀ k, k < 32 → bt v k = true → bt (a x) k = true := fun k hk hb2 => h5 x k hx hb hf hk ((hv k hk).1 hb2).2
  have mono : ∀ y g, bt (upd a x v y) g = true → g < 32 → bt (a y) g = true := fun y g hy hg => by
    by_cases e : y = x
    · subst e; rw [upd_s] at hy; exact sub g hg hy
    · rw [upd_n e] at hy; exact hy
  have fp : ∀ y g, g < 32 → Fp n E al (upd a x v) y g → Fp n E al a y g := fun y g hg hy => hy.elim Or.inl (fun r => Or.inr ⟨r.1, fun o ho hbo e => mono o g (r.2 o ho hbo e) hg⟩)
  refine ⟨⟨fun y hy hby => ?_, fun y hy hby => ?_, ?_, fun y g hy hby hd => ?_, fun y g hy hby hyf hg hp => ?_⟩, sub⟩
  · by_cases e : y = x
    · subst e; rw [upd_s]; exact IsSet.self v (fun k k1 k2 => B16.of hv k k1 k2)
    · rw [upd_n e]; exact h1 y hy hby
  · by_cases e : y = x
    · subst e; exact absurd hb hby
    · rw [upd_n e]; exact h2 y hy hby
  · rw [upd_n (fun e => hf e.symm)]; exact h3
  · by_cases e : y = x
    · subst e; rw [upd_s]
      have g16 : g < 16 := by have := El.lt haln hfn hd.Rg; omega
      refine (hv g (by omega)).2 ⟨g16, ?_⟩
      by_cases eg : g = y
      · exact Or.inl eg
      · refine Or.inr ⟨(hal g (by omega)).2 ⟨g16, hd.Rg⟩, fun o ho hbo eo => h4 o g ho hbo ⟨((hal o (by omega)).1 hbo).2, fun q => hd.2 (q.step ⟨eo, hbo, hb⟩ (fun e => eg e.symm))⟩⟩
    · rw [upd_n e]; exact h4 y g hy hby hd
  · by_cases e : y = x
    · subst e; rw [upd_s]
      have p := fp y g hg hp
      refine (hv g hg).2 ⟨?_, p⟩
      rcases p with r | r
      · omega
      · exact ((hal g hg).1 r.1).1
    · rw [upd_n e]; exact h5 y g hy hby hyf hg (fp y g hg hp)
end GLOOP
theorem nI_and (a b : Nat) : nI a &&& nI b = nI (a &&& b) := by
  apply Int32.toBitVec_inj.1
  show BitVec.ofNat 32 a &&& BitVec.ofNat 32 b = BitVec.ofNat 32 (a &&& b)
  apply BitVec.eq_of_getLsbD_eq
  intro i hi
  simp [hi]
theorem ush {n : Nat} (hn : n < 2 ^ 32) (s : Int32) (k d : Nat) (hs : ((s.toUInt32 &&& Int32.toUInt32 31).toBitVec % 32).toNat = k) (hd : 2 ^ k = d) : ((nI n).toUInt32 >>> (s.toUInt32 &&& Int32.toUInt32 31)).toInt32 = nI (n / d) := by
  rw [pk_ushrN hn s k hs, hd]
theorem bt_nI {n : Nat} (k : Nat) (hk : k < 32) : bt (nI n) k = n.testBit k := by
  unfold bt
  rw [show (nI n).toBitVec = BitVec.ofNat 32 n from rfl, BitVec.getLsbD_ofNat]
  simp [hk]
theorem low_bit {s : Int32} (h : B16 s) (h0 : ¬ s = 0) : ∃ k : Nat, k < 16 ∧ bt s k = true ∧ (∀ j, j < k → bt s j = false) ∧ (s ^^^ (-1)) &&& (s - 1) = nI (2 ^ k - 1) := by
  obtain ⟨n, hn, rfl⟩ := B16.nat h
  have hn0 : n ≠ 0 := fun e => h0 (by rw [e]; rfl)
  obtain ⟨k0, hk0⟩ := Nat.exists_testBit_of_ne_zero hn0
  obtain ⟨k, hk, hl⟩ := pk_least (fun k => n.testBit k = true) ⟨k0, hk0⟩
  have k16 : k < 16 := by
    apply Classical.byContradiction; intro hc
    have hk : n.testBit k = true := hk
    rw [Nat.testBit_lt_two_pow (Nat.lt_of_lt_of_le hn (Nat.pow_le_pow_right (n := 2) (by omega) (show 16 ≤ k by omega)))] at hk
    exact absurd hk (by simp)
  have hl2 : ∀ j, j < k → n.testBit j = false := fun j hj => by
    have := hl j hj
    cases hb : n.testBit j
    · rfl
    · exact absurd hb this
  have em : n % 2 ^ (k + 1) = 2 ^ k := by
    apply Nat.eq_of_testBit_eq
    intro i
    rw [Nat.testBit_mod_two_pow, Nat.testBit_two_pow]
    by_cases h1 : i < k
    · rw [hl2 i h1]; have : ¬ k = i := by omega
      simp [this]
    · by_cases h2 : i = k
      · subst h2
        have hk : n.testBit i = true := hk
        rw [hk]; simp
      · have e1 : ¬ i < k + 1 := by omega
        have e2 : ¬ k = i := by omega
        simp [e1, e2]
  have ed : n = 2 ^ (k + 1) * (n / 2 ^ (k + 1)) + 2 ^ k := by
    have := Nat.div_add_mod n (2 ^ (k + 1)); rw [em] at this; exact this.symm
  have p1 : 0 < 2 ^ k := Nat.pow_pos (by omega)
  have p2 : 2 ^ (k + 1) = 2 * 2 ^ k := by rw [Nat.pow_succ]; omega
  generalize n / 2 ^ (k + 1) = q at ed
  refine ⟨k, k16, by rw [bt_nI k (by omega)]; exact hk, fun j hj => by rw [bt_nI j (by omega)]; exact hl2 j hj, ?_⟩
  rw [show nI n - 1 = nI (n - 1) from pk_sub (a := n) (b := 1) (by omega)]
  apply b_ext
  intro i hi
  rw [b_and, b_not _ hi, bt_nI i hi, bt_nI i hi, bt_nI i hi, Nat.testBit_two_pow_sub_one]
  rw [show n - 1 = 2 ^ (k + 1) * q + (2 ^ k - 1) by omega, Nat.testBit_two_pow_mul_add _ (show 2 ^ k - 1 < 2 ^ (k + 1) by omega), Nat.testBit_two_pow_sub_one]
  rw [ed, Nat.testBit_two_pow_mul_add _ (show 2 ^ k < 2 ^ (k + 1) by omega), Nat.testBit_two_pow]
  by_cases h1 : i < k + 1
  · by_cases h2 : i < k
    · have : ¬ k = i := by omega
      simp [h1, h2, this]
    · simp [h1, h2]
  · have h2 : ¬ i < k := by omega
    simp [h1, h2]
/-! tree1: contracts, pure predicates (printed by gen.py) -/
def pr_J7_bitCount (s : Int32) : Prop := B16 s
def ps_J7_bitCount (s : Int32) (r : Int32)  : Prop := r = nI (pc s)
def wp_J7_bitCount (s : Int32) (Q : Int32 → Prop) : Prop :=
  Q ((((((((s - (((s.toUInt32 >>> ((1 : Int32).toUInt32 &&& Int32.toUInt32 31)).toInt32) &&& 1431655765)) &&& 858993459) + ((((s - (((s.toUInt32 >>> ((1 : Int32).toUInt32 &&& Int32.toUInt32 31)).toInt32) &&& 1431655765)).toUInt32 >>> ((2 : Int32).toUInt32 &&& Int32.toUInt32 31)).toInt32) &&& 858993459)) + (((((s - (((s.toUInt32 >>> ((1 : Int32).toUInt32 &&& Int32.toUInt32 31)).toInt32) &&& 1431655765)) &&& 858993459) + ((((s - (((s.toUInt32 >>> ((1 : Int32).toUInt32 &&& Int32.toUInt32 31)).toInt32) &&& 1431655765)).toUInt32 >>> ((2 : Int32).toUInt32 &&& Int32.toUInt32 31)).toInt32) &&& 858993459)).toUInt32 >>> ((4 : Int32).toUInt32 &&& Int32.toUInt32 31)).toInt32)) &&& 252645135) + (((((((s - (((s.toUInt32 >>> ((1 : Int32).toUInt32 &&& Int32.toUInt32 31)).toInt32) &&& 1431655765)) &&& 858993459) + ((((s - (((s.toUInt32 >>> ((1 : Int32).toUInt32 &&& Int32.toUInt32 31)).toInt32) &&& 1431655765)).toUInt32 >>> ((2 : Int32).toUInt32 &&& Int32.toUInt32 31)).toInt32) &&& 858993459)) + (((((s - (((s.toUInt32 >>> ((1 : Int32).toUInt32 &&& Int32.toUInt32 31)).toInt32) &&& 1431655765)) &&& 858993459) + ((((s - (((s.toUInt32 >>> ((1 : Int32).toUInt32 &&& Int32.toUInt32 31)).toInt32) &&& 1431655765)).toUInt32 >>> ((2 : Int32).toUInt32 &&& Int32.toUInt32 31)).toInt32) &&& 858993459)).toUInt32 >>> ((4 : Int32).toUInt32 &&& Int32.toUInt32 31)).toInt32)) &&& 252645135).toUInt32 >>> ((8 : Int32).toUInt32 &&& Int32.toUInt32 31)).toInt32)) + ((((((((s - (((s.toUInt32 >>> ((1 : Int32).toUInt32 &&& Int32.toUInt32 31)).toInt32) &&& 1431655765)) &&& 858993459) + ((((s - (((s.toUInt32 >>> ((1 : Int32).toUInt32 &&& Int32.toUInt32 31)).toInt32) &&& 1431655765)).toUInt32 >>> ((2 : Int32).toUInt32 &&& Int32.toUInt32 31)).toInt32) &&& 858993459)) + (((((s - (((s.toUInt32 >>> ((1 : Int32).toUInt32 &&& Int32.toUInt32 31)).toInt32) &&& 1431655765)) &&& 858993459) + ((((s - (((s.toUInt32 >>> ((1 : Int32).toUInt32 &&& Int32.toUInt32 31)).toInt32) &&& 1431655765)).toUInt32 >>> ((2 : Int32).toUInt32 &&& Int32.toUInt32 31)).toInt32) &&& 858993459)).toUInt32 >>> ((4 : Int32).toUInt32 &&& Int32.toUInt32 31)).toInt32)) &&& 252645135) + (((((((s - (((s.toUInt32 >>> ((1 : Int32).toUInt32 &&& Int32.toUInt32 31)).toInt32) &&& 1431655765)) &&& 858993459) + ((((s - (((s.toUInt32 >>> ((1 : Int32).toUInt32 &&& Int32.toUInt32 31)).toInt32) &&& 1431655765)).toUInt32 >>> ((2 : Int32).toUInt32 &&& Int32.toUInt32 31)).toInt32) &&& 858993459)) + (((((s - (((s.toUInt32 >>> ((1 : Int32).toUInt32 &&& Int32.toUInt32 31)).toInt32) &&& 1431655765)) &&& 858993459) + ((((s - (((s.toUInt32 >>> ((1 : Int32).toUInt32 &&& Int32.toUInt32 31)).toInt32) &&& 1431655765)).toUInt32 >>> ((2 : Int32).toUInt32 &&& Int32.toUInt32 31)).toInt32) &&& 858993459)).toUInt32 >>> ((4 : Int32).toUInt32 &&& Int32.toUInt32 31)).toInt32)) &&& 252645135).toUInt32 >>> ((8 : Int32).toUInt32 &&& Int32.toUInt32 31)).toInt32)).toUInt32 >>> ((16 : Int32).toUInt32 &&& Int32.toUInt32 31)).toInt32)) &&& 63)
theorem pf_J7_bitCount (s : Int32) (hp : pr_J7_bitCount s) : wp_J7_bitCount s (ps_J7_bitCount s) := by
  obtain ⟨n, hn, rfl⟩ := B16.nat hp
  show _ = nI (pc (nI n))
  have e0 : pc (nI n) = bcN n := by unfold pc; rw [cnt_bt, smB_nat hn, bc_all hn]
  rw [e0]
  have l1 : n / 2 &&& 1431655765 ≤ n := Nat.le_trans Nat.and_le_left (by omega)
  rw [ush (n := n) (by omega) 1 1 2 (by decide) rfl, show (1431655765 : Int32) = nI 1431655765 from rfl, nI_and, pk_sub l1]
  generalize ha : n - (n / 2 &&& 1431655765) = a
  have la : a < 65536 := by omega
  rw [ush (n := a) (by omega) 2 2 4 (by decide) rfl, show (858993459 : Int32) = nI 858993459 from rfl, nI_and, nI_and, nI_add]
  generalize hb : (a &&& 858993459) + (a / 4 &&& 858993459) = b
  have lb : b < 131072 := by
    have h1 : a &&& 858993459 ≤ a := Nat.and_le_left
    have h2 : a / 4 &&& 858993459 ≤ a / 4 := Nat.and_le_left
    omega
  rw [ush (n := b) (by omega) 4 4 16 (by decide) rfl, nI_add, show (252645135 : Int32) = nI 252645135 from rfl, nI_and]
  generalize hc : (b + b / 16) &&& 252645135 = c
  have lc : c < 200000 := by
    have h1 : (b + b / 16) &&& 252645135 ≤ b + b / 16 := Nat.and_le_left
    omega
  rw [ush (n := c) (by omega) 8 8 256 (by decide) rfl, nI_add]
  generalize hd : c + c / 256 = d
  rw [ush (n := d) (by omega) 16 16 65536 (by decide) rfl, nI_add, show (63 : Int32) = nI 63 from rfl, nI_and]
  unfold bcN
  dsimp only
  rw [ha, hb, hc, hd]
def pr_J7_numberOfTrailingZeros (s : Int32) : Prop := B16 s ∧ ¬ s = 0
def ps_J7_numberOfTrailingZeros (s : Int32) (r : Int32)  : Prop := ∃ k : Nat, r = nI k ∧ k < 16 ∧ bt s k = true ∧ ∀ j, j < k → bt s j = false
def wp_J7_numberOfTrailingZeros (s : Int32) (Q : Int32 → Prop) : Prop :=
  ((0 < ((s ^^^ (-1)) &&& (s - 1)) → (∀ J34 : Int32 → Int32 → Prop, (∀ (x1_3 : Int32) (x0_4 : Int32), (((x0_4 ≤ 256 → (∀ J62 : Int32 → Int32 → Prop, (∀ (x1_7 : Int32) (x0_8 : Int32), (((x0_8 ≤ 4 → (Q (x1_7 + ((x0_8.toUInt32 >>> ((1 : Int32).toUInt32 &&& Int32.toUInt32 31)).toInt32)))) ∧
 (¬ (x0_8 ≤ 4) → (Q ((x1_7 + 2) + ((((x0_8.toUInt32 >>> ((2 : Int32).toUInt32 &&& Int32.toUInt32 31)).toInt32).toUInt32 >>> ((1 : Int32).toUInt32 &&& Int32.toUInt32 31)).toInt32)))))) → J62 x1_7 x0_8) →
((x0_4 ≤ 16 → (J62 x1_3 x0_4)) ∧
 (¬ (x0_4 ≤ 16) → (J62 (x1_3 + 4) ((x0_4.toUInt32 >>> ((4 : Int32).toUInt32 &&& Int32.toUInt32 31)).toInt32)))))) ∧
 (¬ (x0_4 ≤ 256) → (∀ J62 : Int32 → Int32 → Prop, (∀ (x0_13 : Int32) (x1_14 : Int32), (((x0_13 ≤ 4 → (Q (x1_14 + ((x0_13.toUInt32 >>> ((1 : Int32).toUInt32 &&& Int32.toUInt32 31)).toInt32)))) ∧
 (¬ (x0_13 ≤ 4) → (Q ((x1_14 + 2) + ((((x0_13.toUInt32 >>> ((2 : Int32).toUInt32 &&& Int32.toUInt32 31)).toInt32).toUInt32 >>> ((1 : Int32).toUInt32 &&& Int32.toUInt32 31)).toInt32)))))) → J62 x0_13 x1_14) →
((((x0_4.toUInt32 >>> ((8 : Int32).toUInt32 &&& Int32.toUInt32 31)).toInt32) ≤ 16 → (J62 ((x0_4.toUInt32 >>> ((8 : Int32).toUInt32 &&& Int32.toUInt32 31)).toInt32) (x1_3 + 8))) ∧
 (¬ (((x0_4.toUInt32 >>> ((8 : Int32).toUInt32 &&& Int32.toUInt32 31)).toInt32) ≤ 16) → (J62 ((((x0_4.toUInt32 >>> ((8 : Int32).toUInt32 &&& Int32.toUInt32 31)).toInt32).toUInt32 >>> ((4 : Int32).toUInt32 &&& Int32.toUInt32 31)).toInt32) ((x1_3 + 8) + 4)))))))) → J34 x1_3 x0_4) →
((((s ^^^ (-1)) &&& (s - 1)) ≤ 65536 → (J34 1 ((s ^^^ (-1)) &&& (s - 1)))) ∧
 (¬ (((s ^^^ (-1)) &&& (s - 1)) ≤ 65536) → (J34 (1 + 16) ((((s ^^^ (-1)) &&& (s - 1)).toUInt32 >>> ((16 : Int32).toUInt32 &&& Int32.toUInt32 31)).toInt32)))))) ∧
 (¬ (0 < ((s ^^^ (-1)) &&& (s - 1))) → (Q (((s ^^^ (-1)) &&& (s - 1)) &&& 32))))
theorem pf_J7_numberOfTrailingZeros (s : Int32) (hp : pr_J7_numberOfTrailingZeros s) : wp_J7_numberOfTrailingZeros s (ps_J7_numberOfTrailingZeros s) := by
  obtain ⟨h16, h0⟩ := hp
  obtain ⟨k, hk, hb, hl, hz⟩ := low_bit h16 h0
  unfold wp_J7_numberOfTrailingZeros
  rw [hz]
  have fin : ∀ r : Int32, r = nI k → ps_J7_numberOfTrailingZeros s r := fun r e => ⟨k, e, hk, hb, hl⟩
  rcases (show k = 0 ∨ k = 1 ∨ k = 2 ∨ k = 3 ∨ k = 4 ∨ k = 5 ∨ k = 6 ∨ k = 7 ∨ k = 8 ∨ k = 9 ∨ k = 10 ∨ k = 11 ∨ k = 12 ∨ k = 13 ∨ k = 14 ∨ k = 15 by omega) with e | e | e | e | e | e | e | e | e | e | e | e | e | e | e | e <;> subst e
  · exact ⟨fun c => absurd c (by decide), fun _ => fin _ (by decide)⟩
  all_goals
    refine ⟨fun _ J1 hJ1 => ⟨fun _ => hJ1 _ _ ⟨fun c J2 h2 => ⟨fun c2 => h2 _ _ ⟨fun c3 => ?_, fun c3 => ?_⟩, fun c2 => h2 _ _ ⟨fun c3 => ?_, fun c3 => ?_⟩⟩, fun c J2 h2 => ⟨fun c2 => h2 _ _ ⟨fun c3 => ?_, fun c3 => ?_⟩, fun c2 => h2 _ _ ⟨fun c3 => ?_, fun c3 => ?_⟩⟩⟩, fun c => absurd (by decide) c⟩, fun c => absurd (by decide) c⟩
    all_goals first
      | exact absurd c (by decide)
      | exact absurd c2 (by decide)
      | exact absurd c3 (by decide)
      | exact fin _ (by decide)
def pr_X1_gates_T (kp dp tw wt st : Nat → Int32) (tn tr tre tm ts fr al : Int32) : Prop := GPre tn tw fr al
def ps_X1_gates_T (kp dp tw wt st : Nat → Int32) (tn tr tre tm ts fr al : Int32) (st' : Nat → Int32) : Prop := GPost tn tw fr al st'
def wp_X1_gates_T_L100 (kp dp tw wt : Nat → Int32) (tn tr tre tm ts al x5_923 : Int32) (a_925 : Nat → Int32) (J151 : Int32 → Prop) (ix7_971 ix6_972 : Int32) : Prop :=
  ∀ X100 : Int32 → Int32 → Prop, (∀ (x7_971 : Int32) (x6_972 : Int32), (∀ (r_974 : Int32), ps_X5_nodes kp dp tw wt a_925 tn tr tre tm ts r_974 → (((r_974 ≤ x7_971 → (J151 x6_972)) ∧
 (¬ (r_974 ≤ x7_971) → (∀ (r_976 : Int32), ps_X1_has al x7_971 r_976 → (((r_976 = 0 → (X100 (x7_971 + 1) x6_972)) ∧
 (¬ (r_976 = 0) → (pr_X5_next kp dp tw wt a_925 tn tr tre tm ts x7_971 ∧ (∀ (r_978 : Int32), ps_X5_next kp dp tw wt a_925 tn tr tre tm ts x7_971 r_978 → (∀ (r_979 : Int32), ps_X1_has r_978 x5_923 r_979 → (((r_979 = 0 → (X100 (x7_971 + 1) x6_972)) ∧
 (¬ (r_979 = 0) → (vp_in x7_971 16 ∧ (X100 (x7_971 + 1) (x6_972 &&& (a_925 x7_971.toNatClampNeg)))))))))))))))))) → X100 x7_971 x6_972) → X100 ix7_971 ix6_972
def wp_X1_gates_T_L65 (kp dp tw wt : Nat → Int32) (tn tr tre tm ts fr al : Int32) (J193 : Int32 → (Nat → Int32) → Prop) (ix5_923 ix4_924 : Int32) (ia_925 : Nat → Int32) : Prop :=
  ∀ X65 : Int32 → Int32 → (Nat → Int32) → Prop, (∀ (x5_923 : Int32) (x4_924 : Int32) (a_925 : Nat → Int32), (∀ (r_927 : Int32), ps_X5_nodes kp dp tw wt a_925 tn tr tre tm ts r_927 → (((r_927 ≤ x5_923 → (J193 x4_924 a_925)) ∧
 (¬ (r_927 ≤ x5_923) → (∀ (r_929 : Int32), ps_X1_has al x5_923 r_929 → (((r_929 = 0 → (X65 (x5_923 + 1) x4_924 a_925)) ∧
 (¬ (r_929 = 0) → ((¬ x5_923 = fr → (∀ J151 : Int32 → Prop, (∀ (x6_962 : Int32), (((¬ x4_924 = 0 → (vp_in x5_923 16 ∧ (∀ u_965 : Nat → Int32, u_965 = upd a_925 x5_923.toNatClampNeg (x6_962 ||| (1 <<< (x5_923 &&& 31))) → (X65 (x5_923 + 1) 1 u_965)))) ∧
 (x4_924 = 0 → (vp_in x5_923 16 ∧ ((((x6_962 ||| (1 <<< (x5_923 &&& 31))) = (a_925 x5_923.toNatClampNeg) → (∀ u_968 : Nat → Int32, u_968 = upd a_925 x5_923.toNatClampNeg (x6_962 ||| (1 <<< (x5_923 &&& 31))) → (X65 (x5_923 + 1) 0 u_968))) ∧
 (¬ ((x6_962 ||| (1 <<< (x5_923 &&& 31))) = (a_925 x5_923.toNatClampNeg)) → (∀ u_969 : Nat → Int32, u_969 = upd a_925 x5_923.toNatClampNeg (x6_962 ||| (1 <<< (x5_923 &&& 31))) → (X65 (x5_923 + 1) 1 u_969))))))))) → J151 x6_962) →
wp_X1_gates_T_L100 kp dp tw wt tn tr tre tm ts al x5_923 a_925 J151 0 al)) ∧
 (x5_923 = fr → (X65 (x5_923 + 1) x4_924 a_925))))))))))) → X65 x5_923 x4_924 a_925) → X65 ix5_923 ix4_924 ia_925
def wp_X1_gates_T_L54 (kp dp tw wt : Nat → Int32) (tn tr tre tm ts fr al : Int32) (J196 : (Nat → Int32) → Prop) (ix4_746 : Int32) (ia_747 : Nat → Int32) : Prop :=
  ∀ X54 : Int32 → (Nat → Int32) → Prop, (∀ (x4_746 : Int32) (a_747 : Nat → Int32), (((x4_746 = 0 → (J196 a_747)) ∧
 (¬ (x4_746 = 0) → (∀ J193 : Int32 → (Nat → Int32) → Prop, (∀ (x4_920 : Int32) (a_921 : Nat → Int32), (X54 x4_920 a_921) → J193 x4_920 a_921) →
wp_X1_gates_T_L65 kp dp tw wt tn tr tre tm ts fr al J193 0 0 a_747)))) → X54 x4_746 a_747) → X54 ix4_746 ia_747
def wp_X1_gates_T_L3 (kp dp tw wt : Nat → Int32) (tn tr tre tm ts fr al : Int32) (J51 : (Nat → Int32) → Prop) (ix4_983 : Int32) (ia_984 : Nat → Int32) : Prop :=
  ∀ X3 : Int32 → (Nat → Int32) → Prop, (∀ (x4_983 : Int32) (a_984 : Nat → Int32), (∀ (r_986 : Int32), ps_X5_nodes kp dp tw wt a_984 tn tr tre tm ts r_986 → (((r_986 ≤ x4_983 → (J51 a_984)) ∧
 (¬ (r_986 ≤ x4_983) → (∀ (r_988 : Int32), ps_X1_has al x4_983 r_988 → (((r_988 = 0 → (vp_in x4_983 16 ∧ (∀ u_991 : Nat → Int32, u_991 = upd a_984 x4_983.toNatClampNeg 0 → (X3 (x4_983 + 1) u_991)))) ∧
 (¬ (r_988 = 0) → ((¬ x4_983 = fr → (vp_in x4_983 16 ∧ (∀ u_994 : Nat → Int32, u_994 = upd a_984 x4_983.toNatClampNeg al → (X3 (x4_983 + 1) u_994)))) ∧
 (x4_983 = fr → (vp_in x4_983 16 ∧ (∀ u_996 : Nat → Int32, u_996 = upd a_984 x4_983.toNatClampNeg (1 <<< (x4_983 &&& 31)) → (X3 (x4_983 + 1) u_996))))))))))))) → X3 x4_983 a_984) → X3 ix4_983 ia_984
def wp_X1_gates_T (kp dp tw wt st : Nat → Int32) (tn tr tre tm ts fr al : Int32) (Q : (Nat → Int32) → Prop) : Prop :=
  ∀ J51 : (Nat → Int32) → Prop, (∀ (a_38 : Nat → Int32), (∀ J196 : (Nat → Int32) → Prop, (∀ (a_744 : Nat → Int32), (Q a_744) → J196 a_744) →
wp_X1_gates_T_L54 kp dp tw wt tn tr tre tm ts fr al J196 1 a_38) → J51 a_38) →
wp_X1_gates_T_L3 kp dp tw wt tn tr tre tm ts fr al J51 0 st
theorem pf_X1_gates_T (kp dp tw wt st : Nat → Int32) (tn tr tre tm ts fr al : Int32) (hp : pr_X1_gates_T kp dp tw wt st tn tr tre tm ts fr al) : wp_X1_gates_T kp dp tw wt st tn tr tre tm ts fr al (ps_X1_gates_T kp dp tw wt st tn tr tre tm ts fr al) := by
  obtain ⟨n, f, rfl, hn, rfl, hf, hρ, hal, haln⟩ := hp
  intro J hJ X hX
  -- the first sets
  refine up1 n (fun i a => ∀ x, x < i → (¬ bt al x = true → a x = 0) ∧ (bt al x = true → x ≠ f → a x = al) ∧ (bt al x = true → x = f → a x = (1 : Int32) <<< (nI f &&& 31))) (fun i a hi hI hh => hX _ _ (fun r hr => ?_)) (fun a hI => hX _ _ (fun r hr => ?_)) 0 st (by omega) (fun x hx => absurd hx (by omega))
  · cases hr
    refine ⟨fun c => ?_, fun c r2 hr2 => ?_⟩
    · rw [leN (by omega) (by omega)] at c; omega
    unfold ps_X1_has at hr2
    rw [hr2, i1_eq0, hs_bt (by omega), clN (by omega), eqN (by omega) (by omega)]
    have hin := vp_in_nI (show i < 16 by omega) (by decide)
    refine ⟨fun d => ⟨hin, fun u eu => hh _ ?_⟩, fun d => ⟨fun d2 => ⟨hin, fun u eu => hh _ ?_⟩, fun d2 => ⟨hin, fun u eu => hh _ ?_⟩⟩⟩
    all_goals
      subst eu
      intro x hx
      by_cases e : x = i
      · subst e; rw [upd_s]
        try have d := Classical.not_not.1 d
        first
          | exact ⟨fun _ => rfl, fun z => absurd z d, fun z => absurd z d⟩
          | exact ⟨fun z => absurd d z, fun _ _ => rfl, fun _ z => absurd z d2⟩
          | exact ⟨fun z => absurd d z, fun _ z => absurd d2 z, fun _ _ => by rw [d2]⟩
      · rw [upd_n e]; exact hI x (by omega)
  · cases hr
    refine ⟨fun _ => hJ _ ?_, fun c => absurd (Int32.le_refl _) c⟩
    -- the rounds
    have hfal : bt al f = true := (hal f (by omega)).2 ⟨by omega, Rd.root⟩
    have hG0 : Gi n f (Er (nI n) tw) al a := by
      have af : a f = (1 : Int32) <<< (nI f &&& 31) := (hI f hf).2.2 hfal rfl
      refine ⟨fun x hx hb => ?_, fun x hx hb => (hI x hx).1 hb, by rw [af]; exact IsSet.bit (by omega), fun x g hx hb hd => ?_, fun x g hx hb hxf hg hp => ?_⟩
      · by_cases e : x = f
        · subst e; rw [af]; exact IsSet.self _ (fun k k1 k2 => B16.of (IsSet.bit (by omega)) k k1 k2)
        · rw [(hI x hx).2.1 hb e]; exact IsSet.self _ (fun k k1 k2 => B16.of hal k k1 k2)
      · have gn := El.lt haln hf hd.Rg
        by_cases e : x = f
        · subst e
          have : g = x := hd.antisymm (Dm.root hd.Rg)
          subst this; rw [af, b_bit (by omega) (by omega)]; simp
        · rw [(hI x hx).2.1 hb e]
          exact (hal g (by omega)).2 ⟨by omega, hd.Rg⟩
      · rw [(hI x hx).2.1 hb hxf]
        rcases hp with e | e
        · rw [e]; exact hb
        · exact e.1
    intro J2 hJ2 X2 hX2
    have main := dn1 (X := fun (p : Int32 × (Nat → Int32)) => X2 p.1 p.2) (fun p => (p.1 = 0 ∨ p.1 = 1) ∧ Gi n f (Er (nI n) tw) al p.2 ∧ (p.1 = 0 → ∀ x, x < n → bt al x = true → x ≠ f → ∀ g, g < 32 → bt (p.2 x) g = true → Fp n (Er (nI n) tw) al p.2 x g)) (fun p => if p.1 = 0 then 0 else 1 + smT n p.2) (fun p hp hh => hX2 _ _ ⟨fun c => hJ2 _ ?_, fun c J3 hJ3 X3 hX3 => ?_⟩)
    · exact main (1, a) ⟨Or.inr rfl, hG0, fun e => absurd (show (1 : Int32) = 0 from e) (by decide)⟩
    · intro n' f' en hn' ef hf' x hx
      rw [eqN (by omega) (by omega)] at en ef
      subst en; subst ef
      exact ⟨fun hb => Gi.fin hal haln hn hp.2.1 (hp.2.2 c) hx hb, fun hb => hp.2.1.2.1 x hx hb⟩
    · obtain ⟨pm, pa⟩ := p
      dsimp only at hp hh c hX3 ⊢
      have m1 := hp.1.resolve_left c
      subst m1
      -- one round
      refine up2 n (fun i (w : Int32) (b : Nat → Int32) => Gi n f (Er (nI n) tw) al b ∧ ((w = 0 ∧ b = pa ∧ ∀ x, x < i → bt al x = true → x ≠ f → ∀ g, g < 32 → bt (pa x) g = true → Fp n (Er (nI n) tw) al pa x g) ∨ (w = 1 ∧ smT n b < smT n pa))) (fun i w b hi hI hn2 => hX3 _ _ _ (fun r hr => ?_)) (fun w b hI => hX3 _ _ _ (fun r hr => ?_)) 0 0 pa (by omega) ⟨hp.2.1, Or.inl ⟨rfl, rfl, fun x hx => absurd hx (by omega)⟩⟩
      · cases hr
        refine ⟨fun c => ?_, fun c r2 hr2 => ?_⟩
        · rw [leN (by omega) (by omega)] at c; omega
        unfold ps_X1_has at hr2
        rw [hr2, i1_eq0, hs_bt (by omega), eqN (by omega) (by omega)]
        refine ⟨fun d => hn2 _ _ ⟨hI.1, ?_⟩, fun d => ⟨fun d2 J4 hJ4 X4 hX4 => ?_, fun d2 => hn2 _ _ ⟨hI.1, ?_⟩⟩⟩
        · refine hI.2.imp (fun z => ⟨z.1, z.2.1, fun x hx hb => ?_⟩) id
          by_cases e : x = i
          · subst e; exact absurd hb d
          · exact z.2.2 x (by omega) hb
        · have d := Classical.not_not.1 d
          -- its new set
          refine up1 n (fun o (s : Int32) => IsSet s (fun g => bt al g = true ∧ ∀ q, q < o → bt al q = true → Er (nI n) tw q i → bt (b q) g = true)) (fun o s ho hS hh2 => hX4 _ _ (fun r hr => ?_)) (fun s hS => hX4 _ _ (fun r hr => ?_)) 0 al (by omega) (fun g hg => ⟨fun z => ⟨((hal g hg).1 z).1, z, fun q hq => absurd hq (by omega)⟩, fun z => z.2.1⟩)
          · cases hr
            refine ⟨fun c => ?_, fun c r2 hr2 => ?_⟩
            · rw [leN (by omega) (by omega)] at c; omega
            unfold ps_X1_has at hr2
            rw [hr2, i1_eq0, hs_bt (by omega)]
            refine ⟨fun e => hh2 _ (hS.congr (fun g hg => ⟨fun z => ⟨z.1, fun q hq hb => ?_⟩, fun z => ⟨z.1, fun q hq => z.2 q (by omega)⟩⟩)), fun e => ⟨vp_in_nI (by omega) (by decide), fun r3 hr3 r4 hr4 => ?_⟩⟩
            · by_cases eq : q = o
              · subst eq; exact absurd hb e
              · exact z.2 q (by omega) hb
            · have e := Classical.not_not.1 e
              cases hr3
              unfold ps_X1_has at hr4
              rw [hr4, i1_eq0, hs_bt (by omega), clN (by omega)]
              refine ⟨fun e2 => hh2 _ (hS.congr (fun g hg => ⟨fun z => ⟨z.1, fun q hq hb he => ?_⟩, fun z => ⟨z.1, fun q hq => z.2 q (by omega)⟩⟩)), fun e2 => ⟨vp_in_nI (by omega) (by decide), hh2 _ ?_⟩⟩
              · by_cases eq : q = o
                · subst eq; exact absurd he.2 e2
                · exact z.2 q (by omega) hb he
              · have e2 := Classical.not_not.1 e2
                intro g hg
                rw [b_and, Bool.and_eq_true, hS g hg]
                constructor
                · rintro ⟨⟨z1, z2, z3⟩, z4⟩
                  refine ⟨z1, z2, fun q hq hb he => ?_⟩
                  by_cases eq : q = o
                  · subst eq; exact z4
                  · exact z3 q (by omega) hb he
                · rintro ⟨z1, z2, z3⟩
                  exact ⟨⟨z1, z2, fun q hq => z3 q (by omega)⟩, z3 o (by omega) e ⟨by rw [clN (by omega)]; exact ho, e2⟩⟩
          · cases hr
            refine ⟨fun _ => hJ4 _ ?_, fun c => absurd (Int32.le_refl _) c⟩
            rw [clN (by omega)]
            have hV : IsSet (s ||| ((1 : Int32) <<< (nI i &&& 31))) (Fp n (Er (nI n) tw) al b i) := (hS.or (IsSet.bit (by omega))).congr (fun g hg => ⟨fun z => z.elim Or.inr Or.inl, fun z => z.elim Or.inr Or.inl⟩)
            obtain ⟨hG2, hsub⟩ := hI.1.put hal haln hf hn hi d d2 hV
            have hin := vp_in_nI (show i < 16 by omega) (by decide)
            have hle := tn_sub hsub
            have hsm := smT_upd (a := b) (v := s ||| ((1 : Int32) <<< (nI i &&& 31))) hi
            refine ⟨fun e => ⟨hin, fun u eu => hn2 _ _ ?_⟩, fun e => ⟨hin, fun e2 u eu => hn2 _ _ ?_, fun e2 u eu => hn2 _ _ ?_⟩⟩
            · subst eu
              rcases hI.2 with z | z
              · exact absurd z.1 e
              · exact ⟨hG2, Or.inr ⟨rfl, by omega⟩⟩
            · rcases hI.2 with z | z
              · have eb : upd b i (s ||| ((1 : Int32) <<< (nI i &&& 31))) = b := by
                  funext y
                  by_cases ey : y = i
                  · subst ey; rw [upd_s, e2]
                  · rw [upd_n ey]
                rw [eb] at eu hG2
                subst eu
                refine ⟨hG2, Or.inl ⟨rfl, z.2.1, fun x hx hb hxf g hg hbg => ?_⟩⟩
                by_cases ex : x = i
                · subst ex
                  rw [← z.2.1, ← e2] at hbg
                  have := ((hV g hg).1 hbg).2
                  rw [z.2.1] at this; exact this
                · exact z.2.2 x (by omega) hb hxf g hg hbg
              · rw [e] at z; exact absurd z.1 (by decide)
            · subst eu
              have hne : (s ||| ((1 : Int32) <<< (nI i &&& 31))).toBitVec.toNat ≠ (b i).toBitVec.toNat := fun z => e2 (tn_inj z)
              rcases hI.2 with z | z
              · refine ⟨hG2, Or.inr ⟨rfl, ?_⟩⟩
                rw [← z.2.1]; omega
              · rw [e] at z; exact absurd z.1 (by decide)
        · refine hI.2.imp (fun z => ⟨z.1, z.2.1, fun x hx hb hxf => ?_⟩) id
          by_cases e : x = i
          · subst e; exact absurd d2 hxf
          · exact z.2.2 x (by omega) hb hxf
      · cases hr
        refine ⟨fun _ => hJ3 _ _ ?_, fun c => absurd (Int32.le_refl _) c⟩
        rcases hI.2 with ⟨z1, z2, z3⟩ | ⟨z1, z2⟩
        · refine hh (w, b) ⟨Or.inl z1, hI.1, fun _ x hx => by rw [z2]; exact z3 x hx⟩ ?_
          show (if w = 0 then 0 else _) < _
          rw [if_pos z1]; simp; omega
        · refine hh (w, b) ⟨Or.inr z1, hI.1, fun z => absurd (z1.symm.trans z) (by decide)⟩ ?_
          show (if w = 0 then 0 else 1 + smT n b) < _
          rw [z1]; simp; omega
def pr_X5_deepest (kp dp tw wt st : Nat → Int32) (tn tr tre tm ts s : Int32) : Prop := ∃ n : Nat, tn = nI n ∧ n ≤ 16 ∧ ∀ k, k < n → B16 (st k)
def ps_X5_deepest (kp dp tw wt st : Nat → Int32) (tn tr tre tm ts s : Int32) (r : Int32)  : Prop := Deepest tn st s r
def wp_X5_deepest_L4 (st : Nat → Int32) (tn s : Int32) (J54 : Int32 → Prop) (ix3_31 ix2_32 : Int32) : Prop :=
  ∀ X4 : Int32 → Int32 → Prop, (∀ (x3_31 : Int32) (x2_32 : Int32), (((tn ≤ x3_31 → (J54 x2_32)) ∧
 (¬ (tn ≤ x3_31) → (∀ (r_35 : Int32), ps_X1_has s x3_31 r_35 → (((r_35 = 0 → (X4 (x3_31 + 1) x2_32)) ∧
 (¬ (r_35 = 0) → ((x2_32 = (-1) → (X4 (x3_31 + 1) x3_31)) ∧
 (¬ (x2_32 = (-1)) → (vp_in x3_31 16 ∧ (pr_J7_bitCount (st x3_31.toNatClampNeg) ∧ (∀ (r_39 : Int32), ps_J7_bitCount (st x3_31.toNatClampNeg) r_39 → (vp_in x2_32 16 ∧ (pr_J7_bitCount (st x2_32.toNatClampNeg) ∧ (∀ (r_41 : Int32), ps_J7_bitCount (st x2_32.toNatClampNeg) r_41 → (((r_39 ≤ r_41 → (X4 (x3_31 + 1) x2_32)) ∧
 (¬ (r_39 ≤ r_41) → (X4 (x3_31 + 1) x3_31))))))))))))))))))) → X4 x3_31 x2_32) → X4 ix3_31 ix2_32
def wp_X5_deepest (kp dp tw wt st : Nat → Int32) (tn tr tre tm ts s : Int32) (Q : Int32 → Prop) : Prop :=
  ∀ J54 : Int32 → Prop, (∀ (x2_29 : Int32), (Q x2_29) → J54 x2_29) →
wp_X5_deepest_L4 st tn s J54 0 (-1)
theorem pf_X5_deepest (kp dp tw wt st : Nat → Int32) (tn tr tre tm ts s : Int32) (hp : pr_X5_deepest kp dp tw wt st tn tr tre tm ts s) : wp_X5_deepest kp dp tw wt st tn tr tre tm ts s (ps_X5_deepest kp dp tw wt st tn tr tre tm ts s) := by
  obtain ⟨n, rfl, hn, hst⟩ := hp
  intro J hJ X hX
  have := up1 (X := fun i b => X i b) n (fun k b => (b = -1 ∧ ∀ j, j < k → ¬ bt s j = true) ∨ ∃ g : Nat, g < k ∧ b = nI g ∧ bt s g = true ∧ ∀ j, j < k → bt s j = true → pc (st j) ≤ pc (st g)) (fun k b hk hI hh => hX _ _ ⟨fun c => ?_, fun c r hr => ?_⟩) (fun b hI => hX _ _ ⟨fun _ => hJ _ ?_, fun c => absurd (Int32.le_refl _) c⟩) 0 (-1) (by omega) (Or.inl ⟨rfl, fun j hj => absurd hj (by omega)⟩)
  · exact this
  · rw [leN (by omega) (by omega)] at c; omega
  · unfold ps_X1_has at hr
    rw [hr, i1_eq0, hs_bt (by omega), clN (by omega)]
    refine ⟨fun d => hh _ ?_, fun d => ⟨fun e => hh _ ?_, fun e => ⟨vp_in_nI (by omega) (by decide), hst k hk, fun r1 hr1 => ?_⟩⟩⟩
    · rcases hI with ⟨h1, h2⟩ | ⟨g, h1, h2, h3, h4⟩
      · refine Or.inl ⟨h1, fun j hj => ?_⟩
        by_cases ej : j = k
        · subst ej; exact d
        · exact h2 j (by omega)
      · refine Or.inr ⟨g, by omega, h2, h3, fun j hj hb => ?_⟩
        by_cases ej : j = k
        · subst ej; exact absurd hb d
        · exact h4 j (by omega) hb
    · have d := Classical.not_not.1 d
      rcases hI with ⟨h1, h2⟩ | ⟨g, h1, h2, h3, h4⟩
      · refine Or.inr ⟨k, by omega, rfl, d, fun j hj hb => ?_⟩
        by_cases ej : j = k
        · subst ej; exact Nat.le_refl _
        · exact absurd hb (h2 j (by omega))
      · rw [h2] at e; exact absurd e (nI_m1 (by omega))
    · have d := Classical.not_not.1 d
      rcases hI with ⟨h1, h2⟩ | ⟨g, h1, h2, h3, h4⟩
      · exact absurd h1 e
      · subst h2
        rw [clN (by omega)]
        refine ⟨vp_in_nI (by omega) (by decide), hst g (by omega), fun r2 hr2 => ?_⟩
        unfold ps_J7_bitCount at hr1 hr2
        have p1 : pc (st k) ≤ 16 := cnt_le _ _
        have p2 : pc (st g) ≤ 16 := cnt_le _ _
        rw [hr1, hr2, leN (by omega) (by omega)]
        refine ⟨fun q => hh _ (Or.inr ⟨g, by omega, rfl, h3, fun j hj hb => ?_⟩), fun q => hh _ (Or.inr ⟨k, by omega, rfl, d, fun j hj hb => ?_⟩)⟩
        · by_cases ej : j = k
          · subst ej; exact q
          · exact h4 j (by omega) hb
        · by_cases ej : j = k
          · subst ej; exact Nat.le_refl _
          · have := h4 j (by omega) hb; omega
  · intro n' e hn'
    rw [eqN (by omega) (by omega)] at e
    subst e; exact hI
def pr_X5_depthOf (dd : Nat) (kp dp tw wt st : Nat → Int32) (tn tr tre tm ts k : Int32) : Prop := ∃ D : Nat → Nat, ∃ S : Nat → Prop, Chn S kp D ∧ ∃ x : Nat, k = nI x ∧ S x ∧ D x < dd
def ps_X5_depthOf (kp dp tw wt st : Nat → Int32) (tn tr tre tm ts k : Int32) (r : Int32)  : Prop := ∀ D S, Chn S kp D → ∀ x, k = nI x → S x → x < 16 → r = nI (D x)
def wp_X5_depthOf (dd : Nat) (kp dp tw wt st : Nat → Int32) (tn tr tre tm ts k : Int32) (Q : Int32 → Prop) : Prop :=
  vp_in k 16 ∧ (((¬ (kp k.toNatClampNeg) = (-1) → (pr_X5_depthOf dd kp dp tw wt st tn tr tre tm ts (kp k.toNatClampNeg) ∧ (∀ (r_3 : Int32), ps_X5_depthOf kp dp tw wt st tn tr tre tm ts (kp k.toNatClampNeg) r_3 → (Q (1 + r_3))))) ∧
 ((kp k.toNatClampNeg) = (-1) → (Q 0))))
theorem pz_X5_depthOf (kp dp tw wt st : Nat → Int32) (tn tr tre tm ts k : Int32) : ¬ pr_X5_depthOf 0 kp dp tw wt st tn tr tre tm ts k := by
  rintro ⟨D, S, -, x, -, -, h⟩
  omega
theorem pf_X5_depthOf (dd : Nat) (kp dp tw wt st : Nat → Int32) (tn tr tre tm ts k : Int32) (hp : pr_X5_depthOf (dd + 1) kp dp tw wt st tn tr tre tm ts k) : wp_X5_depthOf dd kp dp tw wt st tn tr tre tm ts k (ps_X5_depthOf kp dp tw wt st tn tr tre tm ts k) := by
  obtain ⟨D, S, hc, x, rfl, hx, hd⟩ := hp
  obtain ⟨x16, hc1⟩ := hc x hx
  refine ⟨vp_in_nI x16 (by decide), ?_⟩
  rw [clN (by omega)]
  refine ⟨fun c => ?_, fun c => ?_⟩
  · rcases hc1 with ⟨h1, -⟩ | ⟨g, h1, h2, h3⟩
    · exact absurd h1 c
    · refine ⟨⟨D, S, hc, g, h1, h2, by omega⟩, fun r hr D' S' hc' x' ex hx' hx16 => ?_⟩
      rw [eqN (by omega) (by omega)] at ex
      subst ex
      obtain ⟨-, hc2⟩ := hc' x hx'
      rcases hc2 with ⟨h1', -⟩ | ⟨g', h1', h2', h3'⟩
      · exact absurd h1' c
      · have := hr D' S' hc' g' h1' h2' (hc' g' h2').1
        rw [this, n1, nI_add, h3', Nat.add_comm]
  · intro D' S' hc' x' ex hx' hx16
    rw [eqN (by omega) (by omega)] at ex
    subst ex
    obtain ⟨-, hc2⟩ := hc' x hx'
    rcases hc2 with ⟨-, h1'⟩ | ⟨g', h1', h2', h3'⟩
    · rw [h1']; rfl
    · rw [h1'] at c; exact absurd c (nI_m1 (by have := (hc' g' h2').1; omega))
def pr_X5_deepens (kp dp tw wt st : Nat → Int32) (tn tr tre tm ts : Int32) : Prop := (∃ n : Nat, tn = nI n ∧ n ≤ 16) ∧ ∃ D : Nat → Nat, Chn (fun x => bt tre x = true) kp D ∧ ∀ x, D x < 16
def ps_X5_deepens (kp dp tw wt st : Nat → Int32) (tn tr tre tm ts : Int32) (dp' : Nat → Int32) : Prop := ∀ D, Chn (fun x => bt tre x = true) kp D → ∀ x : Nat, x < tn.toNatClampNeg → (bt tre x = true → dp' x = nI (D x)) ∧ (¬ bt tre x = true → dp' x = dp x)
def wp_X5_deepens_L2 (kp tw wt st : Nat → Int32) (tn tr tre tm ts : Int32) (J38 : (Nat → Int32) → Prop) (ix1_27 : Int32) (ia_28 : Nat → Int32) : Prop :=
  ∀ X2 : Int32 → (Nat → Int32) → Prop, (∀ (x1_27 : Int32) (a_28 : Nat → Int32), (((tn ≤ x1_27 → (J38 a_28)) ∧
 (¬ (tn ≤ x1_27) → (∀ (r_31 : Int32), ps_X1_has tre x1_27 r_31 → (((r_31 = 0 → (X2 (x1_27 + 1) a_28)) ∧
 (¬ (r_31 = 0) → (pr_X5_depthOf 17 kp a_28 tw wt st tn tr tre tm ts x1_27 ∧ (∀ (r_33 : Int32), ps_X5_depthOf kp a_28 tw wt st tn tr tre tm ts x1_27 r_33 → (vp_in x1_27 16 ∧ (∀ u_35 : Nat → Int32, u_35 = upd a_28 x1_27.toNatClampNeg r_33 → (X2 (x1_27 + 1) u_35)))))))))))) → X2 x1_27 a_28) → X2 ix1_27 ia_28
def wp_X5_deepens (kp dp tw wt st : Nat → Int32) (tn tr tre tm ts : Int32) (Q : (Nat → Int32) → Prop) : Prop :=
  ∀ J38 : (Nat → Int32) → Prop, (∀ (a_25 : Nat → Int32), (Q a_25) → J38 a_25) →
wp_X5_deepens_L2 kp tw wt st tn tr tre tm ts J38 0 dp
theorem pf_X5_deepens (kp dp tw wt st : Nat → Int32) (tn tr tre tm ts : Int32) (hp : pr_X5_deepens kp dp tw wt st tn tr tre tm ts) : wp_X5_deepens kp dp tw wt st tn tr tre tm ts (ps_X5_deepens kp dp tw wt st tn tr tre tm ts) := by
  obtain ⟨⟨n, rfl, hn⟩, D, hc, hD⟩ := hp
  intro J hJ X hX
  refine up1 n (fun k a => ∀ x : Nat, (x < k → bt tre x = true → a x = nI (D x)) ∧ ((¬ x < k ∨ ¬ bt tre x = true) → a x = dp x)) (fun k a hk hI hh => hX _ _ ⟨fun c => ?_, fun c r hr => ?_⟩) (fun a hI => hX _ _ ⟨fun _ => hJ _ ?_, fun c => absurd (Int32.le_refl _) c⟩) 0 dp (by omega) (fun x => ⟨fun h => absurd h (by omega), fun _ => rfl⟩)
  · rw [leN (by omega) (by omega)] at c; omega
  · unfold ps_X1_has at hr
    rw [hr, i1_eq0, hs_bt (by omega)]
    refine ⟨fun d => hh _ (fun x => ⟨fun h hb => ?_, fun h => (hI x).2 ?_⟩), fun d => ?_⟩
    · by_cases e : x = k
      · subst e; exact absurd hb d
      · exact (hI x).1 (by omega) hb
    · by_cases e : x = k
      · subst e; exact Or.inr d
      · rcases h with h | h
        · exact Or.inl (by omega)
        · exact Or.inr h
    · have d := Classical.not_not.1 d
      refine ⟨⟨D, _, hc, k, rfl, d, by have := hD k; omega⟩, fun r2 hr2 => ⟨vp_in_nI (by omega) (by decide), fun u eu => hh _ ?_⟩⟩
      rw [clN (by omega), hr2 D _ hc k rfl d (by omega)] at eu
      subst eu
      intro x
      by_cases e : x = k
      · subst e; rw [upd_s]; exact ⟨fun _ _ => rfl, fun h => h.elim (fun z => absurd (Nat.lt_succ_self x) z) (fun z => absurd d z)⟩
      · rw [upd_n e]
        exact ⟨fun h hb => (hI x).1 (by omega) hb, fun h => (hI x).2 (h.elim (fun z => Or.inl (by omega)) Or.inr)⟩
  · intro D' hc' x hx
    rw [clN (by omega)] at hx
    refine ⟨fun hb => ?_, fun hb => (hI x).2 (Or.inr hb)⟩
    rw [(hI x).1 hx hb]
    have key : ∀ d x, bt tre x = true → D x = d → D' x = d := by
      intro d
      induction d with
      | zero =>
        intro x hb e
        rcases (hc x hb).2 with ⟨q1, q2⟩ | ⟨g, q1, q2, q3⟩
        · rcases (hc' x hb).2 with ⟨p1, p2⟩ | ⟨g', p1, p2, p3⟩
          · exact p2
          · rw [q1] at p1; exact absurd p1.symm (nI_m1 (by have := (hc' g' p2).1; omega))
        · omega
      | succ d ih =>
        intro x hb e
        rcases (hc x hb).2 with ⟨q1, q2⟩ | ⟨g, q1, q2, q3⟩
        · omega
        · rcases (hc' x hb).2 with ⟨p1, p2⟩ | ⟨g', p1, p2, p3⟩
          · rw [p1] at q1; exact absurd q1.symm (nI_m1 (by have := (hc g q2).1; omega))
          · have g1 := (hc g q2).1
            have g2 := (hc' g' p2).1
            rw [q1, eqN (by omega) (by omega)] at p1
            subst p1
            rw [p3, ih g q2 (by omega)]
    rw [key (D x) x hb rfl]
