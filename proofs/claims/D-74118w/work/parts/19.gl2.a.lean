/-! sums, and what is asked of arcs (own work) -/
noncomputable def smP : Nat → (Nat → Prop) → (Nat → Nat) → Nat
  | 0, _, _ => 0
  | n + 1, P, f => smP n P f + @ite _ (P n) (Classical.propDecidable _) (f n) 0
theorem smP_s {n : Nat} {P : Nat → Prop} {f : Nat → Nat} (h : P n) : smP (n + 1) P f = smP n P f + f n := by
  show smP n P f + @ite _ (P n) (Classical.propDecidable _) (f n) 0 = _
  rw [if_pos h]
theorem smP_n {n : Nat} {P : Nat → Prop} {f : Nat → Nat} (h : ¬ P n) : smP (n + 1) P f = smP n P f := by
  show smP n P f + @ite _ (P n) (Classical.propDecidable _) (f n) 0 = _
  rw [if_neg h]; omega
noncomputable def mxP : Nat → (Nat → Prop) → (Nat → Nat) → Nat
  | 0, _, _ => 0
  | n + 1, P, f => max (mxP n P f) (@ite _ (P n) (Classical.propDecidable _) (f n) 0)
theorem mxP_s {n : Nat} {P : Nat → Prop} {f : Nat → Nat} (h : P n) : mxP (n + 1) P f = max (mxP n P f) (f n) := by
  show max (mxP n P f) (@ite _ (P n) (Classical.propDecidable _) (f n) 0) = _
  rw [if_pos h]
theorem mxP_n {n : Nat} {P : Nat → Prop} {f : Nat → Nat} (h : ¬ P n) : mxP (n + 1) P f = mxP n P f := by
  show max (mxP n P f) (@ite _ (P n) (Classical.propDecidable _) (f n) 0) = _
  rw [if_neg h]; omega
theorem smP_le {P : Nat → Prop} {f : Nat → Nat} {c : Nat} : ∀ n, (∀ k, k < n → f k ≤ c) → smP n P f ≤ n * c
  | 0, _ => Nat.zero_le _
  | n + 1, h => by
    have h1 := smP_le (P := P) n (fun k hk => h k (by omega))
    have h2 := h n (by omega)
    by_cases q : P n
    · rw [smP_s q, Nat.succ_mul]; omega
    · rw [smP_n q, Nat.succ_mul]; omega
theorem mxP_le {P : Nat → Prop} {f : Nat → Nat} {c : Nat} : ∀ n, (∀ k, k < n → f k ≤ c) → mxP n P f ≤ c
  | 0, _ => Nat.zero_le _
  | n + 1, h => by
    have h1 := mxP_le (P := P) n (fun k hk => h k (by omega))
    have h2 := h n (by omega)
    by_cases q : P n
    · rw [mxP_s q]; omega
    · rw [mxP_n q]; omega
def Bridge (N : NetM) (k : Nat) : Prop := N.op k = true ∧ Rd N.E N.root (N.fr k) ∧ ¬ Rd (N.Eb k) N.root (N.to k)
def PassIs (N : NetM) (k v : Nat) : Prop := N.op k = true ∧ Rd N.E N.root (N.fr k) ∧ ¬ Rd (N.Eb k) N.root v
def TiedTo (N : NetM) (v x : Nat) : Prop := Rd N.E N.root x ∧ ∀ k, k < N.m → N.op k = true → (Rd (N.Eb k) N.root v ↔ Rd (N.Eb k) N.root x)
/-- a head whose body has v and is greater than m: the least; of such the first -/
def InnerIs (E : Nat → Nat → Prop) (ro n v m : Nat) (r : Int32) : Prop := (r = -1 ∧ ∀ h, h < n → ¬ (Body E ro h v ∧ m < cnt 16 (Body E ro h))) ∨
  ∃ h, r = nI h ∧ h < n ∧ Body E ro h v ∧ m < cnt 16 (Body E ro h) ∧ ∀ g, g < n → Body E ro g v → m < cnt 16 (Body E ro g) → cnt 16 (Body E ro h) < cnt 16 (Body E ro g) ∨ (cnt 16 (Body E ro h) = cnt 16 (Body E ro g) ∧ h ≤ g)
def OuterIs (E : Nat → Nat → Prop) (ro n v : Nat) (r : Int32) : Prop := (InnerIs E ro n v 0 (-1) ∧ r = -1) ∨ ∃ h, h < n ∧ InnerIs E ro n v 0 (nI h) ∧ InnerIs E ro n v (cnt 16 (Body E ro h)) r
def RingLow (E : Nat → Nat → Prop) (r a : Nat) : Prop := Rd E r a ∧ ∀ j, j < a → ¬ (Rs E (fun z => z = a) (fun _ => False) j ∧ Rs E (fun z => z = j) (fun _ => False) a)
/-- no part of what is reached from each of which an arc that is not back goes into it -/
def Sound (E : Nat → Nat → Prop) (r : Nat) : Prop := ∀ L : Nat → Prop, (∀ x, L x → Rd E r x ∧ ∃ b, E x b ∧ L b ∧ ¬ Dm E r b x) → ∀ x, ¬ L x
theorem nI_z (a : Nat) : nI a + 0 = nI a := nI_add a 0
theorem nI_max {a b : Nat} (ha : a < 2 ^ 31) (hb : b < 2 ^ 31) : (if nI a < nI b then nI b else nI a) = nI (max a b) := by
  rcases Nat.lt_or_ge a b with q | q
  · rw [if_pos ((nI_ltI ha hb).2 q), Nat.max_eq_right (by omega)]
  · rw [if_neg (fun z => absurd ((nI_ltI ha hb).1 z) (by omega)), Nat.max_eq_left (by omega)]
theorem smP_congr {P Q : Nat → Prop} {f : Nat → Nat} : ∀ n, (∀ k, k < n → (P k ↔ Q k)) → smP n P f = smP n Q f
  | 0, _ => rfl
  | n + 1, h => by
    have h1 := smP_congr (f := f) n (fun k hk => h k (by omega))
    by_cases q : P n
    · rw [smP_s q, smP_s ((h n (by omega)).1 q), h1]
    · rw [smP_n q, smP_n (fun z => q ((h n (by omega)).2 z)), h1]
theorem smP_add {P Q : Nat → Prop} {f : Nat → Nat} {g : Nat} (hq : ¬ Q g) : ∀ n, g < n → (∀ k, k < n → (P k ↔ Q k ∨ k = g)) → smP n P f = smP n Q f + f g
  | 0, hg, _ => absurd hg (by omega)
  | n + 1, hg, h => by
    by_cases e : g = n
    · subst e
      rw [smP_s ((h g (by omega)).2 (Or.inr rfl)), smP_n hq, smP_congr g (fun k hk => (h k (by omega)).trans ⟨fun z => z.resolve_right (by omega), Or.inl⟩)]
    · have h1 := smP_add (f := f) hq n (by omega) (fun k hk => h k (by omega))
      by_cases q : Q n
      · rw [smP_s ((h n (by omega)).2 (Or.inl q)), smP_s q, h1]; omega
      · rw [smP_n (fun z => ((h n (by omega)).1 z).elim q (fun z => e z.symm)), smP_n q, h1]
theorem NetR.opn {N : NetM} {f t w c o : Nat → Int32} {nd rt ex mn : Int32} (hN : NetR N f t w c o nd rt ex mn) {K : Nat} (hK : K < N.m) : ¬ o K = 0 ↔ N.op K = true := by
  have h60 : N.m ≤ 60 := hN.1.2.2.2.2.1
  obtain ⟨-, -, -, -, -, -, ho, hop, -⟩ := id hN
  constructor
  · intro z
    exact (hop K hK).2 ((ho K (by omega)).resolve_left z)
  · intro z q
    exact absurd (((hop K hK).1 z).symm.trans q) (by decide)
theorem NetR.mn {N : NetM} {f t w c o : Nat → Int32} {nd rt ex mn : Int32} (hN : NetR N f t w c o nd rt ex mn) : mn = nI N.m := hN.2.2.2.2.1
theorem NetR.m60 {N : NetM} {f t w c o : Nat → Int32} {nd rt ex mn : Int32} (hN : NetR N f t w c o nd rt ex mn) : N.m ≤ 60 := hN.1.2.2.2.2.1
theorem NetR.arc {N : NetM} {f t w c o : Nat → Int32} {nd rt ex mn : Int32} (hN : NetR N f t w c o nd rt ex mn) {K : Nat} (hK : K < N.m) : f K = nI (N.fr K) ∧ t K = nI (N.to K) ∧ N.fr K < N.n ∧ N.to K < N.n := by
  obtain ⟨q1, q2⟩ := hN.1.2.2.2.2.2.1 K hK
  obtain ⟨-, -, -, -, -, hft, -⟩ := id hN
  exact ⟨(hft K hK).1, (hft K hK).2, q1, q2⟩
theorem KindIs.uniq {N : NetM} {k : Nat} {a b : Int32} (h1 : KindIs N k a) (h2 : KindIs N k b) : a = b := by
  unfold KindIs at h1 h2
  rcases h1 with h1 | h1 | h1 | h1 | h1 <;> rcases h2 with h2 | h2 | h2 | h2 | h2 <;> simp_all
theorem up4 {T U V Y : Type} {X : Int32 → T → U → V → Y → Prop} (n : Nat) (I : Nat → T → U → V → Y → Prop) (hs : ∀ k a b c d, k < n → I k a b c d → (∀ a' b' c' d', I (k + 1) a' b' c' d' → X (nI k + 1) a' b' c' d') → X (nI k) a b c d) (he : ∀ a b c d, I n a b c d → X (nI n) a b c d) (k : Nat) (a : T) (b : U) (c : V) (d : Y) (hk : k ≤ n) (h : I k a b c d) : X (nI k) a b c d :=
  up1 (X := fun i (p : T × U × V × Y) => X i p.1 p.2.1 p.2.2.1 p.2.2.2) n (fun k p => I k p.1 p.2.1 p.2.2.1 p.2.2.2) (fun k p hk h hh => hs k p.1 p.2.1 p.2.2.1 p.2.2.2 hk h (fun a' b' c' d' h' => hh (a', b', c', d') h')) (fun p h => he p.1 p.2.1 p.2.2.1 p.2.2.2 h) k (a, b, c, d) hk h
/-! gl2: contracts, pure predicates (printed by gen.py) -/
def pr_X1_isBridge (N : NetM) (K : Nat) (wa wy un ga lo mo li kt wk wd : Int32) (f t w c o : Nat → Int32) (nd rt ex mn : Int32) (kp dp tw wt st : Nat → Int32) (tn tr tre tm ts k : Int32) : Prop := NetR N f t w c o nd rt ex mn ∧ TreR N.E N.root N.n kp dp tw tn tr tre ∧ k = nI K ∧ K < N.m
def ps_X1_isBridge (N : NetM) (K : Nat) (wa wy un ga lo mo li kt wk wd : Int32) (f t w c o : Nat → Int32) (nd rt ex mn : Int32) (kp dp tw wt st : Nat → Int32) (tn tr tre tm ts k : Int32) (r : Int32) (w' o' : Nat → Int32) : Prop := NetR N f t w' c o' nd rt ex mn ∧ IsB r (Bridge N K)
def wp_X1_isBridge (wa wy un ga lo mo li kt wk wd : Int32) (f t w c o : Nat → Int32) (nd rt ex mn : Int32) (kp dp tw wt st : Nat → Int32) (tn tr tre tm ts k : Int32) (Q : Int32 → (Nat → Int32) → (Nat → Int32) → Prop) : Prop :=
  pr_X3_isOpenFrom f t w c o nd rt ex mn k tre ∧ (∀ (r_1 : Int32), ps_X3_isOpenFrom f t w c o nd rt ex mn k tre r_1 → (((r_1 = 0 → (Q 0 w o)) ∧
 (¬ (r_1 = 0) → (pr_X3_reachedBut f t w c o nd rt ex mn k ∧ (∀ (r_3 : Int32) (w_3 o_3 : Nat → Int32), ps_X3_reachedBut f t w c o nd rt ex mn k r_3 w_3 o_3 → (vp_in k 60 ∧ (∀ (r_5 : Int32), ps_X1_has r_3 (t k.toNatClampNeg) r_5 → (((¬ r_5 = 0 → (Q 0 w_3 o_3)) ∧
 (r_5 = 0 → (Q 1 w_3 o_3))))))))))))
theorem pf_X1_isBridge (N : NetM) (K : Nat) (wa wy un ga lo mo li kt wk wd : Int32) (f t w c o : Nat → Int32) (nd rt ex mn : Int32) (kp dp tw wt st : Nat → Int32) (tn tr tre tm ts k : Int32) (hp : pr_X1_isBridge N K wa wy un ga lo mo li kt wk wd f t w c o nd rt ex mn kp dp tw wt st tn tr tre tm ts k) : wp_X1_isBridge wa wy un ga lo mo li kt wk wd f t w c o nd rt ex mn kp dp tw wt st tn tr tre tm ts k (ps_X1_isBridge N K wa wy un ga lo mo li kt wk wd f t w c o nd rt ex mn kp dp tw wt st tn tr tre tm ts k) := by
  obtain ⟨hN, hT, rfl, hK⟩ := hp
  have h16 := hN.n16
  have h60 := hN.m60
  obtain ⟨e1, e2, q1, q2⟩ := hN.arc hK
  refine ⟨vp_in_nI (by omega) (by decide), fun r1 h1 => ?_⟩
  have h1 : r1 = i1 (¬ o (nI K).toNatClampNeg = 0 ∧ hs tre (f (nI K).toNatClampNeg)) := h1
  rw [clN (by omega), e1] at h1
  have hiff : (¬ o K = 0 ∧ hs tre (nI (N.fr K))) ↔ (N.op K = true ∧ Rd N.E N.root (N.fr K)) := and_congr (hN.opn hK) (hT.2.2.2.2.hs (by omega))
  refine ⟨fun z => ⟨hN, isB0 (fun q => ?_)⟩, fun z => ?_⟩
  · rw [h1, i1_eq0] at z
    exact z (hiff.2 ⟨q.1, q.2.1⟩)
  · rw [h1, i1_eq0] at z
    have hh := hiff.1 (Classical.not_not.1 z)
    refine ⟨⟨N, K, hN, rfl, hK, hh.1⟩, fun r3 w3 o3 h3 => ?_⟩
    obtain ⟨hN3, hS⟩ := h3 N K hN rfl hh.1 hK
    refine ⟨vp_in_nI (by omega) (by decide), fun r5 h5 => ?_⟩
    rw [clN (by omega), e2] at h5
    exact ⟨fun z5 => ⟨hN3, isB0 (fun q => q.2.2 (has_p h5 hS (by omega) z5))⟩, fun z5 => ⟨hN3, isB1 ⟨hh.1, hh.2, has_z h5 hS (by omega) z5⟩⟩⟩
def pr_X1_isPass (N : NetM) (K V : Nat) (wa wy un ga lo mo li kt wk wd : Int32) (f t w c o : Nat → Int32) (nd rt ex mn : Int32) (kp dp tw wt st : Nat → Int32) (tn tr tre tm ts k v : Int32) : Prop := NetR N f t w c o nd rt ex mn ∧ TreR N.E N.root N.n kp dp tw tn tr tre ∧ k = nI K ∧ K < N.m ∧ v = nI V ∧ V < N.n
def ps_X1_isPass (N : NetM) (K V : Nat) (wa wy un ga lo mo li kt wk wd : Int32) (f t w c o : Nat → Int32) (nd rt ex mn : Int32) (kp dp tw wt st : Nat → Int32) (tn tr tre tm ts k v : Int32) (r : Int32) (w' o' : Nat → Int32) : Prop := NetR N f t w' c o' nd rt ex mn ∧ IsB r (PassIs N K V)
def wp_X1_isPass (wa wy un ga lo mo li kt wk wd : Int32) (f t w c o : Nat → Int32) (nd rt ex mn : Int32) (kp dp tw wt st : Nat → Int32) (tn tr tre tm ts k v : Int32) (Q : Int32 → (Nat → Int32) → (Nat → Int32) → Prop) : Prop :=
  pr_X3_isOpenFrom f t w c o nd rt ex mn k tre ∧ (∀ (r_1 : Int32), ps_X3_isOpenFrom f t w c o nd rt ex mn k tre r_1 → (((r_1 = 0 → (Q 0 w o)) ∧
 (¬ (r_1 = 0) → (pr_X3_reachedBut f t w c o nd rt ex mn k ∧ (∀ (r_3 : Int32) (w_3 o_3 : Nat → Int32), ps_X3_reachedBut f t w c o nd rt ex mn k r_3 w_3 o_3 → (∀ (r_4 : Int32), ps_X1_has r_3 v r_4 → (((¬ r_4 = 0 → (Q 0 w_3 o_3)) ∧
 (r_4 = 0 → (Q 1 w_3 o_3)))))))))))
theorem pf_X1_isPass (N : NetM) (K V : Nat) (wa wy un ga lo mo li kt wk wd : Int32) (f t w c o : Nat → Int32) (nd rt ex mn : Int32) (kp dp tw wt st : Nat → Int32) (tn tr tre tm ts k v : Int32) (hp : pr_X1_isPass N K V wa wy un ga lo mo li kt wk wd f t w c o nd rt ex mn kp dp tw wt st tn tr tre tm ts k v) : wp_X1_isPass wa wy un ga lo mo li kt wk wd f t w c o nd rt ex mn kp dp tw wt st tn tr tre tm ts k v (ps_X1_isPass N K V wa wy un ga lo mo li kt wk wd f t w c o nd rt ex mn kp dp tw wt st tn tr tre tm ts k v) := by
  obtain ⟨hN, hT, rfl, hK, rfl, hV⟩ := hp
  have h16 := hN.n16
  have h60 := hN.m60
  obtain ⟨e1, e2, q1, q2⟩ := hN.arc hK
  refine ⟨vp_in_nI (by omega) (by decide), fun r1 h1 => ?_⟩
  have h1 : r1 = i1 (¬ o (nI K).toNatClampNeg = 0 ∧ hs tre (f (nI K).toNatClampNeg)) := h1
  rw [clN (by omega), e1] at h1
  have hiff : (¬ o K = 0 ∧ hs tre (nI (N.fr K))) ↔ (N.op K = true ∧ Rd N.E N.root (N.fr K)) := and_congr (hN.opn hK) (hT.2.2.2.2.hs (by omega))
  refine ⟨fun z => ⟨hN, isB0 (fun q => ?_)⟩, fun z => ?_⟩
  · rw [h1, i1_eq0] at z
    exact z (hiff.2 ⟨q.1, q.2.1⟩)
  · rw [h1, i1_eq0] at z
    have hh := hiff.1 (Classical.not_not.1 z)
    refine ⟨⟨N, K, hN, rfl, hK, hh.1⟩, fun r3 w3 o3 h3 r5 h5 => ?_⟩
    obtain ⟨hN3, hS⟩ := h3 N K hN rfl hh.1 hK
    exact ⟨fun z5 => ⟨hN3, isB0 (fun q => q.2.2 (has_p h5 hS (by omega) z5))⟩, fun z5 => ⟨hN3, isB1 ⟨hh.1, hh.2, has_z h5 hS (by omega) z5⟩⟩⟩
def pr_X1_bridges (N : NetM) (wa wy un ga lo mo li kt wk wd : Int32) (f t w c o : Nat → Int32) (nd rt ex mn : Int32) (kp dp tw wt st : Nat → Int32) (tn tr tre tm ts : Int32) : Prop := NetR N f t w c o nd rt ex mn ∧ TreR N.E N.root N.n kp dp tw tn tr tre
def ps_X1_bridges (N : NetM) (wa wy un ga lo mo li kt wk wd : Int32) (f t w c o : Nat → Int32) (nd rt ex mn : Int32) (kp dp tw wt st : Nat → Int32) (tn tr tre tm ts : Int32) (r : Int32) (w' o' : Nat → Int32) : Prop := NetR N f t w' c o' nd rt ex mn ∧ r = nI (cnt N.m (Bridge N))
def wp_X1_bridges_L4 (wa wy un ga lo mo li kt wk wd : Int32) (f t c : Nat → Int32) (nd rt ex mn : Int32) (kp dp tw wt st : Nat → Int32) (tn tr tre tm ts : Int32) (J37 : Int32 → (Nat → Int32) → (Nat → Int32) → Prop) (ix2_25 ix1_26 : Int32) (ia_27 ia_28 : Nat → Int32) : Prop :=
  ∀ X4 : Int32 → Int32 → (Nat → Int32) → (Nat → Int32) → Prop, (∀ (x2_25 : Int32) (x1_26 : Int32) (a_27 : Nat → Int32) (a_28 : Nat → Int32), (((mn ≤ x2_25 → (J37 x1_26 a_27 a_28)) ∧
 (¬ (mn ≤ x2_25) → (∃ (N_31 : NetM) (K_31 : Nat), (pr_X1_isBridge N_31 K_31 wa wy un ga lo mo li kt wk wd f t a_27 c a_28 nd rt ex mn kp dp tw wt st tn tr tre tm ts x2_25 ∧ (∀ (r_31 : Int32) (w_31 o_31 : Nat → Int32), ps_X1_isBridge N_31 K_31 wa wy un ga lo mo li kt wk wd f t a_27 c a_28 nd rt ex mn kp dp tw wt st tn tr tre tm ts x2_25 r_31 w_31 o_31 → (((r_31 = 0 → (X4 (x2_25 + 1) (x1_26 + 0) w_31 o_31)) ∧
 (¬ (r_31 = 0) → (X4 (x2_25 + 1) (x1_26 + 1) w_31 o_31)))))))))) → X4 x2_25 x1_26 a_27 a_28) → X4 ix2_25 ix1_26 ia_27 ia_28
def wp_X1_bridges (wa wy un ga lo mo li kt wk wd : Int32) (f t w c o : Nat → Int32) (nd rt ex mn : Int32) (kp dp tw wt st : Nat → Int32) (tn tr tre tm ts : Int32) (Q : Int32 → (Nat → Int32) → (Nat → Int32) → Prop) : Prop :=
  ∀ J37 : Int32 → (Nat → Int32) → (Nat → Int32) → Prop, (∀ (x1_21 : Int32) (a_22 : Nat → Int32) (a_23 : Nat → Int32), (Q x1_21 a_22 a_23) → J37 x1_21 a_22 a_23) →
wp_X1_bridges_L4 wa wy un ga lo mo li kt wk wd f t c nd rt ex mn kp dp tw wt st tn tr tre tm ts J37 0 0 w o
theorem pf_X1_bridges (N : NetM) (wa wy un ga lo mo li kt wk wd : Int32) (f t w c o : Nat → Int32) (nd rt ex mn : Int32) (kp dp tw wt st : Nat → Int32) (tn tr tre tm ts : Int32) (hp : pr_X1_bridges N wa wy un ga lo mo li kt wk wd f t w c o nd rt ex mn kp dp tw wt st tn tr tre tm ts) : wp_X1_bridges wa wy un ga lo mo li kt wk wd f t w c o nd rt ex mn kp dp tw wt st tn tr tre tm ts (ps_X1_bridges N wa wy un ga lo mo li kt wk wd f t w c o nd rt ex mn kp dp tw wt st tn tr tre tm ts) := by
  obtain ⟨hN, hT⟩ := hp
  intro J hJ X4 hX
  have h60 := hN.m60
  have e := hN.mn
  subst e
  refine up3 N.m (fun k s w o => s = nI (cnt k (Bridge N)) ∧ NetR N f t w c o nd rt ex (nI N.m)) (fun k s w o hk hI hK => hX _ _ _ _ ⟨fun q => absurd q (by rw [leN (by omega) (by omega)]; omega), fun _ => ⟨N, k, ⟨hI.2, hT, rfl, hk⟩, fun r w' o' hr => ⟨fun z => hK _ _ _ ⟨?_, hr.1⟩, fun z => hK _ _ _ ⟨?_, hr.1⟩⟩⟩⟩) (fun s w o hI => hX _ _ _ _ ⟨fun _ => hJ _ _ _ ⟨hI.2, hI.1⟩, fun q => absurd (Int32.le_refl _) q⟩) 0 0 w o (Nat.zero_le _) ⟨rfl, hN⟩
  · rw [hI.1, cnt_n (hr.2.neg z), nI_z]
  · rw [hI.1, cnt_s (hr.2.pos z), nI_1]
def pr_X1_arcsOf (N : NetM) (wa wy un ga lo mo li kt wk wd : Int32) (f t w c o : Nat → Int32) (nd rt ex mn : Int32) (kp dp tw wt st : Nat → Int32) (tn tr tre tm ts j : Int32) : Prop := NetR N f t w c o nd rt ex mn ∧ TreR N.E N.root N.n kp dp tw tn tr tre
def ps_X1_arcsOf (N : NetM) (wa wy un ga lo mo li kt wk wd : Int32) (f t w c o : Nat → Int32) (nd rt ex mn : Int32) (kp dp tw wt st : Nat → Int32) (tn tr tre tm ts j : Int32) (r : Int32)  : Prop := r = nI (cnt N.m (fun k => KindIs N k j))
def wp_X1_arcsOf_L4 (wa wy un ga lo mo li kt wk wd : Int32) (f t w c o : Nat → Int32) (nd rt ex mn : Int32) (kp dp tw wt st : Nat → Int32) (tn tr tre tm ts j : Int32) (J38 : Int32 → Prop) (ix3_19 ix2_20 : Int32) : Prop :=
  ∀ X4 : Int32 → Int32 → Prop, (∀ (x3_19 : Int32) (x2_20 : Int32), (((mn ≤ x3_19 → (J38 x2_20)) ∧
 (¬ (mn ≤ x3_19) → (∃ (N_23 : NetM) (K_23 : Nat), (pr_X1_kindOf N_23 K_23 wa wy un ga lo mo li kt wk wd f t w c o nd rt ex mn kp dp tw wt st tn tr tre tm ts x3_19 ∧ (∀ (r_23 : Int32), ps_X1_kindOf N_23 K_23 wa wy un ga lo mo li kt wk wd f t w c o nd rt ex mn kp dp tw wt st tn tr tre tm ts x3_19 r_23 → (((¬ r_23 = j → (X4 (x3_19 + 1) (x2_20 + 0))) ∧
 (r_23 = j → (X4 (x3_19 + 1) (x2_20 + 1))))))))))) → X4 x3_19 x2_20) → X4 ix3_19 ix2_20
def wp_X1_arcsOf (wa wy un ga lo mo li kt wk wd : Int32) (f t w c o : Nat → Int32) (nd rt ex mn : Int32) (kp dp tw wt st : Nat → Int32) (tn tr tre tm ts j : Int32) (Q : Int32 → Prop) : Prop :=
  ∀ J38 : Int32 → Prop, (∀ (x2_17 : Int32), (Q x2_17) → J38 x2_17) →
wp_X1_arcsOf_L4 wa wy un ga lo mo li kt wk wd f t w c o nd rt ex mn kp dp tw wt st tn tr tre tm ts j J38 0 0
theorem pf_X1_arcsOf (N : NetM) (wa wy un ga lo mo li kt wk wd : Int32) (f t w c o : Nat → Int32) (nd rt ex mn : Int32) (kp dp tw wt st : Nat → Int32) (tn tr tre tm ts j : Int32) (hp : pr_X1_arcsOf N wa wy un ga lo mo li kt wk wd f t w c o nd rt ex mn kp dp tw wt st tn tr tre tm ts j) : wp_X1_arcsOf wa wy un ga lo mo li kt wk wd f t w c o nd rt ex mn kp dp tw wt st tn tr tre tm ts j (ps_X1_arcsOf N wa wy un ga lo mo li kt wk wd f t w c o nd rt ex mn kp dp tw wt st tn tr tre tm ts j) := by
  obtain ⟨hN, hT⟩ := hp
  intro J hJ X4 hX
  have h60 := hN.m60
  have e := hN.mn
  subst e
  refine up1 N.m (fun k s => s = nI (cnt k (fun k => KindIs N k j))) (fun k s hk hI hK => hX _ _ ⟨fun q => absurd q (by rw [leN (by omega) (by omega)]; omega), fun _ => ⟨N, k, ⟨hN, hT, rfl, hk⟩, fun r hr => ⟨fun z => hK _ ?_, fun z => hK _ ?_⟩⟩⟩) (fun s hI => hX _ _ ⟨fun _ => hJ _ hI, fun q => absurd (Int32.le_refl _) q⟩) 0 0 (Nat.zero_le _) rfl
  · have hr : KindIs N k r := hr
    rw [hI, cnt_n (P := fun k => KindIs N k j) (fun q => z (hr.uniq q)), nI_z]
  · have hr : KindIs N k r := hr
    rw [hI, cnt_s (P := fun k => KindIs N k j) (z ▸ hr), nI_1]
def pr_X1_openArcs (N : NetM) (wa wy un ga lo mo li kt wk wd : Int32) (f t w c o : Nat → Int32) (nd rt ex mn : Int32) (kp dp tw wt st : Nat → Int32) (tn tr tre tm ts : Int32) : Prop := NetR N f t w c o nd rt ex mn ∧ TreR N.E N.root N.n kp dp tw tn tr tre
def ps_X1_openArcs (N : NetM) (wa wy un ga lo mo li kt wk wd : Int32) (f t w c o : Nat → Int32) (nd rt ex mn : Int32) (kp dp tw wt st : Nat → Int32) (tn tr tre tm ts : Int32) (r : Int32)  : Prop := r = nI (cnt N.m (fun k => N.op k = true))
def wp_X1_openArcs_L4 (o : Nat → Int32) (mn : Int32) (J41 : Int32 → Prop) (ix2_18 ix1_19 : Int32) : Prop :=
  ∀ X4 : Int32 → Int32 → Prop, (∀ (x2_18 : Int32) (x1_19 : Int32), (((mn ≤ x2_18 → (J41 x1_19)) ∧
 (¬ (mn ≤ x2_18) → (vp_in x2_18 60 ∧ ((((o x2_18.toNatClampNeg) = 0 → (X4 (x2_18 + 1) (x1_19 + 0))) ∧
 (¬ ((o x2_18.toNatClampNeg) = 0) → (X4 (x2_18 + 1) (x1_19 + 1))))))))) → X4 x2_18 x1_19) → X4 ix2_18 ix1_19
def wp_X1_openArcs (wa wy un ga lo mo li kt wk wd : Int32) (f t w c o : Nat → Int32) (nd rt ex mn : Int32) (kp dp tw wt st : Nat → Int32) (tn tr tre tm ts : Int32) (Q : Int32 → Prop) : Prop :=
  ∀ J41 : Int32 → Prop, (∀ (x1_16 : Int32), (Q x1_16) → J41 x1_16) →
wp_X1_openArcs_L4 o mn J41 0 0
theorem pf_X1_openArcs (N : NetM) (wa wy un ga lo mo li kt wk wd : Int32) (f t w c o : Nat → Int32) (nd rt ex mn : Int32) (kp dp tw wt st : Nat → Int32) (tn tr tre tm ts : Int32) (hp : pr_X1_openArcs N wa wy un ga lo mo li kt wk wd f t w c o nd rt ex mn kp dp tw wt st tn tr tre tm ts) : wp_X1_openArcs wa wy un ga lo mo li kt wk wd f t w c o nd rt ex mn kp dp tw wt st tn tr tre tm ts (ps_X1_openArcs N wa wy un ga lo mo li kt wk wd f t w c o nd rt ex mn kp dp tw wt st tn tr tre tm ts) := by
  obtain ⟨hN, hT⟩ := hp
  intro J hJ X4 hX
  have h60 := hN.m60
  have e := hN.mn
  subst e
  refine up1 N.m (fun k s => s = nI (cnt k (fun k => N.op k = true))) (fun k s hk hI hK => hX _ _ ⟨fun q => absurd q (by rw [leN (by omega) (by omega)]; omega), fun _ => ⟨vp_in_nI (by omega) (by decide), ?_⟩⟩) (fun s hI => hX _ _ ⟨fun _ => hJ _ hI, fun q => absurd (Int32.le_refl _) q⟩) 0 0 (Nat.zero_le _) rfl
  rw [clN (by omega)]
  refine ⟨fun z => hK _ ?_, fun z => hK _ ?_⟩
  · rw [hI, cnt_n (P := fun k => N.op k = true) (fun q => (hN.opn hk).2 q z), nI_z]
  · rw [hI, cnt_s (P := fun k => N.op k = true) ((hN.opn hk).1 z), nI_1]
def pr_X1_tiedTo (N : NetM) (V : Nat) (wa wy un ga lo mo li kt wk wd : Int32) (f t w c o : Nat → Int32) (nd rt ex mn : Int32) (kp dp tw wt st : Nat → Int32) (tn tr tre tm ts v : Int32) : Prop := NetR N f t w c o nd rt ex mn ∧ TreR N.E N.root N.n kp dp tw tn tr tre ∧ v = nI V ∧ V < N.n
def ps_X1_tiedTo (N : NetM) (V : Nat) (wa wy un ga lo mo li kt wk wd : Int32) (f t w c o : Nat → Int32) (nd rt ex mn : Int32) (kp dp tw wt st : Nat → Int32) (tn tr tre tm ts v : Int32) (r : Int32) (w' o' : Nat → Int32) : Prop := NetR N f t w' c o' nd rt ex mn ∧ IsSet r (TiedTo N V)
def wp_X1_tiedTo_L10 (f t c : Nat → Int32) (nd rt ex mn v : Int32) (J73 : Int32 → (Nat → Int32) → (Nat → Int32) → Prop) (ix3_33 ix2_34 : Int32) (ia_35 ia_36 : Nat → Int32) : Prop :=
  ∀ X10 : Int32 → Int32 → (Nat → Int32) → (Nat → Int32) → Prop, (∀ (x3_33 : Int32) (x2_34 : Int32) (a_35 : Nat → Int32) (a_36 : Nat → Int32), (((mn ≤ x3_33 → (J73 x2_34 a_35 a_36)) ∧
 (¬ (mn ≤ x3_33) → (vp_in x3_33 60 ∧ (((¬ (a_36 x3_33.toNatClampNeg) = 0 → (pr_X3_reachedBut f t a_35 c a_36 nd rt ex mn x3_33 ∧ (∀ (r_41 : Int32) (w_41 o_41 : Nat → Int32), ps_X3_reachedBut f t a_35 c a_36 nd rt ex mn x3_33 r_41 w_41 o_41 → (∀ (r_42 : Int32), ps_X1_has r_41 v r_42 → (((r_42 = 0 → (X10 (x3_33 + 1) (x2_34 &&& (r_41 ^^^ (-1))) w_41 o_41)) ∧
 (¬ (r_42 = 0) → (X10 (x3_33 + 1) (x2_34 &&& r_41) w_41 o_41)))))))) ∧
 ((a_36 x3_33.toNatClampNeg) = 0 → (X10 (x3_33 + 1) x2_34 a_35 a_36)))))))) → X10 x3_33 x2_34 a_35 a_36) → X10 ix3_33 ix2_34 ia_35 ia_36
def wp_X1_tiedTo (wa wy un ga lo mo li kt wk wd : Int32) (f t w c o : Nat → Int32) (nd rt ex mn : Int32) (kp dp tw wt st : Nat → Int32) (tn tr tre tm ts v : Int32) (Q : Int32 → (Nat → Int32) → (Nat → Int32) → Prop) : Prop :=
  ∀ J73 : Int32 → (Nat → Int32) → (Nat → Int32) → Prop, (∀ (x2_29 : Int32) (a_30 : Nat → Int32) (a_31 : Nat → Int32), (Q x2_29 a_30 a_31) → J73 x2_29 a_30 a_31) →
wp_X1_tiedTo_L10 f t c nd rt ex mn v J73 0 tre w o
theorem pf_X1_tiedTo (N : NetM) (V : Nat) (wa wy un ga lo mo li kt wk wd : Int32) (f t w c o : Nat → Int32) (nd rt ex mn : Int32) (kp dp tw wt st : Nat → Int32) (tn tr tre tm ts v : Int32) (hp : pr_X1_tiedTo N V wa wy un ga lo mo li kt wk wd f t w c o nd rt ex mn kp dp tw wt st tn tr tre tm ts v) : wp_X1_tiedTo wa wy un ga lo mo li kt wk wd f t w c o nd rt ex mn kp dp tw wt st tn tr tre tm ts v (ps_X1_tiedTo N V wa wy un ga lo mo li kt wk wd f t w c o nd rt ex mn kp dp tw wt st tn tr tre tm ts v) := by
  obtain ⟨hN, hT, rfl, hV⟩ := hp
  intro J hJ X hX
  have h16 := hN.n16
  have h60 := hN.m60
  have e := hN.mn
  subst e
  refine up3 N.m (fun k s w o => IsSet s (fun x => Rd N.E N.root x ∧ ∀ j, j < k → N.op j = true → (Rd (N.Eb j) N.root V ↔ Rd (N.Eb j) N.root x)) ∧ NetR N f t w c o nd rt ex (nI N.m)) (fun k s w o hk hI hK => hX _ _ _ _ ⟨fun q => absurd q (by rw [leN (by omega) (by omega)]; omega), fun _ => ⟨vp_in_nI (by omega) (by decide), ?_⟩⟩) (fun s w o hI => hX _ _ _ _ ⟨fun _ => hJ _ _ _ ⟨hI.2, hI.1⟩, fun q => absurd (Int32.le_refl _) q⟩) 0 tre w o (Nat.zero_le _) ⟨hT.2.2.2.2.congr (fun x _ => ⟨fun q => ⟨q, fun j hj => absurd hj (by omega)⟩, fun q => q.1⟩), hN⟩
  rw [clN (by omega)]
  refine ⟨fun z => ⟨⟨N, k, hI.2, rfl, hk, (hI.2.opn hk).1 z⟩, fun r3 w3 o3 h3 r5 h5 => ?_⟩, fun z => hK _ _ _ ⟨hI.1.congr (fun x _ => ⟨fun q => ⟨q.1, fun j hj hop => ?_⟩, fun q => ⟨q.1, fun j hj => q.2 j (by omega)⟩⟩), hI.2⟩⟩
  · obtain ⟨hN3, hS⟩ := h3 N k hI.2 rfl ((hI.2.opn hk).1 z) hk
    refine ⟨fun z5 => hK _ _ _ ⟨(hI.1.andNot hS).congr (fun x _ => ⟨fun q => ⟨q.1.1, fun j hj hop => ?_⟩, fun q => ⟨⟨q.1, fun j hj => q.2 j (by omega)⟩, ?_⟩⟩), hN3⟩, fun z5 => hK _ _ _ ⟨(hI.1.and hS).congr (fun x _ => ⟨fun q => ⟨q.1.1, fun j hj hop => ?_⟩, fun q => ⟨⟨q.1, fun j hj => q.2 j (by omega)⟩, ?_⟩⟩), hN3⟩⟩
    · by_cases e : j = k
      · subst e
        exact ⟨fun y => absurd y (has_z h5 hS (by omega) z5), fun y => absurd y q.2⟩
      · exact q.1.2 j (by omega) hop
    · exact fun y => has_z h5 hS (by omega) z5 ((q.2 k (by omega) ((hI.2.opn hk).1 z)).2 y)
    · by_cases e : j = k
      · subst e
        exact ⟨fun _ => q.2, fun _ => has_p h5 hS (by omega) z5⟩
      · exact q.1.2 j (by omega) hop
    · exact (q.2 k (by omega) ((hI.2.opn hk).1 z)).1 (has_p h5 hS (by omega) z5)
  · by_cases e : j = k
    · subst e
      exact absurd z ((hI.2.opn hk).2 hop)
    · exact q.2 j (by omega) hop
def pr_X1_innerOf (N : NetM) (V M : Nat) (wa wy un ga lo mo li kt wk wd : Int32) (f t w c o : Nat → Int32) (nd rt ex mn : Int32) (kp dp tw wt st : Nat → Int32) (tn tr tre tm ts v mr : Int32) : Prop := NetR N f t w c o nd rt ex mn ∧ TreR N.E N.root N.n kp dp tw tn tr tre ∧ v = nI V ∧ V < N.n ∧ mr = nI M ∧ M ≤ 16
def ps_X1_innerOf (N : NetM) (V M : Nat) (wa wy un ga lo mo li kt wk wd : Int32) (f t w c o : Nat → Int32) (nd rt ex mn : Int32) (kp dp tw wt st : Nat → Int32) (tn tr tre tm ts v mr : Int32) (r : Int32)  : Prop := InnerIs N.E N.root N.n V M r
def wp_X1_innerOf_L8 (wa wy un ga lo mo li kt wk wd : Int32) (f t w c o : Nat → Int32) (nd rt ex mn : Int32) (kp dp tw wt st : Nat → Int32) (tn tr tre tm ts v mr : Int32) (J78 : Int32 → Nat → Nat → Prop) (ix5_40 ix4_41 ix3_42 : Int32) (ikc_43 iks_44 : Nat) : Prop :=
  ∀ X8 : Int32 → Int32 → Int32 → Nat → Nat → Prop, (∀ (x5_40 : Int32) (x4_41 : Int32) (x3_42 : Int32) (kc_43 : Nat) (ks_44 : Nat), (((nd ≤ x5_40 → (J78 x3_42 kc_43 ks_44)) ∧
 (¬ (nd ≤ x5_40) → ((kc_43 + 2 ≤ 32 ∧ ks_44 + 5 ≤ 80) ∧ (∃ (N_47 : NetM) (V_47 : Nat), (pr_X1_bodyOf N_47 V_47 wa wy un ga lo mo li kt wk wd f t w c o nd rt ex mn kp dp tw wt st tn tr tre tm ts x5_40 ∧ (∀ (r_47 : Int32), ps_X1_bodyOf N_47 V_47 wa wy un ga lo mo li kt wk wd f t w c o nd rt ex mn kp dp tw wt st tn tr tre tm ts x5_40 r_47 → ((kc_43 + 2 ≤ 32 ∧ ks_44 + 5 ≤ 80) ∧ (pr_J7_bitCount r_47 ∧ (∀ (r_48 : Int32), ps_J7_bitCount r_47 r_48 → ((kc_43 + 2 ≤ 32 ∧ ks_44 + 5 ≤ 80) ∧ (∀ (r_49 : Int32), ps_X1_has r_47 v r_49 → (((r_49 = 0 → (X8 (x5_40 + 1) x4_41 x3_42 (kc_43 + 2) (ks_44 + 5))) ∧
 (¬ (r_49 = 0) → ((r_48 ≤ mr → (X8 (x5_40 + 1) x4_41 x3_42 (kc_43 + 2) (ks_44 + 5))) ∧
 (¬ (r_48 ≤ mr) → ((x3_42 = (-1) → (X8 (x5_40 + 1) r_48 x5_40 (kc_43 + 2) (ks_44 + 5))) ∧
 (¬ (x3_42 = (-1)) → ((r_48 < x4_41 → (X8 (x5_40 + 1) r_48 x5_40 (kc_43 + 2) (ks_44 + 5))) ∧
 (¬ (r_48 < x4_41) → (X8 (x5_40 + 1) x4_41 x3_42 (kc_43 + 2) (ks_44 + 5))))))))))))))))))))))) → X8 x5_40 x4_41 x3_42 kc_43 ks_44) → X8 ix5_40 ix4_41 ix3_42 ikc_43 iks_44
def wp_X1_innerOf (wa wy un ga lo mo li kt wk wd : Int32) (f t w c o : Nat → Int32) (nd rt ex mn : Int32) (kp dp tw wt st : Nat → Int32) (tn tr tre tm ts v mr : Int32) (Q : Int32 → Prop) : Prop :=
  ∀ J78 : Int32 → Nat → Nat → Prop, (∀ (x3_36 : Int32) (kc_37 : Nat) (ks_38 : Nat), (kc_37 ≤ 32 ∧ (ks_38 ≤ 80 ∧ (Q x3_36))) → J78 x3_36 kc_37 ks_38) →
wp_X1_innerOf_L8 wa wy un ga lo mo li kt wk wd f t w c o nd rt ex mn kp dp tw wt st tn tr tre tm ts v mr J78 0 0 (-1) 0 0
theorem pf_X1_innerOf (N : NetM) (V M : Nat) (wa wy un ga lo mo li kt wk wd : Int32) (f t w c o : Nat → Int32) (nd rt ex mn : Int32) (kp dp tw wt st : Nat → Int32) (tn tr tre tm ts v mr : Int32) (hp : pr_X1_innerOf N V M wa wy un ga lo mo li kt wk wd f t w c o nd rt ex mn kp dp tw wt st tn tr tre tm ts v mr) : wp_X1_innerOf wa wy un ga lo mo li kt wk wd f t w c o nd rt ex mn kp dp tw wt st tn tr tre tm ts v mr (ps_X1_innerOf N V M wa wy un ga lo mo li kt wk wd f t w c o nd rt ex mn kp dp tw wt st tn tr tre tm ts v mr) := by
  obtain ⟨hN, hT, rfl, hV, rfl, hM⟩ := hp
  intro J hJ X hX
  have h16 := hN.n16
  have e := hN.nd
  subst e
  refine up4 N.n (fun k few found kc ks => kc = k * 2 ∧ ks = k * 5 ∧ ((found = -1 ∧ ∀ h, h < k → ¬ (Body N.E N.root h V ∧ M < cnt 16 (Body N.E N.root h))) ∨ ∃ h, found = nI h ∧ few = nI (cnt 16 (Body N.E N.root h)) ∧ h < k ∧ Body N.E N.root h V ∧ M < cnt 16 (Body N.E N.root h) ∧ ∀ g, g < k → Body N.E N.root g V → M < cnt 16 (Body N.E N.root g) → cnt 16 (Body N.E N.root h) < cnt 16 (Body N.E N.root g) ∨ (cnt 16 (Body N.E N.root h) = cnt 16 (Body N.E N.root g) ∧ h ≤ g)))
    (fun k few found kc ks hk hI hK => ?_) (fun few found kc ks hI => hX _ _ _ _ _ ⟨fun _ => hJ _ _ _ ⟨by have := hI.1; omega, by have := hI.2.1; omega, ?_⟩, fun q => absurd (Int32.le_refl _) q⟩) 0 0 (-1) 0 0 (Nat.zero_le _) ⟨rfl, rfl, Or.inl ⟨rfl, fun h hh => absurd hh (by omega)⟩⟩
  · obtain ⟨i1', i2', i3⟩ := hI
    refine hX _ _ _ _ _ ⟨fun q => absurd q (by rw [leN (by omega) (by omega)]; omega), fun _ => ⟨⟨by omega, by omega⟩, N, k, ⟨hN, hT, rfl, hk⟩, fun r1 h1 => ⟨⟨by omega, by omega⟩, B16.of h1, fun r2 h2 => ⟨⟨by omega, by omega⟩, fun r3 h3 => ?_⟩⟩⟩⟩
    have h2 : r2 = nI (pc r1) := h2
    rw [pc_set (P := Body N.E N.root k) h1] at h2
    have c16 : cnt 16 (Body N.E N.root k) ≤ 16 := cnt_le _ _
    have skip : (¬ (Body N.E N.root k V ∧ M < cnt 16 (Body N.E N.root k))) → ((found = -1 ∧ ∀ h, h < k + 1 → ¬ (Body N.E N.root h V ∧ M < cnt 16 (Body N.E N.root h))) ∨ ∃ h, found = nI h ∧ few = nI (cnt 16 (Body N.E N.root h)) ∧ h < k + 1 ∧ Body N.E N.root h V ∧ M < cnt 16 (Body N.E N.root h) ∧ ∀ g, g < k + 1 → Body N.E N.root g V → M < cnt 16 (Body N.E N.root g) → cnt 16 (Body N.E N.root h) < cnt 16 (Body N.E N.root g) ∨ (cnt 16 (Body N.E N.root h) = cnt 16 (Body N.E N.root g) ∧ h ≤ g)) := by
      intro no
      rcases i3 with ⟨q1, q2⟩ | ⟨h, q1, q2, q3, q4, q5, q6⟩
      · refine Or.inl ⟨q1, fun h hh => ?_⟩
        by_cases e : h = k
        · subst e; exact no
        · exact q2 h (by omega)
      · refine Or.inr ⟨h, q1, q2, by omega, q4, q5, fun g hg g1 g2 => ?_⟩
        by_cases e : g = k
        · subst e; exact absurd ⟨g1, g2⟩ no
        · exact q6 g (by omega) g1 g2
    refine ⟨fun z => hK _ _ _ _ ⟨by omega, by omega, skip (fun q => has_z h3 h1 (by omega) z q.1)⟩, fun z => ⟨fun z2 => hK _ _ _ _ ⟨by omega, by omega, skip (fun q => by rw [h2, leN (by omega) (by omega)] at z2; omega)⟩, fun z2 => ?_⟩⟩
    have hB : Body N.E N.root k V := has_p h3 h1 (by omega) z
    have hm : M < cnt 16 (Body N.E N.root k) := by rw [h2, leN (by omega) (by omega)] at z2; omega
    have take : (∀ g, g < k → Body N.E N.root g V → M < cnt 16 (Body N.E N.root g) → cnt 16 (Body N.E N.root k) < cnt 16 (Body N.E N.root g)) → ∃ h, nI k = nI h ∧ r2 = nI (cnt 16 (Body N.E N.root h)) ∧ h < k + 1 ∧ Body N.E N.root h V ∧ M < cnt 16 (Body N.E N.root h) ∧ ∀ g, g < k + 1 → Body N.E N.root g V → M < cnt 16 (Body N.E N.root g) → cnt 16 (Body N.E N.root h) < cnt 16 (Body N.E N.root g) ∨ (cnt 16 (Body N.E N.root h) = cnt 16 (Body N.E N.root g) ∧ h ≤ g) := fun hl => ⟨k, rfl, h2, by omega, hB, hm, fun g hg g1 g2 => by
      by_cases e : g = k
      · subst e; exact Or.inr ⟨rfl, Nat.le_refl _⟩
      · exact Or.inl (hl g (by omega) g1 g2)⟩
    refine ⟨fun z3 => hK _ _ _ _ ⟨by omega, by omega, Or.inr (take (fun g hg g1 g2 => ?_))⟩, fun z3 => ?_⟩
    · rcases i3 with ⟨-, q2⟩ | ⟨h, q1, -, q3, -⟩
      · exact absurd ⟨g1, g2⟩ (q2 g hg)
      · exact absurd (q1.symm.trans z3) (nI_m1 (by omega))
    · rcases i3 with ⟨q1, -⟩ | ⟨h, q1, q2, q3, q4, q5, q6⟩
      · exact absurd q1 z3
      · have c16h : cnt 16 (Body N.E N.root h) ≤ 16 := cnt_le _ _
        refine ⟨fun z4 => hK _ _ _ _ ⟨by omega, by omega, Or.inr (take (fun g hg g1 g2 => ?_))⟩, fun z4 => hK _ _ _ _ ⟨by omega, by omega, Or.inr ⟨h, q1, q2, by omega, q4, q5, fun g hg g1 g2 => ?_⟩⟩⟩
        · rw [h2, q2, ltN (by omega) (by omega)] at z4
          have := q6 g hg g1 g2
          omega
        · rw [h2, q2, ltN (by omega) (by omega)] at z4
          by_cases e : g = k
          · subst e; omega
          · exact q6 g (by omega) g1 g2
  · rcases hI.2.2 with q | ⟨h, q1, q2, q3, q4, q5, q6⟩
    · exact Or.inl q
    · exact Or.inr ⟨h, q1, q3, q4, q5, q6⟩
def pr_X1_outerOf (N : NetM) (V : Nat) (wa wy un ga lo mo li kt wk wd : Int32) (f t w c o : Nat → Int32) (nd rt ex mn : Int32) (kp dp tw wt st : Nat → Int32) (tn tr tre tm ts v : Int32) : Prop := NetR N f t w c o nd rt ex mn ∧ TreR N.E N.root N.n kp dp tw tn tr tre ∧ v = nI V ∧ V < N.n
def ps_X1_outerOf (N : NetM) (V : Nat) (wa wy un ga lo mo li kt wk wd : Int32) (f t w c o : Nat → Int32) (nd rt ex mn : Int32) (kp dp tw wt st : Nat → Int32) (tn tr tre tm ts v : Int32) (r : Int32)  : Prop := OuterIs N.E N.root N.n V r
def wp_X1_outerOf (wa wy un ga lo mo li kt wk wd : Int32) (f t w c o : Nat → Int32) (nd rt ex mn : Int32) (kp dp tw wt st : Nat → Int32) (tn tr tre tm ts v : Int32) (Q : Int32 → Prop) : Prop :=
  ∃ (N_1 : NetM) (V_1 M_1 : Nat), (pr_X1_innerOf N_1 V_1 M_1 wa wy un ga lo mo li kt wk wd f t w c o nd rt ex mn kp dp tw wt st tn tr tre tm ts v 0 ∧ (∀ (r_1 : Int32), ps_X1_innerOf N_1 V_1 M_1 wa wy un ga lo mo li kt wk wd f t w c o nd rt ex mn kp dp tw wt st tn tr tre tm ts v 0 r_1 → (((¬ r_1 = (-1) → (∃ (N_3 : NetM) (V_3 : Nat), (pr_X1_bodyOf N_3 V_3 wa wy un ga lo mo li kt wk wd f t w c o nd rt ex mn kp dp tw wt st tn tr tre tm ts r_1 ∧ (∀ (r_3 : Int32), ps_X1_bodyOf N_3 V_3 wa wy un ga lo mo li kt wk wd f t w c o nd rt ex mn kp dp tw wt st tn tr tre tm ts r_1 r_3 → (pr_J7_bitCount r_3 ∧ (∀ (r_4 : Int32), ps_J7_bitCount r_3 r_4 → (∃ (N_5 : NetM) (V_5 M_5 : Nat), (pr_X1_innerOf N_5 V_5 M_5 wa wy un ga lo mo li kt wk wd f t w c o nd rt ex mn kp dp tw wt st tn tr tre tm ts v r_4 ∧ (∀ (r_5 : Int32), ps_X1_innerOf N_5 V_5 M_5 wa wy un ga lo mo li kt wk wd f t w c o nd rt ex mn kp dp tw wt st tn tr tre tm ts v r_4 r_5 → (Q r_5)))))))))) ∧
 (r_1 = (-1) → (Q (-1)))))))
theorem pf_X1_outerOf (N : NetM) (V : Nat) (wa wy un ga lo mo li kt wk wd : Int32) (f t w c o : Nat → Int32) (nd rt ex mn : Int32) (kp dp tw wt st : Nat → Int32) (tn tr tre tm ts v : Int32) (hp : pr_X1_outerOf N V wa wy un ga lo mo li kt wk wd f t w c o nd rt ex mn kp dp tw wt st tn tr tre tm ts v) : wp_X1_outerOf wa wy un ga lo mo li kt wk wd f t w c o nd rt ex mn kp dp tw wt st tn tr tre tm ts v (ps_X1_outerOf N V wa wy un ga lo mo li kt wk wd f t w c o nd rt ex mn kp dp tw wt st tn tr tre tm ts v) := by
  obtain ⟨hN, hT, rfl, hV⟩ := hp
  have h16 := hN.n16
  refine ⟨N, V, 0, ⟨hN, hT, rfl, hV, rfl, by omega⟩, fun r1 h1 => ⟨fun z => ?_, fun z => Or.inl ⟨by have h1 : InnerIs N.E N.root N.n V 0 r1 := h1; rwa [z] at h1, rfl⟩⟩⟩
  have h1 : InnerIs N.E N.root N.n V 0 r1 := h1
  rcases id h1 with ⟨q, -⟩ | ⟨h, rfl, hh, -⟩
  · exact absurd q z
  · refine ⟨N, h, ⟨hN, hT, rfl, hh⟩, fun r3 h3 => ⟨B16.of h3, fun r4 h4 => ?_⟩⟩
    have h4 : r4 = nI (pc r3) := h4
    rw [pc_set (P := Body N.E N.root h) h3] at h4
    exact ⟨N, V, _, ⟨hN, hT, rfl, hV, h4, cnt_le _ _⟩, fun r5 h5 => Or.inr ⟨h, hh, h1, h5⟩⟩
def pr_X1_tollsOfAll (N : NetM) (wa wy un ga lo mo li kt wk wd : Int32) (f t w c o : Nat → Int32) (nd rt ex mn : Int32) (kp dp tw wt st : Nat → Int32) (tn tr tre tm ts : Int32) : Prop := NetR N f t w c o nd rt ex mn ∧ TreR N.E N.root N.n kp dp tw tn tr tre
def ps_X1_tollsOfAll (N : NetM) (wa wy un ga lo mo li kt wk wd : Int32) (f t w c o : Nat → Int32) (nd rt ex mn : Int32) (kp dp tw wt st : Nat → Int32) (tn tr tre tm ts : Int32) (r : Int32)  : Prop := r = nI (smP N.n (Rd N.E N.root) N.tl)
def wp_X1_tollsOfAll_L4 (c : Nat → Int32) (nd tre : Int32) (J51 : Int32 → Prop) (ix2_21 ix1_22 : Int32) : Prop :=
  ∀ X4 : Int32 → Int32 → Prop, (∀ (x2_21 : Int32) (x1_22 : Int32), (((nd ≤ x2_21 → (J51 x1_22)) ∧
 (¬ (nd ≤ x2_21) → (∀ (r_25 : Int32), ps_X1_has tre x2_21 r_25 → (((r_25 = 0 → (X4 (x2_21 + 1) (x1_22 + 0))) ∧
 (¬ (r_25 = 0) → (vp_in x2_21 16 ∧ (X4 (x2_21 + 1) (x1_22 + (c x2_21.toNatClampNeg))))))))))) → X4 x2_21 x1_22) → X4 ix2_21 ix1_22
def wp_X1_tollsOfAll (wa wy un ga lo mo li kt wk wd : Int32) (f t w c o : Nat → Int32) (nd rt ex mn : Int32) (kp dp tw wt st : Nat → Int32) (tn tr tre tm ts : Int32) (Q : Int32 → Prop) : Prop :=
  ∀ J51 : Int32 → Prop, (∀ (x1_19 : Int32), (Q x1_19) → J51 x1_19) →
wp_X1_tollsOfAll_L4 c nd tre J51 0 0
theorem pf_X1_tollsOfAll (N : NetM) (wa wy un ga lo mo li kt wk wd : Int32) (f t w c o : Nat → Int32) (nd rt ex mn : Int32) (kp dp tw wt st : Nat → Int32) (tn tr tre tm ts : Int32) (hp : pr_X1_tollsOfAll N wa wy un ga lo mo li kt wk wd f t w c o nd rt ex mn kp dp tw wt st tn tr tre tm ts) : wp_X1_tollsOfAll wa wy un ga lo mo li kt wk wd f t w c o nd rt ex mn kp dp tw wt st tn tr tre tm ts (ps_X1_tollsOfAll N wa wy un ga lo mo li kt wk wd f t w c o nd rt ex mn kp dp tw wt st tn tr tre tm ts) := by
  obtain ⟨hN, hT⟩ := hp
  intro J hJ X hX
  have h16 := hN.n16
  have e := hN.nd
  subst e
  obtain ⟨-, -, -, -, -, -, -, -, htl, -⟩ := id hN
  refine up1 N.n (fun k s => s = nI (smP k (Rd N.E N.root) N.tl)) (fun k s hk hI hK => hX _ _ ⟨fun q => absurd q (by rw [leN (by omega) (by omega)]; omega), fun _ r hr => ⟨fun z => hK _ ?_, fun z => ⟨vp_in_nI (by omega) (by decide), hK _ ?_⟩⟩⟩) (fun s hI => hX _ _ ⟨fun _ => hJ _ hI, fun q => absurd (Int32.le_refl _) q⟩) 0 0 (Nat.zero_le _) rfl
  · rw [hI, smP_n (has_z hr hT.2.2.2.2 (by omega) z), nI_z]
  · rw [hI, smP_s (has_p hr hT.2.2.2.2 (by omega) z), clN (by omega), htl k (by omega), nI_add]
def pr_X1_depths (N : NetM) (wa wy un ga lo mo li kt wk wd : Int32) (f t w c o : Nat → Int32) (nd rt ex mn : Int32) (kp dp tw wt st : Nat → Int32) (tn tr tre tm ts z : Int32) : Prop := NetR N f t w c o nd rt ex mn ∧ TreR N.E N.root N.n kp dp tw tn tr tre
def ps_X1_depths (N : NetM) (wa wy un ga lo mo li kt wk wd : Int32) (f t w c o : Nat → Int32) (nd rt ex mn : Int32) (kp dp tw wt st : Nat → Int32) (tn tr tre tm ts z : Int32) (r : Int32)  : Prop := r = nI (if z = 0 then smP N.n (Rd N.E N.root) (dep N.E N.root N.n) else mxP N.n (Rd N.E N.root) (dep N.E N.root N.n))
def wp_X1_depths_L4 (nd : Int32) (dp : Nat → Int32) (tre z : Int32) (J68 : Int32 → Prop) (ix3_35 ix2_36 : Int32) : Prop :=
  ∀ X4 : Int32 → Int32 → Prop, (∀ (x3_35 : Int32) (x2_36 : Int32), (((nd ≤ x3_35 → (J68 x2_36)) ∧
 (¬ (nd ≤ x3_35) → (∀ (r_39 : Int32), ps_X1_has tre x3_35 r_39 → (∀ J42 : Int32 → Prop, (∀ (t_42 : Int32), (((z = 0 → (X4 (x3_35 + 1) (x2_36 + t_42))) ∧
 (¬ (z = 0) → (X4 (x3_35 + 1) (if x2_36 < t_42 then t_42 else x2_36))))) → J42 t_42) →
((r_39 = 0 → (J42 0)) ∧
 (¬ (r_39 = 0) → (vp_in x3_35 16 ∧ (J42 (dp x3_35.toNatClampNeg)))))))))) → X4 x3_35 x2_36) → X4 ix3_35 ix2_36
def wp_X1_depths (wa wy un ga lo mo li kt wk wd : Int32) (f t w c o : Nat → Int32) (nd rt ex mn : Int32) (kp dp tw wt st : Nat → Int32) (tn tr tre tm ts z : Int32) (Q : Int32 → Prop) : Prop :=
  ∀ J68 : Int32 → Prop, (∀ (x2_33 : Int32), (Q x2_33) → J68 x2_33) →
wp_X1_depths_L4 nd dp tre z J68 0 0
theorem pf_X1_depths (N : NetM) (wa wy un ga lo mo li kt wk wd : Int32) (f t w c o : Nat → Int32) (nd rt ex mn : Int32) (kp dp tw wt st : Nat → Int32) (tn tr tre tm ts z : Int32) (hp : pr_X1_depths N wa wy un ga lo mo li kt wk wd f t w c o nd rt ex mn kp dp tw wt st tn tr tre tm ts z) : wp_X1_depths wa wy un ga lo mo li kt wk wd f t w c o nd rt ex mn kp dp tw wt st tn tr tre tm ts z (ps_X1_depths N wa wy un ga lo mo li kt wk wd f t w c o nd rt ex mn kp dp tw wt st tn tr tre tm ts z) := by
  obtain ⟨hN, hT⟩ := hp
  intro J hJ X hX
  have h16 := hN.n16
  have e := hN.nd
  subst e
  have hlt : ∀ x, Rd N.E N.root x → x < N.n := fun x hx => hT.1.lt hx
  have hd16 : ∀ x, Rd N.E N.root x → dep N.E N.root N.n x ≤ 16 := fun x hx => by have := dep_n hlt hx; omega
  have hd' : ∀ x, dep N.E N.root N.n x ≤ 16 := fun x => Nat.le_trans (cnt_le _ _) h16
  refine up1 N.n (fun k s => s = nI (if z = 0 then smP k (Rd N.E N.root) (dep N.E N.root N.n) else mxP k (Rd N.E N.root) (dep N.E N.root N.n))) (fun k s hk hI hK => hX _ _ ⟨fun q => absurd q (by rw [leN (by omega) (by omega)]; omega), fun _ r hr J2 hJ2 => ⟨fun y => hJ2 _ ⟨fun y2 => hK _ ?_, fun y2 => hK _ ?_⟩, fun y => ⟨vp_in_nI (by omega) (by decide), hJ2 _ ⟨fun y2 => hK _ ?_, fun y2 => hK _ ?_⟩⟩⟩⟩) (fun s hI => hX _ _ ⟨fun _ => hJ _ hI, fun q => absurd (Int32.le_refl _) q⟩) 0 0 (Nat.zero_le _) (by split <;> rfl)
  · rw [if_pos y2] at hI ⊢
    rw [hI, smP_n (has_z hr hT.2.2.2.2 (by omega) y), nI_z]
  · rw [if_neg y2] at hI ⊢
    have hm : mxP k (Rd N.E N.root) (dep N.E N.root N.n) ≤ 16 := mxP_le _ (fun x _ => hd' x)
    rw [hI, mxP_n (has_z hr hT.2.2.2.2 (by omega) y), n0, nI_max (by omega) (by omega), Nat.max_eq_left (by omega)]
  · rw [if_pos y2] at hI ⊢
    have hR := has_p hr hT.2.2.2.2 (by omega) y
    rw [hI, smP_s hR, clN (by omega), hT.1.dp_eq hR, nI_add]
  · rw [if_neg y2] at hI ⊢
    have hR := has_p hr hT.2.2.2.2 (by omega) y
    have hm : mxP k (Rd N.E N.root) (dep N.E N.root N.n) ≤ 16 := mxP_le _ (fun x _ => hd' x)
    have := hd' k
    rw [hI, mxP_s hR, clN (by omega), hT.1.dp_eq hR, nI_max (by omega) (by omega)]
def pr_X1_mostNest (N : NetM) (wa wy un ga lo mo li kt wk wd : Int32) (f t w c o : Nat → Int32) (nd rt ex mn : Int32) (kp dp tw wt st : Nat → Int32) (tn tr tre tm ts : Int32) : Prop := NetR N f t w c o nd rt ex mn ∧ TreR N.E N.root N.n kp dp tw tn tr tre
def ps_X1_mostNest (N : NetM) (wa wy un ga lo mo li kt wk wd : Int32) (f t w c o : Nat → Int32) (nd rt ex mn : Int32) (kp dp tw wt st : Nat → Int32) (tn tr tre tm ts : Int32) (r : Int32)  : Prop := r = nI (mxP N.n (fun _ => True) (fun v => cnt 16 (fun h => h < N.n ∧ Body N.E N.root h v)))
def wp_X1_mostNest_L4 (wa wy un ga lo mo li kt wk wd : Int32) (f t w c o : Nat → Int32) (nd rt ex mn : Int32) (kp dp tw wt st : Nat → Int32) (tn tr tre tm ts : Int32) (J31 : Int32 → Nat → Nat → Prop) (ix2_22 ix1_23 : Int32) (ikc_24 iks_25 : Nat) : Prop :=
  ∀ X4 : Int32 → Int32 → Nat → Nat → Prop, (∀ (x2_22 : Int32) (x1_23 : Int32) (kc_24 : Nat) (ks_25 : Nat), (((nd ≤ x2_22 → (J31 x1_23 kc_24 ks_25)) ∧
 (¬ (nd ≤ x2_22) → ((kc_24 + 33 ≤ 528 ∧ ks_25 + 82 ≤ 1312) ∧ (∃ (N_28 : NetM) (V_28 : Nat), (pr_X1_nestOf N_28 V_28 wa wy un ga lo mo li kt wk wd f t w c o nd rt ex mn kp dp tw wt st tn tr tre tm ts x2_22 ∧ (∀ (r_28 : Int32), ps_X1_nestOf N_28 V_28 wa wy un ga lo mo li kt wk wd f t w c o nd rt ex mn kp dp tw wt st tn tr tre tm ts x2_22 r_28 → ((kc_24 + 33 ≤ 528 ∧ ks_25 + 82 ≤ 1312) ∧ (X4 (x2_22 + 1) (if x1_23 < r_28 then r_28 else x1_23) (kc_24 + 33) (ks_25 + 82)))))))))) → X4 x2_22 x1_23 kc_24 ks_25) → X4 ix2_22 ix1_23 ikc_24 iks_25
def wp_X1_mostNest (wa wy un ga lo mo li kt wk wd : Int32) (f t w c o : Nat → Int32) (nd rt ex mn : Int32) (kp dp tw wt st : Nat → Int32) (tn tr tre tm ts : Int32) (Q : Int32 → Prop) : Prop :=
  ∀ J31 : Int32 → Nat → Nat → Prop, (∀ (x1_18 : Int32) (kc_19 : Nat) (ks_20 : Nat), (kc_19 ≤ 528 ∧ (ks_20 ≤ 1312 ∧ (Q x1_18))) → J31 x1_18 kc_19 ks_20) →
wp_X1_mostNest_L4 wa wy un ga lo mo li kt wk wd f t w c o nd rt ex mn kp dp tw wt st tn tr tre tm ts J31 0 0 0 0
theorem pf_X1_mostNest (N : NetM) (wa wy un ga lo mo li kt wk wd : Int32) (f t w c o : Nat → Int32) (nd rt ex mn : Int32) (kp dp tw wt st : Nat → Int32) (tn tr tre tm ts : Int32) (hp : pr_X1_mostNest N wa wy un ga lo mo li kt wk wd f t w c o nd rt ex mn kp dp tw wt st tn tr tre tm ts) : wp_X1_mostNest wa wy un ga lo mo li kt wk wd f t w c o nd rt ex mn kp dp tw wt st tn tr tre tm ts (ps_X1_mostNest N wa wy un ga lo mo li kt wk wd f t w c o nd rt ex mn kp dp tw wt st tn tr tre tm ts) := by
  obtain ⟨hN, hT⟩ := hp
  intro J hJ X hX
  have h16 := hN.n16
  have e := hN.nd
  subst e
  have hc : ∀ v, cnt 16 (fun h => h < N.n ∧ Body N.E N.root h v) ≤ 16 := fun v => cnt_le _ _
  refine up3 N.n (fun k s kc ks => s = nI (mxP k (fun _ => True) (fun v => cnt 16 (fun h => h < N.n ∧ Body N.E N.root h v))) ∧ kc = k * 33 ∧ ks = k * 82) (fun k s kc ks hk hI hK => ?_) (fun s kc ks hI => hX _ _ _ _ ⟨fun _ => hJ _ _ _ ⟨by have := hI.2.1; omega, by have := hI.2.2; omega, hI.1⟩, fun q => absurd (Int32.le_refl _) q⟩) 0 0 0 0 (Nat.zero_le _) ⟨rfl, by omega, by omega⟩
  obtain ⟨i1', i2', i3'⟩ := hI
  refine hX _ _ _ _ ⟨fun q => absurd q (by rw [leN (by omega) (by omega)]; omega), fun _ => ⟨⟨by omega, by omega⟩, N, k, ⟨hN, hT, rfl, hk⟩, fun r hr => ⟨⟨by omega, by omega⟩, hK _ _ _ ⟨?_, by omega, by omega⟩⟩⟩⟩
  have hr : r = nI (cnt 16 (fun h => h < N.n ∧ Body N.E N.root h k)) := hr
  have hm : mxP k (fun _ => True) (fun v => cnt 16 (fun h => h < N.n ∧ Body N.E N.root h v)) ≤ 16 := mxP_le _ (fun x _ => hc x)
  have := hc k
  rw [i1', hr, nI_max (by omega) (by omega), mxP_s (P := fun _ => True) trivial]
def pr_X1_rings (N : NetM) (wa wy un ga lo mo li kt wk wd : Int32) (f t w c o : Nat → Int32) (nd rt ex mn : Int32) (kp dp tw wt st : Nat → Int32) (tn tr tre tm ts : Int32) : Prop := NetR N f t w c o nd rt ex mn ∧ TreR N.E N.root N.n kp dp tw tn tr tre
def ps_X1_rings (N : NetM) (wa wy un ga lo mo li kt wk wd : Int32) (f t w c o : Nat → Int32) (nd rt ex mn : Int32) (kp dp tw wt st : Nat → Int32) (tn tr tre tm ts : Int32) (r : Int32)  : Prop := r = nI (cnt N.n (RingLow N.E N.root))
def wp_X1_rings_L4 (wa wy un ga lo mo li kt wk wd : Int32) (f t w c o : Nat → Int32) (nd rt ex mn : Int32) (kp dp tw wt st : Nat → Int32) (tn tr tre tm ts : Int32) (J55 : Int32 → Nat → Nat → Prop) (ix2_34 ix1_35 : Int32) (ikc_36 iks_37 : Nat) : Prop :=
  ∀ X4 : Int32 → Int32 → Nat → Nat → Prop, (∀ (x2_34 : Int32) (x1_35 : Int32) (kc_36 : Nat) (ks_37 : Nat), (((nd ≤ x2_34 → (J55 x1_35 kc_36 ks_37)) ∧
 (¬ (nd ≤ x2_34) → ((kc_36 + 0 ≤ 16 ∧ ks_37 + 0 ≤ 48) ∧ (∀ (r_40 : Int32), ps_X1_has tre x2_34 r_40 → (((r_40 = 0 → (X4 (x2_34 + 1) (x1_35 + 0) (kc_36 + 0) (ks_37 + 0))) ∧
 (¬ (r_40 = 0) → ((kc_36 + 1 ≤ 16 ∧ ks_37 + 3 ≤ 48) ∧ (∃ (N_42 : NetM) (V_42 : Nat), (pr_X1_ringOf N_42 V_42 wa wy un ga lo mo li kt wk wd f t w c o nd rt ex mn kp dp tw wt st tn tr tre tm ts x2_34 ∧ (∀ (r_42 : Int32), ps_X1_ringOf N_42 V_42 wa wy un ga lo mo li kt wk wd f t w c o nd rt ex mn kp dp tw wt st tn tr tre tm ts x2_34 r_42 → ((kc_36 + 1 ≤ 16 ∧ ks_37 + 3 ≤ 48) ∧ (pr_J7_numberOfTrailingZeros r_42 ∧ (∀ (r_43 : Int32), ps_J7_numberOfTrailingZeros r_42 r_43 → (((¬ r_43 = x2_34 → (X4 (x2_34 + 1) (x1_35 + 0) (kc_36 + 1) (ks_37 + 3))) ∧
 (r_43 = x2_34 → (X4 (x2_34 + 1) (x1_35 + 1) (kc_36 + 1) (ks_37 + 3)))))))))))))))))))) → X4 x2_34 x1_35 kc_36 ks_37) → X4 ix2_34 ix1_35 ikc_36 iks_37
def wp_X1_rings (wa wy un ga lo mo li kt wk wd : Int32) (f t w c o : Nat → Int32) (nd rt ex mn : Int32) (kp dp tw wt st : Nat → Int32) (tn tr tre tm ts : Int32) (Q : Int32 → Prop) : Prop :=
  ∀ J55 : Int32 → Nat → Nat → Prop, (∀ (x1_30 : Int32) (kc_31 : Nat) (ks_32 : Nat), (kc_31 ≤ 16 ∧ (ks_32 ≤ 48 ∧ (Q x1_30))) → J55 x1_30 kc_31 ks_32) →
wp_X1_rings_L4 wa wy un ga lo mo li kt wk wd f t w c o nd rt ex mn kp dp tw wt st tn tr tre tm ts J55 0 0 0 0
theorem pf_X1_rings (N : NetM) (wa wy un ga lo mo li kt wk wd : Int32) (f t w c o : Nat → Int32) (nd rt ex mn : Int32) (kp dp tw wt st : Nat → Int32) (tn tr tre tm ts : Int32) (hp : pr_X1_rings N wa wy un ga lo mo li kt wk wd f t w c o nd rt ex mn kp dp tw wt st tn tr tre tm ts) : wp_X1_rings wa wy un ga lo mo li kt wk wd f t w c o nd rt ex mn kp dp tw wt st tn tr tre tm ts (ps_X1_rings N wa wy un ga lo mo li kt wk wd f t w c o nd rt ex mn kp dp tw wt st tn tr tre tm ts) := by
  obtain ⟨hN, hT⟩ := hp
  intro J hJ X hX
  have h16 := hN.n16
  have e := hN.nd
  subst e
  refine up3 N.n (fun k s kc ks => s = nI (cnt k (RingLow N.E N.root)) ∧ kc ≤ k ∧ ks ≤ k * 3) (fun k s kc ks hk hI hK => ?_) (fun s kc ks hI => hX _ _ _ _ ⟨fun _ => hJ _ _ _ ⟨by have := hI.2.1; omega, by have := hI.2.2; omega, hI.1⟩, fun q => absurd (Int32.le_refl _) q⟩) 0 0 0 0 (Nat.zero_le _) ⟨rfl, by omega, by omega⟩
  obtain ⟨i1', i2', i3'⟩ := hI
  refine hX _ _ _ _ ⟨fun q => absurd q (by rw [leN (by omega) (by omega)]; omega), fun _ => ⟨⟨by omega, by omega⟩, fun r1 h1 => ⟨fun z => hK _ _ _ ⟨by rw [i1', cnt_n (fun q => has_z h1 hT.2.2.2.2 (by omega) z q.1), nI_z], by omega, by omega⟩, fun z => ⟨⟨by omega, by omega⟩, N, k, ⟨hN, hT, rfl, hk⟩, fun r2 h2 => ⟨⟨by omega, by omega⟩, ?_, fun r3 h3 => ?_⟩⟩⟩⟩⟩
  · refine ⟨B16.of h2, fun q => ?_⟩
    exact (IsSet.eq0 h2).1 q k (by omega) ⟨Rs.base rfl (fun f => f), Rs.base rfl (fun f => f)⟩
  · have hself : bt r2 k = true := (h2 k (by omega)).2 ⟨by omega, Rs.base rfl (fun f => f), Rs.base rfl (fun f => f)⟩
    obtain ⟨u, rfl, hu, hb, hl⟩ := h3
    rw [eqN (by omega) (by omega)]
    refine ⟨fun y => hK _ _ _ ⟨?_, by omega, by omega⟩, fun y => hK _ _ _ ⟨?_, by omega, by omega⟩⟩
    · rw [i1', cnt_n, nI_z]
      rintro ⟨-, q⟩
      have hub : u < k := by
        rcases Nat.lt_or_ge k u with h | h
        · exact absurd (hl k h) (by rw [hself]; simp)
        · omega
      exact q u hub ((h2 u (by omega)).1 hb).2
    · subst y
      rw [i1', cnt_s, nI_1]
      refine ⟨has_p h1 hT.2.2.2.2 (by omega) z, fun j hj q => ?_⟩
      exact absurd (hl j hj) (by rw [(h2 j (by omega)).2 ⟨by omega, q⟩]; simp)
def pr_X1_feeOf (dd : Nat) (N : NetM) (V : Nat) (wa wy un ga lo mo li kt wk wd : Int32) (f t w c o : Nat → Int32) (nd rt ex mn : Int32) (kp dp tw wt st : Nat → Int32) (tn tr tre tm ts v : Int32) : Prop := NetR N f t w c o nd rt ex mn ∧ TreR N.E N.root N.n kp dp tw tn tr tre ∧ v = nI V ∧ Rd N.E N.root V ∧ dep N.E N.root N.n V < dd
def ps_X1_feeOf (N : NetM) (V : Nat) (wa wy un ga lo mo li kt wk wd : Int32) (f t w c o : Nat → Int32) (nd rt ex mn : Int32) (kp dp tw wt st : Nat → Int32) (tn tr tre tm ts v : Int32) (r : Int32)  : Prop := r = nI (smP N.n (fun g => Dm N.E N.root g V) N.tl)
def wp_X1_feeOf (dd : Nat) (wa wy un ga lo mo li kt wk wd : Int32) (f t w c o : Nat → Int32) (nd rt ex mn : Int32) (kp dp tw wt st : Nat → Int32) (tn tr tre tm ts v : Int32) (Q : Int32 → Prop) : Prop :=
  vp_in v 16 ∧ (((¬ (kp v.toNatClampNeg) = (-1) → (∃ (N_3 : NetM) (V_3 : Nat), (pr_X1_feeOf dd N_3 V_3 wa wy un ga lo mo li kt wk wd f t w c o nd rt ex mn kp dp tw wt st tn tr tre tm ts (kp v.toNatClampNeg) ∧ (∀ (r_3 : Int32), ps_X1_feeOf N_3 V_3 wa wy un ga lo mo li kt wk wd f t w c o nd rt ex mn kp dp tw wt st tn tr tre tm ts (kp v.toNatClampNeg) r_3 → (Q ((c v.toNatClampNeg) + r_3)))))) ∧
 ((kp v.toNatClampNeg) = (-1) → (Q ((c v.toNatClampNeg) + 0)))))
theorem pz_X1_feeOf (N : NetM) (V : Nat) (wa wy un ga lo mo li kt wk wd : Int32) (f t w c o : Nat → Int32) (nd rt ex mn : Int32) (kp dp tw wt st : Nat → Int32) (tn tr tre tm ts v : Int32) : ¬ pr_X1_feeOf 0 N V wa wy un ga lo mo li kt wk wd f t w c o nd rt ex mn kp dp tw wt st tn tr tre tm ts v := by
  rintro ⟨-, -, -, -, h⟩
  exact absurd h (by omega)
theorem pf_X1_feeOf (dd : Nat) (N : NetM) (V : Nat) (wa wy un ga lo mo li kt wk wd : Int32) (f t w c o : Nat → Int32) (nd rt ex mn : Int32) (kp dp tw wt st : Nat → Int32) (tn tr tre tm ts v : Int32) (hp : pr_X1_feeOf (dd + 1) N V wa wy un ga lo mo li kt wk wd f t w c o nd rt ex mn kp dp tw wt st tn tr tre tm ts v) : wp_X1_feeOf dd wa wy un ga lo mo li kt wk wd f t w c o nd rt ex mn kp dp tw wt st tn tr tre tm ts v (ps_X1_feeOf N V wa wy un ga lo mo li kt wk wd f t w c o nd rt ex mn kp dp tw wt st tn tr tre tm ts v) := by
  obtain ⟨hN, hT, rfl, hR, hd⟩ := hp
  have h16 := hN.n16
  have hV := hT.1.lt hR
  obtain ⟨-, -, -, -, -, -, -, -, htl, -⟩ := id hN
  refine ⟨vp_in_nI (by omega) (by decide), ?_⟩
  rw [clN (by omega), htl V (by omega)]
  by_cases e : V = N.root
  · refine ⟨fun z => absurd (by rw [e]; exact hT.1.2.2.2.1) z, fun _ => ?_⟩
    show _ = nI _
    rw [nI_z, smP_add (Q := fun _ => False) (g := V) (fun q => q) N.n hV (fun k _ => ⟨fun q => Or.inr (by rw [e] at q ⊢; exact q.antisymm (Dm.root q.Rg)), fun q => q.elim (fun q => q.elim) (fun q => by rw [q]; exact Dm.refl hR)⟩)]
    have h0 : ∀ n, smP n (fun _ => False) N.tl = 0 := by
      intro n
      induction n with
      | zero => rfl
      | succ n ih => rw [smP_n (fun q => q), ih]
    rw [h0, Nat.zero_add]
  · obtain ⟨g, g1, g2, g3, g4, g5⟩ := hT.1.up hR e
    refine ⟨fun z => ⟨N, g, ⟨hN, hT, g1, g4, by omega⟩, fun r3 h3 => ?_⟩, fun z => absurd (g1.symm.trans z) (nI_m1 (by omega))⟩
    have h3 : r3 = nI (smP N.n (fun x => Dm N.E N.root x g) N.tl) := h3
    show _ = nI _
    rw [h3, nI_add, smP_add (P := fun x => Dm N.E N.root x V) (Q := fun x => Dm N.E N.root x g) (g := V) (fun q => g2.1.1 (g2.1.2.antisymm q)) N.n hV (fun k _ => ⟨fun q => ?_, fun q => q.elim (fun q => q.trans g2.1.2) (fun q => by rw [q]; exact Dm.refl hR)⟩), Nat.add_comm]
    by_cases ek : k = V
    · exact Or.inr ek
    · exact Or.inl (g2.2 k ⟨ek, q⟩)
def pr_X1_isSound (N : NetM) (wa wy un ga lo mo li kt wk wd : Int32) (f t w c o : Nat → Int32) (nd rt ex mn : Int32) (kp dp tw wt st : Nat → Int32) (tn tr tre tm ts : Int32) : Prop := NetR N f t w c o nd rt ex mn ∧ TreR N.E N.root N.n kp dp tw tn tr tre
def ps_X1_isSound (N : NetM) (wa wy un ga lo mo li kt wk wd : Int32) (f t w c o : Nat → Int32) (nd rt ex mn : Int32) (kp dp tw wt st : Nat → Int32) (tn tr tre tm ts : Int32) (r : Int32)  : Prop := IsB r (Sound N.E N.root)
def wp_X1_isSound_L10 (wa wy un ga lo mo li kt wk wd : Int32) (f t w c o : Nat → Int32) (nd rt ex mn : Int32) (kp dp tw wt st : Nat → Int32) (tn tr tre tm ts : Int32) (J36 : Int32 → Nat → Nat → Prop) (ix2_29 ix1_30 : Int32) (ikc_31 iks_32 : Nat) : Prop :=
  ∀ X10 : Int32 → Int32 → Nat → Nat → Prop, (∀ (x2_29 : Int32) (x1_30 : Int32) (kc_31 : Nat) (ks_32 : Nat), (((x2_29 = x1_30 → (J36 x1_30 kc_31 ks_32)) ∧
 (¬ (x2_29 = x1_30) → ((kc_31 + 1 ≤ 306 ∧ ks_32 + 2 ≤ 612) ∧ ((kc_31 + 17 ≤ 306 ∧ ks_32 + 34 ≤ 612) ∧ (∃ (N_37 : NetM) (L_37 : Nat → Prop), (pr_X1_bits_isSound N_37 L_37 wa wy un ga lo mo li kt wk wd f t w c o nd rt ex mn kp dp tw wt st tn tr tre tm ts x1_30 ∧ (∀ (r_37 : Int32), ps_X1_bits_isSound N_37 L_37 wa wy un ga lo mo li kt wk wd f t w c o nd rt ex mn kp dp tw wt st tn tr tre tm ts x1_30 r_37 → (X10 x1_30 (x1_30 &&& r_37) (kc_31 + 17) (ks_32 + 34)))))))))) → X10 x2_29 x1_30 kc_31 ks_32) → X10 ix2_29 ix1_30 ikc_31 iks_32
def wp_X1_isSound (wa wy un ga lo mo li kt wk wd : Int32) (f t w c o : Nat → Int32) (nd rt ex mn : Int32) (kp dp tw wt st : Nat → Int32) (tn tr tre tm ts : Int32) (Q : Int32 → Prop) : Prop :=
  ∀ J36 : Int32 → Nat → Nat → Prop, (∀ (x1_24 : Int32) (kc_25 : Nat) (ks_26 : Nat), (((¬ x1_24 = 0 → (kc_25 ≤ 306 ∧ (ks_26 ≤ 612 ∧ (Q 0)))) ∧
 (x1_24 = 0 → (kc_25 ≤ 306 ∧ (ks_26 ≤ 612 ∧ (Q 1)))))) → J36 x1_24 kc_25 ks_26) →
wp_X1_isSound_L10 wa wy un ga lo mo li kt wk wd f t w c o nd rt ex mn kp dp tw wt st tn tr tre tm ts J36 0 tre 0 0
theorem pf_X1_isSound (N : NetM) (wa wy un ga lo mo li kt wk wd : Int32) (f t w c o : Nat → Int32) (nd rt ex mn : Int32) (kp dp tw wt st : Nat → Int32) (tn tr tre tm ts : Int32) (hp : pr_X1_isSound N wa wy un ga lo mo li kt wk wd f t w c o nd rt ex mn kp dp tw wt st tn tr tre tm ts) : wp_X1_isSound wa wy un ga lo mo li kt wk wd f t w c o nd rt ex mn kp dp tw wt st tn tr tre tm ts (ps_X1_isSound N wa wy un ga lo mo li kt wk wd f t w c o nd rt ex mn kp dp tw wt st tn tr tre tm ts) := by
  obtain ⟨hN, hT⟩ := hp
  intro J hJ X hX
  have h16 := hN.n16
  have hroot : Rd N.E N.root N.root := Rd.root
  have key : ∀ p : Int32 × Int32 × Nat × Nat, (∃ L : Nat → Prop, IsSet p.2.1 L ∧ (∀ x, L x → x < 16 ∧ Rd N.E N.root x) ∧ (∀ L' : Nat → Prop, (∀ x, L' x → Rd N.E N.root x ∧ ∃ b, N.E x b ∧ L' b ∧ ¬ Dm N.E N.root b x) → ∀ x, L' x → L x) ∧ (p.1 = p.2.1 → ∀ x, L x → ∃ b, N.E x b ∧ L b ∧ ¬ Dm N.E N.root b x) ∧ (p.1 = p.2.1 → p.2.2.1 ≤ 306 ∧ p.2.2.2 ≤ 612) ∧ (¬ p.1 = p.2.1 → p.2.2.1 + 17 * cnt 16 L ≤ 289 ∧ p.2.2.2 + 34 * cnt 16 L ≤ 578)) → X p.1 p.2.1 p.2.2.1 p.2.2.2 := by
    refine dn1 (X := fun p : Int32 × Int32 × Nat × Nat => X p.1 p.2.1 p.2.2.1 p.2.2.2) _ (fun p => if p.1 = p.2.1 then 0 else pc p.2.1 + 1) (fun p hI hK => ?_)
    obtain ⟨x2, x1, kc, ks⟩ := p
    obtain ⟨L, i1', i2', i3', i4', i5', i6'⟩ := hI
    dsimp only at i1' i4' i5' i6' hK ⊢
    refine hX _ _ _ _ ⟨fun z => hJ _ _ _ ⟨fun y => ⟨(i5' z).1, (i5' z).2, isB0 (fun q => ?_)⟩, fun y => ⟨(i5' z).1, (i5' z).2, isB1 (fun L' hL' x hx => ?_)⟩⟩, fun z => ?_⟩
    · exact y (i1'.eq0.2 (fun k _ hk => q L (fun x hx => ⟨(i2' x hx).2, i4' z x hx⟩) k hk))
    · have hx2 := i3' L' hL' x hx
      exact i1'.eq0.1 y x (i2' x hx2).1 hx2
    · obtain ⟨r1, r2⟩ := i6' z
      refine ⟨⟨by omega, by omega⟩, ⟨by omega, by omega⟩, N, L, ⟨hN, hT, i1'⟩, fun r hr => ?_⟩
      have hnew := i1'.and hr
      have hpc0 : pc x1 = cnt 16 L := pc_set i1'
      have hpc1 : pc (x1 &&& r) = cnt 16 _ := pc_set hnew
      refine hK (x1, x1 &&& r, kc + 17, ks + 34) ⟨_, hnew, fun x hx => i2' x hx.1, fun L' hL' x hx => ?_, fun e x hx => ?_, fun e => ?_, fun e => ?_⟩ ?_
      · have hx2 := i3' L' hL' x hx
        obtain ⟨hR, b, b1, b2, b3⟩ := hL' x hx
        exact ⟨hx2, hT.1.lt hR, hx2, b, b1, i3' L' hL' b b2, b3⟩
      · dsimp only at e
        obtain ⟨-, -, -, b, b1, b2, b3⟩ := hx
        refine ⟨b, b1, ?_, b3⟩
        have hb := (i1' b (by have := (i2' b b2).1; omega)).2 ⟨(i2' b b2).1, b2⟩
        rw [e] at hb
        exact ((hnew b (by have := (i2' b b2).1; omega)).1 hb).2
      · dsimp only at e ⊢
        omega
      · dsimp only at e ⊢
        have hlt : cnt 16 (fun j => L j ∧ j < N.n ∧ (L j ∧ ∃ b, N.E j b ∧ L b ∧ ¬ Dm N.E N.root b j)) < cnt 16 L := by
          refine Classical.byContradiction fun q => e ?_
          have hall : ∀ k, k < 16 → L k → (k < N.n ∧ (L k ∧ ∃ b, N.E k b ∧ L b ∧ ¬ Dm N.E N.root b k)) := fun k hk hL => Classical.byContradiction fun y => q (cnt_lt hk (fun _ _ a => a.1) (fun a => y a.2) hL)
          exact IsSet.uniq i1' (hnew.congr (fun k hk => ⟨fun a => a.1, fun a => ⟨a, hall k hk a⟩⟩))
        omega
      · dsimp only
        rw [if_neg z]
        split
        · omega
        · rename_i e
          have hlt : cnt 16 (fun j => L j ∧ j < N.n ∧ (L j ∧ ∃ b, N.E j b ∧ L b ∧ ¬ Dm N.E N.root b j)) < cnt 16 L := by
            refine Classical.byContradiction fun q => e ?_
            have hall : ∀ k, k < 16 → L k → (k < N.n ∧ (L k ∧ ∃ b, N.E k b ∧ L b ∧ ¬ Dm N.E N.root b k)) := fun k hk hL => Classical.byContradiction fun y => q (cnt_lt hk (fun _ _ a => a.1) (fun a => y a.2) hL)
            exact IsSet.uniq i1' (hnew.congr (fun k hk => ⟨fun a => a.1, fun a => ⟨a, hall k hk a⟩⟩))
          omega
  refine key (0, tre, 0, 0) ⟨Rd N.E N.root, hT.2.2.2.2, fun x hx => ⟨by have := hT.1.lt hx; omega, hx⟩, fun L' hL' x hx => (hL' x hx).1, fun e => ?_, fun _ => ⟨Nat.zero_le _, Nat.zero_le _⟩, fun _ => ?_⟩
  · dsimp only at e
    exact absurd hroot (hT.2.2.2.2.eq0.1 e.symm N.root (by have := hN.1.2.2.1; omega))
  · have := cnt_le 16 (Rd N.E N.root)
    dsimp only
    omega
