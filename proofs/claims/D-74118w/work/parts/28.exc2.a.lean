/-! exc2: contracts, pure predicates (printed by gen.py) -/
def ps_X1_thereIs (z : Int32)  : Prop := ¬ z = 0
def px_X1_thereIs (z : Int32) (E : String)  : Prop := z = 0 ∧ E = "java/util/NoSuchElementException"
def wp_X1_thereIs (z : Int32) (Q : Prop) (QX : String → Prop) : Prop :=
  ((¬ z = 0 → (Q)) ∧
 (z = 0 → (QX ("java/util/NoSuchElementException"))))
theorem pf_X1_thereIs (z : Int32) : wp_X1_thereIs z (ps_X1_thereIs z) (px_X1_thereIs z) := by
  exact ⟨fun z => z, fun z => ⟨z, rfl⟩⟩
def ps_X1_can (z : Int32)  : Prop := ¬ z = 0
def px_X1_can (z : Int32) (E : String)  : Prop := z = 0 ∧ E = "java/lang/IllegalStateException"
def wp_X1_can (z : Int32) (Q : Prop) (QX : String → Prop) : Prop :=
  ((¬ z = 0 → (Q)) ∧
 (z = 0 → (QX ("java/lang/IllegalStateException"))))
theorem pf_X1_can (z : Int32) : wp_X1_can z (ps_X1_can z) (px_X1_can z) := by
  exact ⟨fun z => z, fun z => ⟨z, rfl⟩⟩
def ps_X1_isIn (a b z : Int32) (r : Int32)  : Prop := r = i1 (b ≤ a ∧ a ≤ z)
def wp_X1_isIn (a b z : Int32) (Q : Int32 → Prop) : Prop :=
  ((a < b → (Q 0)) ∧
 (¬ (a < b) → ((z < a → (Q 0)) ∧
 (¬ (z < a) → (Q 1)))))
theorem pf_X1_isIn (a b z : Int32) : wp_X1_isIn a b z (ps_X1_isIn a b z) := by
  refine ⟨fun q => (i1_f (fun z => absurd q (Int32.not_lt.2 z.1))).symm, fun q => ⟨fun q2 => (i1_f (fun z => absurd q2 (Int32.not_lt.2 z.2))).symm, fun q2 => (i1_t ⟨Int32.not_lt.1 q, Int32.not_lt.1 q2⟩).symm⟩⟩
def pr_X1_keeps (N : NetM) (wa wy un ga lo mo li kt wk wd : Int32) (f t w c o : Nat → Int32) (nd rt ex mn : Int32) (kp dp tw wt st : Nat → Int32) (tn tr tre tm ts v u : Int32) : Prop := NetR N f t w c o nd rt ex mn ∧ TreR N.E N.root N.n kp dp tw tn tr tre
def ps_X1_keeps (N : NetM) (wa wy un ga lo mo li kt wk wd : Int32) (f t w c o : Nat → Int32) (nd rt ex mn : Int32) (kp dp tw wt st : Nat → Int32) (tn tr tre tm ts v u : Int32) (r : Int32)  : Prop := ∃ V, v = nI V ∧ V < N.n ∧ ∃ U, u = nI U ∧ U < N.n ∧ (IsB r (Pd N.E N.root V U))
def px_X1_keeps (N : NetM) (wa wy un ga lo mo li kt wk wd : Int32) (f t w c o : Nat → Int32) (nd rt ex mn : Int32) (kp dp tw wt st : Nat → Int32) (tn tr tre tm ts v u : Int32) (E : String)  : Prop := ¬ ((0 ≤ v ∧ v < nI N.n) ∧ (0 ≤ u ∧ u < nI N.n)) ∧ E = "java/lang/IndexOutOfBoundsException"
def wp_X1_keeps (wa wy un ga lo mo li kt wk wd : Int32) (f t w c o : Nat → Int32) (nd rt ex mn : Int32) (kp dp tw wt st : Nat → Int32) (tn tr tre tm ts v u : Int32) (Q : Int32 → Prop) (QX : String → Prop) : Prop :=
  (∀ (E_1 : String), px_X1_isNode wa wy un ga lo mo li kt wk wd f t w c o nd rt ex mn kp dp tw wt st tn tr tre tm ts v E_1 → QX E_1) ∧ (ps_X1_isNode wa wy un ga lo mo li kt wk wd f t w c o nd rt ex mn kp dp tw wt st tn tr tre tm ts v → ((∀ (E_2 : String), px_X1_isNode wa wy un ga lo mo li kt wk wd f t w c o nd rt ex mn kp dp tw wt st tn tr tre tm ts u E_2 → QX E_2) ∧ (ps_X1_isNode wa wy un ga lo mo li kt wk wd f t w c o nd rt ex mn kp dp tw wt st tn tr tre tm ts u → (pr_X5_keeps kp dp tw wt st tn tr tre tm ts v u ∧ (∀ (r_3 : Int32), ps_X5_keeps kp dp tw wt st tn tr tre tm ts v u r_3 → ((r_3 = 0 ∨ r_3 = 1) ∧ (Q r_3)))))))
theorem pf_X1_keeps (N : NetM) (wa wy un ga lo mo li kt wk wd : Int32) (f t w c o : Nat → Int32) (nd rt ex mn : Int32) (kp dp tw wt st : Nat → Int32) (tn tr tre tm ts v u : Int32) (hp : pr_X1_keeps N wa wy un ga lo mo li kt wk wd f t w c o nd rt ex mn kp dp tw wt st tn tr tre tm ts v u) : wp_X1_keeps wa wy un ga lo mo li kt wk wd f t w c o nd rt ex mn kp dp tw wt st tn tr tre tm ts v u (ps_X1_keeps N wa wy un ga lo mo li kt wk wd f t w c o nd rt ex mn kp dp tw wt st tn tr tre tm ts v u) (px_X1_keeps N wa wy un ga lo mo li kt wk wd f t w c o nd rt ex mn kp dp tw wt st tn tr tre tm ts v u) := by
  obtain ⟨hN, hT⟩ := hp
  have hn := hN.n16
  have e := hN.nd
  subst e
  refine ⟨fun E h => ⟨fun q => h.1 q.1, h.2⟩, fun h1 => ⟨fun E h => ⟨fun q => h.1 q.2, h.2⟩, fun h2 => ?_⟩⟩
  obtain ⟨V, hV, rfl⟩ := (of_in (by omega)).1 h1
  obtain ⟨U, hU, rfl⟩ := (of_in (by omega)).1 h2
  refine ⟨⟨N.E, N.root, N.n, V, U, hT.1, hT.2.2.2.2, rfl, rfl, by omega, by omega⟩, fun r hr => ?_⟩
  have hr := hr _ _ _ V U hT.1 hT.2.2.2.2 rfl rfl (by omega) (by omega)
  exact ⟨hr.i01, V, rfl, hV, U, rfl, hU, hr⟩
def pr_X1_common (N : NetM) (wa wy un ga lo mo li kt wk wd : Int32) (f t w c o : Nat → Int32) (nd rt ex mn : Int32) (kp dp tw wt st : Nat → Int32) (tn tr tre tm ts v u : Int32) : Prop := NetR N f t w c o nd rt ex mn ∧ TreR N.E N.root N.n kp dp tw tn tr tre
def ps_X1_common (N : NetM) (wa wy un ga lo mo li kt wk wd : Int32) (f t w c o : Nat → Int32) (nd rt ex mn : Int32) (kp dp tw wt st : Nat → Int32) (tn tr tre tm ts v u : Int32) (r : Int32)  : Prop := ∃ V, v = nI V ∧ V < N.n ∧ ∃ U, u = nI U ∧ U < N.n ∧ (CommonIs N V U r)
def px_X1_common (N : NetM) (wa wy un ga lo mo li kt wk wd : Int32) (f t w c o : Nat → Int32) (nd rt ex mn : Int32) (kp dp tw wt st : Nat → Int32) (tn tr tre tm ts v u : Int32) (E : String)  : Prop := ¬ ((0 ≤ v ∧ v < nI N.n) ∧ (0 ≤ u ∧ u < nI N.n)) ∧ E = "java/lang/IndexOutOfBoundsException"
def wp_X1_common (wa wy un ga lo mo li kt wk wd : Int32) (f t w c o : Nat → Int32) (nd rt ex mn : Int32) (kp dp tw wt st : Nat → Int32) (tn tr tre tm ts v u : Int32) (Q : Int32 → Prop) (QX : String → Prop) : Prop :=
  (∀ (E_1 : String), px_X1_isNode wa wy un ga lo mo li kt wk wd f t w c o nd rt ex mn kp dp tw wt st tn tr tre tm ts v E_1 → QX E_1) ∧ (ps_X1_isNode wa wy un ga lo mo li kt wk wd f t w c o nd rt ex mn kp dp tw wt st tn tr tre tm ts v → ((∀ (E_2 : String), px_X1_isNode wa wy un ga lo mo li kt wk wd f t w c o nd rt ex mn kp dp tw wt st tn tr tre tm ts u E_2 → QX E_2) ∧ (ps_X1_isNode wa wy un ga lo mo li kt wk wd f t w c o nd rt ex mn kp dp tw wt st tn tr tre tm ts u → (∀ (r_3 : Int32), ps_X1_has tre v r_3 → (((r_3 = 0 → (Q (-1))) ∧
 (¬ (r_3 = 0) → (∀ (r_5 : Int32), ps_X1_has tre u r_5 → (((r_5 = 0 → (Q (-1))) ∧
 (¬ (r_5 = 0) → (pr_X5_common kp dp tw wt st tn tr tre tm ts v u ∧ (∀ (r_7 : Int32), ps_X5_common kp dp tw wt st tn tr tre tm ts v u r_7 → (Q r_7))))))))))))))
theorem pf_X1_common (N : NetM) (wa wy un ga lo mo li kt wk wd : Int32) (f t w c o : Nat → Int32) (nd rt ex mn : Int32) (kp dp tw wt st : Nat → Int32) (tn tr tre tm ts v u : Int32) (hp : pr_X1_common N wa wy un ga lo mo li kt wk wd f t w c o nd rt ex mn kp dp tw wt st tn tr tre tm ts v u) : wp_X1_common wa wy un ga lo mo li kt wk wd f t w c o nd rt ex mn kp dp tw wt st tn tr tre tm ts v u (ps_X1_common N wa wy un ga lo mo li kt wk wd f t w c o nd rt ex mn kp dp tw wt st tn tr tre tm ts v u) (px_X1_common N wa wy un ga lo mo li kt wk wd f t w c o nd rt ex mn kp dp tw wt st tn tr tre tm ts v u) := by
  obtain ⟨hN, hT⟩ := hp
  have hn := hN.n16
  have e := hN.nd
  subst e
  refine ⟨fun E h => ⟨fun q => h.1 q.1, h.2⟩, fun h1 => ⟨fun E h => ⟨fun q => h.1 q.2, h.2⟩, fun h2 => ?_⟩⟩
  obtain ⟨V, hV, rfl⟩ := (of_in (by omega)).1 h1
  obtain ⟨U, hU, rfl⟩ := (of_in (by omega)).1 h2
  refine fun r3 h3 => ⟨fun z => ⟨V, rfl, hV, U, rfl, hU, Or.inl ⟨fun q => has_z h3 hT.2.2.2.2 (by omega) z q.1, rfl⟩⟩, fun z => fun r5 h5 => ⟨fun z5 => ⟨V, rfl, hV, U, rfl, hU, Or.inl ⟨fun q => has_z h5 hT.2.2.2.2 (by omega) z5 q.2, rfl⟩⟩, fun z5 => ?_⟩⟩
  have hRV := has_p h3 hT.2.2.2.2 (by omega) z
  have hRU := has_p h5 hT.2.2.2.2 (by omega) z5
  exact ⟨⟨N.E, N.root, N.n, V, U, hT.1, rfl, rfl, hRV, hRU⟩, fun r7 h7 => ⟨V, rfl, hV, U, rfl, hU, Or.inr ⟨hRV, hRU, h7 _ _ _ V U hT.1 rfl rfl hRV hRU⟩⟩⟩
def pr_X1_walk (N : NetM) (wa wy un ga lo mo li kt wk wd : Int32) (f t w c o : Nat → Int32) (nd rt ex mn : Int32) (kp dp tw wt st : Nat → Int32) (tn tr tre tm ts k : Int32) : Prop := NetR N f t w c o nd rt ex mn ∧ TreR N.E N.root N.n kp dp tw tn tr tre
def ps_X1_walk (N : NetM) (wa wy un ga lo mo li kt wk wd : Int32) (f t w c o : Nat → Int32) (nd rt ex mn : Int32) (kp dp tw wt st : Nat → Int32) (tn tr tre tm ts k : Int32) (r : Int32) (wk' wd' : Int32) : Prop := WalkIs N k r
def wp_X1_walk (wa wy un ga lo mo li kt wk wd : Int32) (f t w c o : Nat → Int32) (nd rt ex mn : Int32) (kp dp tw wt st : Nat → Int32) (tn tr tre tm ts k : Int32) (Q : Int32 → Int32 → Int32 → Prop) : Prop :=
  ((0 ≤ k → (∃ (N_2 : NetM) (V_2 W_2 D_2 : Nat), (pr_X1_walks 17 N_2 V_2 W_2 D_2 wa wy un ga lo mo li kt 0 k f t w c o nd rt ex mn kp dp tw wt st tn tr tre tm ts rt ∧ (∀ (r_2 wk_2 : Int32), ps_X1_walks N_2 V_2 W_2 D_2 wa wy un ga lo mo li kt 0 k f t w c o nd rt ex mn kp dp tw wt st tn tr tre tm ts rt r_2 wk_2 → (Q r_2 wk_2 k))))) ∧
 (¬ (0 ≤ k) → (Q (-1) 0 k)))
theorem pf_X1_walk (N : NetM) (wa wy un ga lo mo li kt wk wd : Int32) (f t w c o : Nat → Int32) (nd rt ex mn : Int32) (kp dp tw wt st : Nat → Int32) (tn tr tre tm ts k : Int32) (hp : pr_X1_walk N wa wy un ga lo mo li kt wk wd f t w c o nd rt ex mn kp dp tw wt st tn tr tre tm ts k) : wp_X1_walk wa wy un ga lo mo li kt wk wd f t w c o nd rt ex mn kp dp tw wt st tn tr tre tm ts k (ps_X1_walk N wa wy un ga lo mo li kt wk wd f t w c o nd rt ex mn kp dp tw wt st tn tr tre tm ts k) := by
  obtain ⟨hN, hT⟩ := hp
  have hn := hN.n16
  refine ⟨fun z => ?_, fun z => Or.inl ⟨Int32.not_le.1 z, rfl⟩⟩
  obtain ⟨K, hK, rfl⟩ := nI_of (Int32.not_lt.2 z)
  have hrt : rt = nI N.root := hN.2.2.1
  subst hrt
  have hd := dep_root (E := N.E) (r := N.root) (n := N.n)
  refine ⟨N, N.root, 0, K, ⟨hN, hT, rfl, Rd.root, rfl, rfl, Nat.zero_le _, hK, by omega⟩, fun r wk h => ?_⟩
  unfold ps_X1_walks at h
  rw [hd] at h
  simp only [Nat.sub_zero, Nat.zero_add] at h
  rcases h with ⟨g1, x, g2, g3, g4⟩ | ⟨g1, g3, g4⟩
  · exact Or.inr ⟨K, rfl, hK, Or.inl ⟨x, g2, g3⟩⟩
  · exact Or.inr ⟨K, rfl, hK, Or.inr ⟨g1, g3⟩⟩
def pr_X1_arc (N : NetM) (wa wy un ga lo mo li kt wk wd : Int32) (f t w c o : Nat → Int32) (nd rt ex mn : Int32) (kp dp tw wt st : Nat → Int32) (tn tr tre tm ts k j : Int32) : Prop := NetR N f t w c o nd rt ex mn ∧ TreR N.E N.root N.n kp dp tw tn tr tre
def ps_X1_arc (N : NetM) (wa wy un ga lo mo li kt wk wd : Int32) (f t w c o : Nat → Int32) (nd rt ex mn : Int32) (kp dp tw wt st : Nat → Int32) (tn tr tre tm ts k j : Int32) (r : Int32) (w' o' : Nat → Int32) : Prop := NetR N f t w' c o' nd rt ex mn ∧ ∃ K, k = nI K ∧ K < N.m ∧ ∃ J, j = nI J ∧ J ≤ 4 ∧ ArcIs N K J r
def px_X1_arc (N : NetM) (wa wy un ga lo mo li kt wk wd : Int32) (f t w c o : Nat → Int32) (nd rt ex mn : Int32) (kp dp tw wt st : Nat → Int32) (tn tr tre tm ts k j : Int32) (E : String) (w' o' : Nat → Int32) : Prop := w' = w ∧ o' = o ∧ ((¬ (0 ≤ k ∧ k < nI N.m) ∧ E = "java/lang/IndexOutOfBoundsException") ∨ ((0 ≤ k ∧ k < nI N.m) ∧ ¬ (0 ≤ j ∧ j ≤ 4) ∧ E = "java/util/NoSuchElementException"))
def wp_X1_arc (wa wy un ga lo mo li kt wk wd : Int32) (f t w c o : Nat → Int32) (nd rt ex mn : Int32) (kp dp tw wt st : Nat → Int32) (tn tr tre tm ts k j : Int32) (Q : Int32 → (Nat → Int32) → (Nat → Int32) → Prop) (QX : String → (Nat → Int32) → (Nat → Int32) → Prop) : Prop :=
  ∀ (r_1 : Int32), ps_X3_isArc f t w c o nd rt ex mn k r_1 → ((∀ (E_2 : String), px_X1_mustBe r_1 E_2 → QX E_2 w o) ∧ (ps_X1_mustBe r_1 → (∀ (r_3 : Int32), ps_X1_isIn j 0 4 r_3 → ((∀ (E_4 : String), px_X1_thereIs r_3 E_4 → QX E_4 w o) ∧ (ps_X1_thereIs r_3 → (((j.toInt < 0 ∨ 3 < j.toInt → (∃ (N_6 : NetM) (K_6 : Nat), (pr_X1_isBridge N_6 K_6 wa wy un ga lo mo li kt wk wd f t w c o nd rt ex mn kp dp tw wt st tn tr tre tm ts k ∧ (∀ (r_6 : Int32) (w_6 o_6 : Nat → Int32), ps_X1_isBridge N_6 K_6 wa wy un ga lo mo li kt wk wd f t w c o nd rt ex mn kp dp tw wt st tn tr tre tm ts k r_6 w_6 o_6 → (((r_6 = 0 → (Q 0 w_6 o_6)) ∧
 (¬ (r_6 = 0) → (Q 1 w_6 o_6)))))))) ∧
(j.toInt = 0 → (vp_in k 60 ∧ (Q (f k.toNatClampNeg) w o))) ∧
(j.toInt = 1 → (vp_in k 60 ∧ (Q (t k.toNatClampNeg) w o))) ∧
(j.toInt = 2 → (vp_in k 60 ∧ ((((o k.toNatClampNeg) = 0 → (Q 0 w o)) ∧
 (¬ ((o k.toNatClampNeg) = 0) → (Q 1 w o)))))) ∧
(j.toInt = 3 → (∃ (N_12 : NetM) (K_12 : Nat), (pr_X1_kindOf N_12 K_12 wa wy un ga lo mo li kt wk wd f t w c o nd rt ex mn kp dp tw wt st tn tr tre tm ts k ∧ (∀ (r_12 : Int32), ps_X1_kindOf N_12 K_12 wa wy un ga lo mo li kt wk wd f t w c o nd rt ex mn kp dp tw wt st tn tr tre tm ts k r_12 → (Q r_12 w o))))))))))))
theorem pf_X1_arc (N : NetM) (wa wy un ga lo mo li kt wk wd : Int32) (f t w c o : Nat → Int32) (nd rt ex mn : Int32) (kp dp tw wt st : Nat → Int32) (tn tr tre tm ts k j : Int32) (hp : pr_X1_arc N wa wy un ga lo mo li kt wk wd f t w c o nd rt ex mn kp dp tw wt st tn tr tre tm ts k j) : wp_X1_arc wa wy un ga lo mo li kt wk wd f t w c o nd rt ex mn kp dp tw wt st tn tr tre tm ts k j (ps_X1_arc N wa wy un ga lo mo li kt wk wd f t w c o nd rt ex mn kp dp tw wt st tn tr tre tm ts k j) (px_X1_arc N wa wy un ga lo mo li kt wk wd f t w c o nd rt ex mn kp dp tw wt st tn tr tre tm ts k j) := by
  obtain ⟨hN, hT⟩ := hp
  have hm := hN.mn
  subst hm
  have h60 := hN.m60
  refine fun r1 h1 => ?_
  have h1 : r1 = i1 (0 ≤ k ∧ k < nI N.m) := h1
  refine ⟨fun E h => ⟨rfl, rfl, Or.inl ⟨i1_eq0.1 (h1.symm.trans h.1), h.2⟩⟩, fun h2 => ?_⟩
  have hk := Classical.not_not.1 (fun q => h2 (h1.trans (i1_eq0.2 q)))
  refine fun r3 h3 => ?_
  have h3 : r3 = i1 (0 ≤ j ∧ j ≤ 4) := h3
  refine ⟨fun E h => ⟨rfl, rfl, Or.inr ⟨hk, i1_eq0.1 (h3.symm.trans h.1), h.2⟩⟩, fun h4 => ?_⟩
  have hj := Classical.not_not.1 (fun q => h4 (h3.trans (i1_eq0.2 q)))
  obtain ⟨K, hK, rfl⟩ := (of_in (by omega)).1 hk
  obtain ⟨J, hJ, rfl⟩ := nat_of (n := 4) (by decide) hj.1 hj.2
  rw [nI_toInt (by omega), clN (k := K) (by omega)]
  have harc := hN.arc hK
  have hv : vp_in (nI K) 60 := vp_in_nI (by omega) (by decide)
  refine ⟨fun z => ⟨N, K, ⟨hN, hT, rfl, hK⟩, fun r6 w6 o6 h6 => ⟨fun z6 => ⟨h6.1, K, rfl, hK, J, rfl, hJ, Or.inr (Or.inr (Or.inr (Or.inr ⟨by omega, isB0 (h6.2.neg z6)⟩)))⟩, fun z6 => ⟨h6.1, K, rfl, hK, J, rfl, hJ, Or.inr (Or.inr (Or.inr (Or.inr ⟨by omega, isB1 (h6.2.pos z6)⟩)))⟩⟩⟩, fun z => ⟨hv, hN, K, rfl, hK, J, rfl, hJ, Or.inl ⟨by omega, harc.1⟩⟩, fun z => ⟨hv, hN, K, rfl, hK, J, rfl, hJ, Or.inr (Or.inl ⟨by omega, harc.2.1⟩)⟩, fun z => ⟨hv, fun z2 => ⟨hN, K, rfl, hK, J, rfl, hJ, Or.inr (Or.inr (Or.inl ⟨by omega, isB0 (fun q => (hN.opn hK).2 q z2)⟩))⟩, fun z2 => ⟨hN, K, rfl, hK, J, rfl, hJ, Or.inr (Or.inr (Or.inl ⟨by omega, isB1 ((hN.opn hK).1 z2)⟩))⟩⟩, fun z => ⟨N, K, ⟨hN, hT, rfl, hK⟩, fun r h => ⟨hN, K, rfl, hK, J, rfl, hJ, Or.inr (Or.inr (Or.inr (Or.inl ⟨by omega, h⟩)))⟩⟩⟩
def pr_X1_without (N : NetM) (wa wy un ga lo mo li kt wk wd : Int32) (f t w c o : Nat → Int32) (nd rt ex mn : Int32) (kp dp tw wt st : Nat → Int32) (tn tr tre tm ts v : Int32) : Prop := NetR N f t w c o nd rt ex mn ∧ TreR N.E N.root N.n kp dp tw tn tr tre
def ps_X1_without (N : NetM) (wa wy un ga lo mo li kt wk wd : Int32) (f t w c o : Nat → Int32) (nd rt ex mn : Int32) (kp dp tw wt st : Nat → Int32) (tn tr tre tm ts v : Int32) (r : Int32)  : Prop := ∃ V, v = nI V ∧ V < N.n ∧ (IsSet r (Pd N.E N.root V))
def px_X1_without (N : NetM) (wa wy un ga lo mo li kt wk wd : Int32) (f t w c o : Nat → Int32) (nd rt ex mn : Int32) (kp dp tw wt st : Nat → Int32) (tn tr tre tm ts v : Int32) (E : String)  : Prop := ¬ (0 ≤ v ∧ v < nI N.n) ∧ E = "java/lang/IndexOutOfBoundsException"
def wp_X1_without (wa wy un ga lo mo li kt wk wd : Int32) (f t w c o : Nat → Int32) (nd rt ex mn : Int32) (kp dp tw wt st : Nat → Int32) (tn tr tre tm ts v : Int32) (Q : Int32 → Prop) (QX : String → Prop) : Prop :=
  (∀ (E_1 : String), px_X1_isNode wa wy un ga lo mo li kt wk wd f t w c o nd rt ex mn kp dp tw wt st tn tr tre tm ts v E_1 → QX E_1) ∧ (ps_X1_isNode wa wy un ga lo mo li kt wk wd f t w c o nd rt ex mn kp dp tw wt st tn tr tre tm ts v → (∀ J37 : Int32 → Prop, (∀ (t_4 : Int32), (Q ((tre &&& (t_4 ^^^ (-1))) &&& (((1 : Int32) <<< (v &&& 31)) ^^^ (-1)))) → J37 t_4) →
((¬ v = rt → (pr_X8_reach_N f t w c o nd rt ex mn rt ((1 : Int32) <<< (v &&& 31)) ∧ (∀ (r_7 : Int32), ps_X8_reach_N f t w c o nd rt ex mn rt ((1 : Int32) <<< (v &&& 31)) r_7 → (J37 r_7)))) ∧
 (v = rt → (J37 0)))))
theorem pf_X1_without (N : NetM) (wa wy un ga lo mo li kt wk wd : Int32) (f t w c o : Nat → Int32) (nd rt ex mn : Int32) (kp dp tw wt st : Nat → Int32) (tn tr tre tm ts v : Int32) (hp : pr_X1_without N wa wy un ga lo mo li kt wk wd f t w c o nd rt ex mn kp dp tw wt st tn tr tre tm ts v) : wp_X1_without wa wy un ga lo mo li kt wk wd f t w c o nd rt ex mn kp dp tw wt st tn tr tre tm ts v (ps_X1_without N wa wy un ga lo mo li kt wk wd f t w c o nd rt ex mn kp dp tw wt st tn tr tre tm ts v) (px_X1_without N wa wy un ga lo mo li kt wk wd f t w c o nd rt ex mn kp dp tw wt st tn tr tre tm ts v) := by
  obtain ⟨hN, hT⟩ := hp
  have hn := hN.n16
  have e := hN.nd
  subst e
  have e : rt = nI N.root := hN.2.2.1
  subst e
  refine ⟨fun E h => h, fun h1 => ?_⟩
  obtain ⟨V, hV, rfl⟩ := (of_in (by omega)).1 h1
  refine fun J hJ => ?_
  have hS := hT.2.2.2.2
  have hb := IsSet.bit (k := V) (by omega)
  have hr0 := hN.1.2.2.1
  have fin : ∀ t, IsSet t (fun x => V ≠ N.root ∧ Rs N.E (fun z => z = N.root) (fun z => z = V) x) → J t := fun t ht => hJ t ⟨V, rfl, hV, ((hS.andNot ht).andNot hb).congr (fun x hx => by
    constructor
    · rintro ⟨⟨a, b⟩, q⟩
      refine ⟨fun z => q z.symm, a, fun z => b ⟨fun y => ?_, z⟩⟩
      obtain ⟨y1, y2, y3, -⟩ := z.from
      exact y3 (y2.trans y.symm)
    · rintro ⟨q, a, b⟩
      exact ⟨⟨a, fun z => b z.2⟩, fun z => q z.symm⟩)⟩
  refine ⟨fun z => ⟨hN.rchP hr0 (fun q => z ?_), fun r7 h7 => fin _ ((hN.rch hr0 (fun x => bt_one (by omega) x) h7).congr (fun x _ => ⟨fun q => ⟨fun y => z (by rw [y]), q⟩, fun q => q.2⟩))⟩, fun z => fin 0 (IsSet.zero.congr (fun x _ => ⟨fun q => q.elim, fun q => q.1 ((eqN (by omega) (by omega)).mp z)⟩))⟩
  rw [(bt_one (by omega) _).1 q]
def pr_X1_seal (N : NetM) (wa wy un ga lo mo li kt wk wd : Int32) (f t w c o : Nat → Int32) (nd rt ex mn : Int32) (kp dp tw wt st : Nat → Int32) (tn tr tre tm ts s : Int32) : Prop := NetR N f t w c o nd rt ex mn ∧ TreR N.E N.root N.n kp dp tw tn tr tre
def ps_X1_seal (N : NetM) (wa wy un ga lo mo li kt wk wd : Int32) (f t w c o : Nat → Int32) (nd rt ex mn : Int32) (kp dp tw wt st : Nat → Int32) (tn tr tre tm ts s : Int32) (r : Int32)  : Prop := SubN N.n s ∧ IsSet r (SealIs N s)
def px_X1_seal (N : NetM) (wa wy un ga lo mo li kt wk wd : Int32) (f t w c o : Nat → Int32) (nd rt ex mn : Int32) (kp dp tw wt st : Nat → Int32) (tn tr tre tm ts s : Int32) (E : String)  : Prop := ¬ SubN N.n s ∧ E = "java/lang/IllegalArgumentException"
def wp_X1_seal (wa wy un ga lo mo li kt wk wd : Int32) (f t w c o : Nat → Int32) (nd rt ex mn : Int32) (kp dp tw wt st : Nat → Int32) (tn tr tre tm ts s : Int32) (Q : Int32 → Prop) (QX : String → Prop) : Prop :=
  ∀ J23 : Int32 → Prop, (∀ (t_2 : Int32), ((∀ (E_3 : String), px_X1_must t_2 E_3 → QX E_3) ∧ (ps_X1_must t_2 → (∀ (r_4 : Int32), ps_X1_has s rt r_4 → (∀ J59 : Int32 → Prop, (∀ (t_7 : Int32), (Q ((tre &&& (t_7 ^^^ (-1))) &&& (s ^^^ (-1)))) → J59 t_7) →
((r_4 = 0 → (pr_X8_reach_N f t w c o nd rt ex mn rt s ∧ (∀ (r_10 : Int32), ps_X8_reach_N f t w c o nd rt ex mn rt s r_10 → (J59 r_10)))) ∧
 (¬ (r_4 = 0) → (J59 0))))))) → J23 t_2) →
((¬ (s &&& (((1 <<< (nd &&& 31)) - 1) ^^^ (-1))) = 0 → (J23 0)) ∧
 ((s &&& (((1 <<< (nd &&& 31)) - 1) ^^^ (-1))) = 0 → (J23 1)))
theorem pf_X1_seal (N : NetM) (wa wy un ga lo mo li kt wk wd : Int32) (f t w c o : Nat → Int32) (nd rt ex mn : Int32) (kp dp tw wt st : Nat → Int32) (tn tr tre tm ts s : Int32) (hp : pr_X1_seal N wa wy un ga lo mo li kt wk wd f t w c o nd rt ex mn kp dp tw wt st tn tr tre tm ts s) : wp_X1_seal wa wy un ga lo mo li kt wk wd f t w c o nd rt ex mn kp dp tw wt st tn tr tre tm ts s (ps_X1_seal N wa wy un ga lo mo li kt wk wd f t w c o nd rt ex mn kp dp tw wt st tn tr tre tm ts s) (px_X1_seal N wa wy un ga lo mo li kt wk wd f t w c o nd rt ex mn kp dp tw wt st tn tr tre tm ts s) := by
  obtain ⟨hN, hT⟩ := hp
  have hn := hN.n16
  have e := hN.nd
  subst e
  have e : rt = nI N.root := hN.2.2.1
  subst e
  have hr0 := hN.1.2.2.1
  refine fun J hJ => ?_
  rw [sub_iff hn]
  refine ⟨fun z => hJ 0 ⟨fun E h => ⟨z, h.2⟩, fun q => absurd rfl q⟩, fun z => hJ 1 ⟨fun E h => absurd h.1 (by decide), fun _ r4 h4 J5 hJ5 => ?_⟩⟩
  have hS := hT.2.2.2.2
  have hs := z.set hn
  have fin : ∀ t, IsSet t (fun x => ¬ bt s N.root = true ∧ Rs N.E (fun z => z = N.root) (fun z => bt s z = true) x) → J5 t := fun t ht => hJ5 t ⟨z, ((hS.andNot ht).andNot hs).congr (fun x hx => by
    constructor
    · rintro ⟨⟨a, b⟩, q⟩
      refine ⟨a, fun y => b ⟨?_, y⟩, q⟩
      obtain ⟨y1, y2, y3, -⟩ := y.from
      rw [← y2]; exact y3
    · rintro ⟨a, b, q⟩
      exact ⟨⟨a, fun y => b y.2⟩, q⟩)⟩
  refine ⟨fun y => ?_, fun y => fin 0 (IsSet.zero.congr (fun x _ => ⟨fun q => q.elim, fun q => q.1 (has_p h4 hs (by omega) y)⟩))⟩
  have hb := has_z h4 hs (by omega) y
  exact ⟨hN.rchP hr0 hb, fun r h => fin _ ((hN.rch hr0 (fun x => Iff.rfl) h).congr (fun x _ => ⟨fun q => ⟨hb, q⟩, fun q => q.2⟩))⟩
def pr_X1_chain (N : NetM) (wa wy un ga lo mo li kt wk wd : Int32) (f t w c o : Nat → Int32) (nd rt ex mn : Int32) (kp dp tw wt st : Nat → Int32) (tn tr tre tm ts v k : Int32) : Prop := NetR N f t w c o nd rt ex mn ∧ TreR N.E N.root N.n kp dp tw tn tr tre
def ps_X1_chain (N : NetM) (wa wy un ga lo mo li kt wk wd : Int32) (f t w c o : Nat → Int32) (nd rt ex mn : Int32) (kp dp tw wt st : Nat → Int32) (tn tr tre tm ts v k : Int32) (r : Int32)  : Prop := ∃ V, v = nI V ∧ V < N.n ∧ (ChainIs N V k r)
def px_X1_chain (N : NetM) (wa wy un ga lo mo li kt wk wd : Int32) (f t w c o : Nat → Int32) (nd rt ex mn : Int32) (kp dp tw wt st : Nat → Int32) (tn tr tre tm ts v k : Int32) (E : String)  : Prop := ¬ (0 ≤ v ∧ v < nI N.n) ∧ E = "java/lang/IndexOutOfBoundsException"
def wp_X1_chain_L40 (kp dp : Nat → Int32) (k : Int32) (J66 : Int32 → Prop) (ix3_19 : Int32) : Prop :=
  ∀ X40 : Int32 → Prop, (∀ (x3_19 : Int32), (vp_in x3_19 16 ∧ ((((dp x3_19.toNatClampNeg) ≤ k → (J66 x3_19)) ∧
 (¬ ((dp x3_19.toNatClampNeg) ≤ k) → (X40 (kp x3_19.toNatClampNeg)))))) → X40 x3_19) → X40 ix3_19
def wp_X1_chain (wa wy un ga lo mo li kt wk wd : Int32) (f t w c o : Nat → Int32) (nd rt ex mn : Int32) (kp dp tw wt st : Nat → Int32) (tn tr tre tm ts v k : Int32) (Q : Int32 → Prop) (QX : String → Prop) : Prop :=
  (∀ (E_1 : String), px_X1_isNode wa wy un ga lo mo li kt wk wd f t w c o nd rt ex mn kp dp tw wt st tn tr tre tm ts v E_1 → QX E_1) ∧ (ps_X1_isNode wa wy un ga lo mo li kt wk wd f t w c o nd rt ex mn kp dp tw wt st tn tr tre tm ts v → (∀ (r_2 : Int32), ps_X1_has tre v r_2 → (((r_2 = 0 → (Q (-1))) ∧
 (¬ (r_2 = 0) → (vp_in v 16 ∧ (∀ (r_5 : Int32), ps_X1_isIn k 0 (dp v.toNatClampNeg) r_5 → (((¬ r_5 = 0 → (∀ J66 : Int32 → Prop, (∀ (x3_17 : Int32), (Q x3_17) → J66 x3_17) →
wp_X1_chain_L40 kp dp k J66 v)) ∧
 (r_5 = 0 → (Q (-1))))))))))))
theorem pf_X1_chain (N : NetM) (wa wy un ga lo mo li kt wk wd : Int32) (f t w c o : Nat → Int32) (nd rt ex mn : Int32) (kp dp tw wt st : Nat → Int32) (tn tr tre tm ts v k : Int32) (hp : pr_X1_chain N wa wy un ga lo mo li kt wk wd f t w c o nd rt ex mn kp dp tw wt st tn tr tre tm ts v k) : wp_X1_chain wa wy un ga lo mo li kt wk wd f t w c o nd rt ex mn kp dp tw wt st tn tr tre tm ts v k (ps_X1_chain N wa wy un ga lo mo li kt wk wd f t w c o nd rt ex mn kp dp tw wt st tn tr tre tm ts v k) (px_X1_chain N wa wy un ga lo mo li kt wk wd f t w c o nd rt ex mn kp dp tw wt st tn tr tre tm ts v k) := by
  obtain ⟨hN, hT⟩ := hp
  have hn := hN.n16
  have e := hN.nd
  subst e
  refine ⟨fun E h => h, fun h1 => ?_⟩
  obtain ⟨V, hV, rfl⟩ := (of_in (by omega)).1 h1
  refine fun r2 h2 => ⟨fun z => ⟨V, rfl, hV, Or.inl ⟨fun q => has_z h2 hT.2.2.2.2 (by omega) z q.1, rfl⟩⟩, fun z => ⟨vp_in_nI (by omega) (by decide), fun r5 h5 => ?_⟩⟩
  have hR := has_p h2 hT.2.2.2.2 (by omega) z
  rw [clN (by omega), hT.1.dp_eq hR] at h5
  have h5 : r5 = i1 (0 ≤ k ∧ k ≤ nI (dep N.E N.root N.n V)) := h5
  have hlt : ∀ x, Rd N.E N.root x → x < N.n := fun x hx => hT.1.lt hx
  have hdn := dep_n hlt hR
  refine ⟨fun y J hJ X hX => ?_, fun y => ⟨V, rfl, hV, Or.inl ⟨fun q => i1_eq0.1 (h5.symm.trans y) q.2, rfl⟩⟩⟩
  have hk := Classical.not_not.1 (fun q => y (h5.trans (i1_eq0.2 q)))
  obtain ⟨K, hK, rfl⟩ := nat_of (by omega) hk.1 hk.2
  have key : ∀ d x, dep N.E N.root N.n x = d → Dm N.E N.root x V → K ≤ d → X (nI x) := by
    intro d
    induction d with
    | zero =>
      intro x hx hd hKd
      have hxn := hlt x hd.Rg
      refine hX _ ⟨vp_in_nI (by omega) (by decide), ?_⟩
      rw [clN (by omega), hT.1.dp_eq hd.Rg, hx, leN (by omega) (by omega)]
      exact ⟨fun _ => hJ _ ⟨V, rfl, hV, Or.inr ⟨hR, K, x, rfl, hK, rfl, hd, by omega⟩⟩, fun q => absurd (Nat.zero_le _) q⟩
    | succ d ih =>
      intro x hx hd hKd
      have hxn := hlt x hd.Rg
      have hdl := dep_n hlt hd.Rg
      refine hX _ ⟨vp_in_nI (by omega) (by decide), ?_⟩
      rw [clN (by omega), hT.1.dp_eq hd.Rg, hx, leN (by omega) (by omega)]
      refine ⟨fun q => hJ _ ⟨V, rfl, hV, Or.inr ⟨hR, K, x, rfl, hK, rfl, hd, by omega⟩⟩, fun q => ?_⟩
      have hne : x ≠ N.root := fun e => by rw [e, dep_root] at hx; omega
      obtain ⟨g, g1, g2, g3, g4, g5⟩ := hT.1.up hd.Rg hne
      rw [g1]
      exact ih g (by omega) (g2.1.2.trans hd) (by omega)
  exact key _ V rfl (Dm.refl hR) hK
def pr_X1_level (N : NetM) (wa wy un ga lo mo li kt wk wd : Int32) (f t w c o : Nat → Int32) (nd rt ex mn : Int32) (kp dp tw wt st : Nat → Int32) (tn tr tre tm ts v : Int32) : Prop := NetR N f t w c o nd rt ex mn ∧ TreR N.E N.root N.n kp dp tw tn tr tre
def ps_X1_level (N : NetM) (wa wy un ga lo mo li kt wk wd : Int32) (f t w c o : Nat → Int32) (nd rt ex mn : Int32) (kp dp tw wt st : Nat → Int32) (tn tr tre tm ts v : Int32) (r : Int32)  : Prop := IsSet r (fun n0 => Rd N.E N.root n0 ∧ nI (dep N.E N.root N.n n0) = v)
def wp_X1_level (wa wy un ga lo mo li kt wk wd : Int32) (f t w c o : Nat → Int32) (nd rt ex mn : Int32) (kp dp tw wt st : Nat → Int32) (tn tr tre tm ts v : Int32) (Q : Int32 → Prop) : Prop :=
  ∃ (N_3 : NetM), (pr_X1_bits_level N_3 wa wy un ga lo mo li kt wk wd f t w c o nd rt ex mn kp dp tw wt st tn tr tre tm ts v ∧ (∀ (r_3 : Int32), ps_X1_bits_level N_3 wa wy un ga lo mo li kt wk wd f t w c o nd rt ex mn kp dp tw wt st tn tr tre tm ts v r_3 → (Q r_3)))
theorem pf_X1_level (N : NetM) (wa wy un ga lo mo li kt wk wd : Int32) (f t w c o : Nat → Int32) (nd rt ex mn : Int32) (kp dp tw wt st : Nat → Int32) (tn tr tre tm ts v : Int32) (hp : pr_X1_level N wa wy un ga lo mo li kt wk wd f t w c o nd rt ex mn kp dp tw wt st tn tr tre tm ts v) : wp_X1_level wa wy un ga lo mo li kt wk wd f t w c o nd rt ex mn kp dp tw wt st tn tr tre tm ts v (ps_X1_level N wa wy un ga lo mo li kt wk wd f t w c o nd rt ex mn kp dp tw wt st tn tr tre tm ts v) := by
  obtain ⟨hN, hT⟩ := hp
  exact ⟨N, ⟨hN, hT⟩, fun r h => h.congr (fun x hx => ⟨fun q => q.2, fun q => ⟨hT.1.lt q.1, q⟩⟩)⟩
def pr_X1_via (N : NetM) (wa wy un ga lo mo li kt wk wd : Int32) (f t w c o : Nat → Int32) (nd rt ex mn : Int32) (kp dp tw wt st : Nat → Int32) (tn tr tre tm ts v u : Int32) : Prop := NetR N f t w c o nd rt ex mn ∧ TreR N.E N.root N.n kp dp tw tn tr tre
def ps_X1_via (N : NetM) (wa wy un ga lo mo li kt wk wd : Int32) (f t w c o : Nat → Int32) (nd rt ex mn : Int32) (kp dp tw wt st : Nat → Int32) (tn tr tre tm ts v u : Int32) (r : Int32)  : Prop := ∃ V, v = nI V ∧ V < N.n ∧ ∃ U, u = nI U ∧ U < N.n ∧ (ViaIs N V U r)
def px_X1_via (N : NetM) (wa wy un ga lo mo li kt wk wd : Int32) (f t w c o : Nat → Int32) (nd rt ex mn : Int32) (kp dp tw wt st : Nat → Int32) (tn tr tre tm ts v u : Int32) (E : String)  : Prop := ¬ ((0 ≤ v ∧ v < nI N.n) ∧ (0 ≤ u ∧ u < nI N.n)) ∧ E = "java/lang/IndexOutOfBoundsException"
def wp_X1_via (wa wy un ga lo mo li kt wk wd : Int32) (f t w c o : Nat → Int32) (nd rt ex mn : Int32) (kp dp tw wt st : Nat → Int32) (tn tr tre tm ts v u : Int32) (Q : Int32 → Prop) (QX : String → Prop) : Prop :=
  (∀ (E_1 : String), px_X1_isNode wa wy un ga lo mo li kt wk wd f t w c o nd rt ex mn kp dp tw wt st tn tr tre tm ts v E_1 → QX E_1) ∧ (ps_X1_isNode wa wy un ga lo mo li kt wk wd f t w c o nd rt ex mn kp dp tw wt st tn tr tre tm ts v → ((∀ (E_2 : String), px_X1_isNode wa wy un ga lo mo li kt wk wd f t w c o nd rt ex mn kp dp tw wt st tn tr tre tm ts u E_2 → QX E_2) ∧ (ps_X1_isNode wa wy un ga lo mo li kt wk wd f t w c o nd rt ex mn kp dp tw wt st tn tr tre tm ts u → (pr_X8_reach_N f t w c o nd rt ex mn v 0 ∧ (∀ (r_3 : Int32), ps_X8_reach_N f t w c o nd rt ex mn v 0 r_3 → (∀ (r_4 : Int32), ps_X1_has r_3 u r_4 → (((¬ r_4 = 0 → (∃ (N_8 : NetM) (V_8 U_8 : Nat), (pr_X1_bits_via N_8 V_8 U_8 wa wy un ga lo mo li kt wk wd f t w c o nd rt ex mn kp dp tw wt st tn tr tre tm ts v u ∧ (∀ (r_8 : Int32), ps_X1_bits_via N_8 V_8 U_8 wa wy un ga lo mo li kt wk wd f t w c o nd rt ex mn kp dp tw wt st tn tr tre tm ts v u r_8 → (Q r_8))))) ∧
 (r_4 = 0 → (Q (-1)))))))))))
theorem pf_X1_via (N : NetM) (wa wy un ga lo mo li kt wk wd : Int32) (f t w c o : Nat → Int32) (nd rt ex mn : Int32) (kp dp tw wt st : Nat → Int32) (tn tr tre tm ts v u : Int32) (hp : pr_X1_via N wa wy un ga lo mo li kt wk wd f t w c o nd rt ex mn kp dp tw wt st tn tr tre tm ts v u) : wp_X1_via wa wy un ga lo mo li kt wk wd f t w c o nd rt ex mn kp dp tw wt st tn tr tre tm ts v u (ps_X1_via N wa wy un ga lo mo li kt wk wd f t w c o nd rt ex mn kp dp tw wt st tn tr tre tm ts v u) (px_X1_via N wa wy un ga lo mo li kt wk wd f t w c o nd rt ex mn kp dp tw wt st tn tr tre tm ts v u) := by
  obtain ⟨hN, hT⟩ := hp
  have hn := hN.n16
  have e := hN.nd
  subst e
  refine ⟨fun E h => ⟨fun q => h.1 q.1, h.2⟩, fun h1 => ⟨fun E h => ⟨fun q => h.1 q.2, h.2⟩, fun h2 => ?_⟩⟩
  obtain ⟨V, hV, rfl⟩ := (of_in (by omega)).1 h1
  obtain ⟨U, hU, rfl⟩ := (of_in (by omega)).1 h2
  refine ⟨hN.rchP hV (by rw [b_0]; simp), fun r3 h3 r4 h4 => ?_⟩
  have hS := hN.rch hV bt_zero h3
  refine ⟨fun z => ⟨N, V, U, ⟨hN, hT, rfl, hV, rfl, hU⟩, fun r8 h8 => ⟨V, rfl, hV, U, rfl, hU, Or.inr ⟨has_p h4 hS (by omega) z, h8⟩⟩⟩, fun z => ⟨V, rfl, hV, U, rfl, hU, Or.inl ⟨has_z h4 hS (by omega) z, rfl⟩⟩⟩
def pr_X1_fall (N : NetM) (wa wy un ga lo mo li kt wk wd : Int32) (f t w c o : Nat → Int32) (nd rt ex mn : Int32) (kp dp tw wt st : Nat → Int32) (tn tr tre tm ts : Int32) (kp9 dp9 tw9 wt9 st9 : Nat → Int32) (tn9 tr9 tre9 tm9 ts9 k j : Int32) : Prop := NetR N f t w c o nd rt ex mn ∧ TreR N.E N.root N.n kp dp tw tn tr tre
def ps_X1_fall (N : NetM) (wa wy un ga lo mo li kt wk wd : Int32) (f t w c o : Nat → Int32) (nd rt ex mn : Int32) (kp dp tw wt st : Nat → Int32) (tn tr tre tm ts : Int32) (kp9 dp9 tw9 wt9 st9 : Nat → Int32) (tn9 tr9 tre9 tm9 ts9 k j : Int32) (r : Int32) (w' o' kp9' dp9' tw9' st9' : Nat → Int32) (tn9' tr9' tre9' : Int32) : Prop := NetR N f t w' c o' nd rt ex mn ∧ ∃ K, k = nI K ∧ K < N.m ∧ N.op K = true ∧ ∃ J, j = nI J ∧ J ≤ 2 ∧ FallIs N K J r
def px_X1_fall (N : NetM) (wa wy un ga lo mo li kt wk wd : Int32) (f t w c o : Nat → Int32) (nd rt ex mn : Int32) (kp dp tw wt st : Nat → Int32) (tn tr tre tm ts : Int32) (kp9 dp9 tw9 wt9 st9 : Nat → Int32) (tn9 tr9 tre9 tm9 ts9 k j : Int32) (E : String) (w' o' kp9' dp9' tw9' st9' : Nat → Int32) (tn9' tr9' tre9' : Int32) : Prop := w' = w ∧ o' = o ∧ ((¬ (0 ≤ k ∧ k < nI N.m) ∧ E = "java/lang/IndexOutOfBoundsException") ∨ ((0 ≤ k ∧ k < nI N.m) ∧ ¬ (0 ≤ j ∧ j ≤ 2) ∧ E = "java/util/NoSuchElementException") ∨ ((0 ≤ k ∧ k < nI N.m) ∧ (0 ≤ j ∧ j ≤ 2) ∧ (∃ K, k = nI K ∧ K < N.m ∧ N.op K = false) ∧ E = "java/lang/IllegalStateException"))
def wp_X1_fall (wa wy un ga lo mo li kt wk wd : Int32) (f t w c o : Nat → Int32) (nd rt ex mn : Int32) (kp dp tw wt st : Nat → Int32) (tn tr tre tm ts : Int32) (kp9 dp9 tw9 wt9 st9 : Nat → Int32) (tn9 tr9 tre9 tm9 ts9 k j : Int32) (Q : Int32 → (Nat → Int32) → (Nat → Int32) → (Nat → Int32) → (Nat → Int32) → (Nat → Int32) → (Nat → Int32) → Int32 → Int32 → Int32 → Prop) (QX : String → (Nat → Int32) → (Nat → Int32) → (Nat → Int32) → (Nat → Int32) → (Nat → Int32) → (Nat → Int32) → Int32 → Int32 → Int32 → Prop) : Prop :=
  ∀ (r_1 : Int32), ps_X3_isArc f t w c o nd rt ex mn k r_1 → ((∀ (E_2 : String), px_X1_mustBe r_1 E_2 → QX E_2 w o kp9 dp9 tw9 st9 tn9 tr9 tre9) ∧ (ps_X1_mustBe r_1 → (∀ (r_3 : Int32), ps_X1_isIn j 0 2 r_3 → ((∀ (E_4 : String), px_X1_thereIs r_3 E_4 → QX E_4 w o kp9 dp9 tw9 st9 tn9 tr9 tre9) ∧ (ps_X1_thereIs r_3 → (vp_in k 60 ∧ ((∀ (E_6 : String), px_X1_can (o k.toNatClampNeg) E_6 → QX E_6 w o kp9 dp9 tw9 st9 tn9 tr9 tre9) ∧ (ps_X1_can (o k.toNatClampNeg) → (∃ (N_7 : NetM) (K_7 : Nat), (pr_X1_shuts N_7 K_7 wa wy un ga lo mo li kt wk wd f t w c o nd rt ex mn kp dp tw wt st tn tr tre tm ts kp9 dp9 tw9 wt9 st9 tn9 tr9 tre9 tm9 ts9 k ∧ (∀ (w_7 o_7 kp9_7 dp9_7 tw9_7 st9_7 : Nat → Int32) (tn9_7 tr9_7 tre9_7 : Int32), ps_X1_shuts N_7 K_7 wa wy un ga lo mo li kt wk wd f t w c o nd rt ex mn kp dp tw wt st tn tr tre tm ts kp9 dp9 tw9 wt9 st9 tn9 tr9 tre9 tm9 ts9 k w_7 o_7 kp9_7 dp9_7 tw9_7 st9_7 tn9_7 tr9_7 tre9_7 → (((j = 0 → (Q (tre &&& (tre9_7 ^^^ (-1))) w_7 o_7 kp9_7 dp9_7 tw9_7 st9_7 tn9_7 tr9_7 tre9_7)) ∧
(j = 1 → (pr_X5_movedFrom kp9_7 dp9_7 tw9_7 wt9 st9_7 tn9_7 tr9_7 tre9_7 tm9 ts9 kp dp tw wt st tn tr tre tm ts ∧ (∀ (r_10 : Int32), ps_X5_movedFrom kp9_7 dp9_7 tw9_7 wt9 st9_7 tn9_7 tr9_7 tre9_7 tm9 ts9 kp dp tw wt st tn tr tre tm ts r_10 → (Q r_10 w_7 o_7 kp9_7 dp9_7 tw9_7 st9_7 tn9_7 tr9_7 tre9_7)))) ∧
(¬ j = 0 ∧ ¬ j = 1 → (pr_X5_liftFrom kp9_7 dp9_7 tw9_7 wt9 st9_7 tn9_7 tr9_7 tre9_7 tm9 ts9 kp dp tw wt st tn tr tre tm ts ∧ (∀ (r_11 : Int32), ps_X5_liftFrom kp9_7 dp9_7 tw9_7 wt9 st9_7 tn9_7 tr9_7 tre9_7 tm9 ts9 kp dp tw wt st tn tr tre tm ts r_11 → (Q r_11 w_7 o_7 kp9_7 dp9_7 tw9_7 st9_7 tn9_7 tr9_7 tre9_7)))))))))))))))))
theorem pf_X1_fall (N : NetM) (wa wy un ga lo mo li kt wk wd : Int32) (f t w c o : Nat → Int32) (nd rt ex mn : Int32) (kp dp tw wt st : Nat → Int32) (tn tr tre tm ts : Int32) (kp9 dp9 tw9 wt9 st9 : Nat → Int32) (tn9 tr9 tre9 tm9 ts9 k j : Int32) (hp : pr_X1_fall N wa wy un ga lo mo li kt wk wd f t w c o nd rt ex mn kp dp tw wt st tn tr tre tm ts kp9 dp9 tw9 wt9 st9 tn9 tr9 tre9 tm9 ts9 k j) : wp_X1_fall wa wy un ga lo mo li kt wk wd f t w c o nd rt ex mn kp dp tw wt st tn tr tre tm ts kp9 dp9 tw9 wt9 st9 tn9 tr9 tre9 tm9 ts9 k j (ps_X1_fall N wa wy un ga lo mo li kt wk wd f t w c o nd rt ex mn kp dp tw wt st tn tr tre tm ts kp9 dp9 tw9 wt9 st9 tn9 tr9 tre9 tm9 ts9 k j) (px_X1_fall N wa wy un ga lo mo li kt wk wd f t w c o nd rt ex mn kp dp tw wt st tn tr tre tm ts kp9 dp9 tw9 wt9 st9 tn9 tr9 tre9 tm9 ts9 k j) := by
  obtain ⟨hN, hT⟩ := hp
  have hm := hN.mn
  subst hm
  have h60 := hN.m60
  have hn := hN.n16
  refine fun r1 h1 => ?_
  have h1 : r1 = i1 (0 ≤ k ∧ k < nI N.m) := h1
  refine ⟨fun E h => ⟨rfl, rfl, Or.inl ⟨i1_eq0.1 (h1.symm.trans h.1), h.2⟩⟩, fun h2 => ?_⟩
  have hk := Classical.not_not.1 (fun q => h2 (h1.trans (i1_eq0.2 q)))
  refine fun r3 h3 => ?_
  have h3 : r3 = i1 (0 ≤ j ∧ j ≤ 2) := h3
  refine ⟨fun E h => ⟨rfl, rfl, Or.inr (Or.inl ⟨hk, i1_eq0.1 (h3.symm.trans h.1), h.2⟩)⟩, fun h4 => ?_⟩
  have hj := Classical.not_not.1 (fun q => h4 (h3.trans (i1_eq0.2 q)))
  obtain ⟨K, hK, rfl⟩ := (of_in (by omega)).1 hk
  rw [clN (k := K) (by omega)]
  refine ⟨vp_in_nI (by omega) (by decide), fun E h => ⟨rfl, rfl, Or.inr (Or.inr ⟨hk, hj, ⟨K, rfl, hK, ?_⟩, h.2⟩)⟩, fun h5 => ?_⟩
  · have := mt (hN.opn hK).2 (fun q => q h.1)
    simpa using this
  have hop := (hN.opn hK).1 h5
  obtain ⟨J, hJ, rfl⟩ := nat_of (n := 2) (by decide) hj.1 hj.2
  refine ⟨N, K, ⟨hN, hT, rfl, hK, hop⟩, fun w7 o7 kp7 dp7 tw7 st7 tn7 tr7 tre7 h7 => ?_⟩
  obtain ⟨hN7, hT7⟩ := h7
  have htn : tn7 ≤ 16 ∧ 0 ≤ tn7 := by
    rw [hT7.2.1]
    exact ⟨by rw [n16, leN (by omega) (by omega)]; omega, by rw [n0, leN (by omega) (by omega)]; omega⟩
  refine ⟨fun z => ⟨hN7, K, rfl, hK, hop, J, rfl, hJ, Or.inl ⟨(eqN (b := 0) (by omega) (by omega)).mp z, hT.2.2.2.2.andNot hT7.2.2.2.2⟩⟩, fun z => ⟨htn, fun r h => ⟨hN7, K, rfl, hK, hop, J, rfl, hJ, Or.inr (Or.inl ⟨(eqN (b := 1) (by omega) (by omega)).mp z, moved_eq hT hT7 h⟩)⟩⟩, fun z => ⟨htn, fun r h => ⟨hN7, K, rfl, hK, hop, J, rfl, hJ, Or.inr (Or.inr ⟨?_, Eq.trans h (lift_eq hT hT7)⟩)⟩⟩⟩
  have z1 : J ≠ 0 := fun q => z.1 (by rw [q]; rfl)
  have z2 : J ≠ 1 := fun q => z.2 (by rw [q]; rfl)
  omega
def pr_X1_row (N : NetM) (wa wy un ga lo mo li kt wk wd : Int32) (f t w c o : Nat → Int32) (nd rt ex mn : Int32) (kp dp tw wt st : Nat → Int32) (tn tr tre tm ts k : Int32) : Prop := NetR N f t w c o nd rt ex mn ∧ TreR N.E N.root N.n kp dp tw tn tr tre
def ps_X1_row (N : NetM) (wa wy un ga lo mo li kt wk wd : Int32) (f t w c o : Nat → Int32) (nd rt ex mn : Int32) (kp dp tw wt st : Nat → Int32) (tn tr tre tm ts k : Int32) (r : Int32)  : Prop := RowOf N k r
def wp_X1_row_L18 (wa wy un ga lo mo li kt wk wd : Int32) (f t w c o : Nat → Int32) (nd rt ex mn : Int32) (kp dp tw wt st : Nat → Int32) (tn tr tre tm ts k x3_125 : Int32) (J63 J75 : Int32 → Prop) (ix4_158 ix2_159 : Int32) : Prop :=
  ∀ X18 : Int32 → Int32 → Prop, (∀ (x4_158 : Int32) (x2_159 : Int32), (((nd ≤ x4_158 → (J75 x2_159)) ∧
 (¬ (nd ≤ x4_158) → (∀ (r_162 : Int32), ps_X1_has tre x4_158 r_162 → (((r_162 = 0 → (X18 (x4_158 + 1) x2_159)) ∧
 (¬ (r_162 = 0) → (∃ (N_164 : NetM) (V_164 : Nat), (pr_X1_nearOf N_164 V_164 wa wy un ga lo mo li kt wk wd f t w c o nd rt ex mn kp dp tw wt st tn tr tre tm ts x4_158 ∧ (∀ (r_164 : Int32), ps_X1_nearOf N_164 V_164 wa wy un ga lo mo li kt wk wd f t w c o nd rt ex mn kp dp tw wt st tn tr tre tm ts x4_158 r_164 → (((r_164 = x3_125 → ((¬ x2_159 = k → (X18 (x4_158 + 1) (x2_159 + 1))) ∧
 (x2_159 = k → (J63 x4_158)))) ∧
 (¬ (r_164 = x3_125) → (X18 (x4_158 + 1) x2_159)))))))))))))) → X18 x4_158 x2_159) → X18 ix4_158 ix2_159
def wp_X1_row_L4 (wa wy un ga lo mo li kt wk wd : Int32) (f t w c o : Nat → Int32) (nd rt ex mn : Int32) (kp dp tw wt st : Nat → Int32) (tn tr tre tm ts k : Int32) (Q : Int32 → Prop) (J81 : Prop) (ix3_125 ix2_126 : Int32) : Prop :=
  ∀ X4 : Int32 → Int32 → Prop, (∀ (x3_125 : Int32) (x2_126 : Int32), (((nd ≤ x3_125 → (J81)) ∧
 (¬ (nd ≤ x3_125) → (∀ J63 : Int32 → Prop, (∀ (x4_154 : Int32), (Q x4_154) → J63 x4_154) →
∀ J75 : Int32 → Prop, (∀ (x2_155 : Int32), (X4 (x3_125 + 1) x2_155) → J75 x2_155) →
wp_X1_row_L18 wa wy un ga lo mo li kt wk wd f t w c o nd rt ex mn kp dp tw wt st tn tr tre tm ts k x3_125 J63 J75 0 x2_126)))) → X4 x3_125 x2_126) → X4 ix3_125 ix2_126
def wp_X1_row (wa wy un ga lo mo li kt wk wd : Int32) (f t w c o : Nat → Int32) (nd rt ex mn : Int32) (kp dp tw wt st : Nat → Int32) (tn tr tre tm ts k : Int32) (Q : Int32 → Prop) : Prop :=
  ∀ J81 : Prop, ((Q (-1)) → J81) →
wp_X1_row_L4 wa wy un ga lo mo li kt wk wd f t w c o nd rt ex mn kp dp tw wt st tn tr tre tm ts k Q J81 0 0
theorem pf_X1_row (N : NetM) (wa wy un ga lo mo li kt wk wd : Int32) (f t w c o : Nat → Int32) (nd rt ex mn : Int32) (kp dp tw wt st : Nat → Int32) (tn tr tre tm ts k : Int32) (hp : pr_X1_row N wa wy un ga lo mo li kt wk wd f t w c o nd rt ex mn kp dp tw wt st tn tr tre tm ts k) : wp_X1_row wa wy un ga lo mo li kt wk wd f t w c o nd rt ex mn kp dp tw wt st tn tr tre tm ts k (ps_X1_row N wa wy un ga lo mo li kt wk wd f t w c o nd rt ex mn kp dp tw wt st tn tr tre tm ts k) := by
  obtain ⟨hN, hT⟩ := hp
  have hn := hN.n16
  have e := hN.nd
  subst e
  have hr0 := hN.1.2.2.1
  have hE : ∀ a b, N.E a b → b < N.n := fun a b e => (NetM.E_lt hN.1 e).2
  refine fun J81 hJ81 X hX => ?_
  refine up1 N.n (fun d many => many = nI (cnt N.n (RowB N d 0)) ∧ ∀ y e, y < N.n → NearD N y e → e < d → ¬ k = nI (cnt N.n (RowB N e y))) (fun d many hd hI hh => hX _ _ ⟨fun q => absurd q (by rw [leN (by omega) (by omega)]; omega), fun _ J63 hJ63 J75 hJ75 X2 hX2 => ?_⟩) (fun many hI => hX _ _ ⟨fun _ => hJ81 (Or.inr ⟨fun x d hx hd => hI.2 x d hx hd ?_, rfl⟩), fun q => absurd (Int32.le_refl _) q⟩) 0 _ (Nat.zero_le _) ⟨?_, fun y e _ _ q => absurd q (by omega)⟩
  · refine up1 N.n (fun x many => many = nI (cnt N.n (RowB N d x)) ∧ ∀ y e, y < N.n → NearD N y e → (e < d ∨ (e = d ∧ y < x)) → ¬ k = nI (cnt N.n (RowB N e y))) (fun x many hx hI hh => hX2 _ _ ⟨fun q => absurd q (by rw [leN (by omega) (by omega)]; omega), fun _ r2 h2 => ?_⟩) (fun many hI => hX2 _ _ ⟨fun _ => hJ75 _ (hh _ ⟨?_, fun y e hy he q => hI.2 y e hy he (by omega)⟩), fun q => absurd (Int32.le_refl _) q⟩) 0 many (Nat.zero_le _) ⟨hI.1, fun y e hy he q => hI.2 y e hy he (by omega)⟩
    · have no : ¬ NearD N x d → X2 (nI x + 1) many := fun q => hh _ ⟨by rw [hI.1]; exact congrArg nI (cnt_congr (fun y hy => ⟨fun ⟨e, e1, e2⟩ => ⟨e, e1, by omega⟩, fun ⟨e, e1, e2⟩ => ⟨e, e1, by
          by_cases z : y = x
          · subst z
            have : e ≠ d := fun q2 => q (q2 ▸ e1)
            omega
          · omega⟩⟩)), fun y e hy he z => by
          by_cases z2 : y = x
          · subst z2
            have : e ≠ d := fun q2 => q (q2 ▸ he)
            exact hI.2 y e hy he (by omega)
          · exact hI.2 y e hy he (by omega)⟩
      refine ⟨fun z => no (fun q => has_z h2 hT.2.2.2.2 (by omega) z (Lv.rd _ _ q.1)), fun z => ⟨N, x, ⟨hN, hT, rfl, hx⟩, fun r4 h4 => ⟨fun y => ?_, fun y => no (fun q => y ((NearIs.at (by omega) h4).2 q))⟩⟩⟩
      have hND := (NearIs.at (by omega) h4).1 y
      refine ⟨fun y2 => hh _ ⟨?_, fun u e hu he z2 => ?_⟩, fun y2 => hJ63 _ (Or.inl ⟨x, d, hx, hND, y2.symm.trans hI.1, rfl⟩)⟩
      · rw [hI.1, nI_1]
        refine congrArg nI (cnt_add hx ?_ ?_).symm
        · rintro ⟨e, e1, e2⟩
          have := NearD.uniq e1 hND
          omega
        · intro u hu
          constructor
          · rintro ⟨e, e1, e2⟩
            by_cases z2 : u = x
            · exact Or.inr z2
            · exact Or.inl ⟨e, e1, by omega⟩
          · rintro (⟨e, e1, e2⟩ | z2)
            · exact ⟨e, e1, by omega⟩
            · subst z2; exact ⟨d, hND, by omega⟩
      · by_cases z3 : u = x
        · subst z3
          have := NearD.uniq he hND
          subst this
          exact fun q => y2 (hI.1.trans q.symm)
        · exact hI.2 u e hu he (by omega)
    · rw [hI.1]
      refine congrArg nI (cnt_congr (fun y hy => ⟨fun ⟨e, e1, e2⟩ => ⟨e, e1, by omega⟩, fun ⟨e, e1, e2⟩ => ⟨e, e1, by omega⟩⟩))
  · obtain ⟨j, j1, j2⟩ := Lv.few hr0 hE hd.1
    rcases Nat.lt_or_ge j d with q | q
    · exact absurd j2 (hd.2 j q)
    · omega
  · have : cnt N.n (RowB N 0 0) = 0 := cnt_0 (fun y hy ⟨e, e1, e2⟩ => by omega)
    rw [this]; rfl
def pr_X1_worst (N : NetM) (wa wy un ga lo mo li kt wk wd : Int32) (f t w c o : Nat → Int32) (nd rt ex mn : Int32) (kp dp tw wt st : Nat → Int32) (tn tr tre tm ts j : Int32) : Prop := NetR N f t w c o nd rt ex mn ∧ TreR N.E N.root N.n kp dp tw tn tr tre
def ps_X1_worst (N : NetM) (wa wy un ga lo mo li kt wk wd : Int32) (f t w c o : Nat → Int32) (nd rt ex mn : Int32) (kp dp tw wt st : Nat → Int32) (tn tr tre tm ts j : Int32) (r : Int32) (w' o' : Nat → Int32) : Prop := NetR N f t w' c o' nd rt ex mn ∧ ∃ J, j = nI J ∧ J ≤ 1 ∧ WorstIs N J r
def px_X1_worst (N : NetM) (wa wy un ga lo mo li kt wk wd : Int32) (f t w c o : Nat → Int32) (nd rt ex mn : Int32) (kp dp tw wt st : Nat → Int32) (tn tr tre tm ts j : Int32) (E : String) (w' o' : Nat → Int32) : Prop := w' = w ∧ o' = o ∧ ¬ (0 ≤ j ∧ j ≤ 1) ∧ E = "java/util/NoSuchElementException"
def wp_X1_worst_L16 (f t c : Nat → Int32) (nd rt ex mn tre : Int32) (J90 : Int32 → Int32 → (Nat → Int32) → (Nat → Int32) → Prop) (ix4_60 ix3_61 ix2_62 : Int32) (ia_63 ia_64 : Nat → Int32) : Prop :=
  ∀ X16 : Int32 → Int32 → Int32 → (Nat → Int32) → (Nat → Int32) → Prop, (∀ (x4_60 : Int32) (x3_61 : Int32) (x2_62 : Int32) (a_63 : Nat → Int32) (a_64 : Nat → Int32), (((mn ≤ x4_60 → (J90 x3_61 x2_62 a_63 a_64)) ∧
 (¬ (mn ≤ x4_60) → (vp_in x4_60 60 ∧ (∀ J67 : Int32 → (Nat → Int32) → (Nat → Int32) → Prop, (∀ (t_71 : Int32) (a_72 : Nat → Int32) (a_73 : Nat → Int32), (((x2_62 < t_71 → (X16 (x4_60 + 1) x4_60 t_71 a_72 a_73)) ∧
 (¬ (x2_62 < t_71) → (X16 (x4_60 + 1) x3_61 x2_62 a_72 a_73)))) → J67 t_71 a_72 a_73) →
(((a_64 x4_60.toNatClampNeg) = 0 → (J67 0 a_63 a_64)) ∧
 (¬ ((a_64 x4_60.toNatClampNeg) = 0) → (pr_X3_reachedBut f t a_63 c a_64 nd rt ex mn x4_60 ∧ (∀ (r_77 : Int32) (w_77 o_77 : Nat → Int32), ps_X3_reachedBut f t a_63 c a_64 nd rt ex mn x4_60 r_77 w_77 o_77 → (pr_J7_bitCount (tre &&& (r_77 ^^^ (-1))) ∧ (∀ (r_78 : Int32), ps_J7_bitCount (tre &&& (r_77 ^^^ (-1))) r_78 → (J67 r_78 w_77 o_77)))))))))))) → X16 x4_60 x3_61 x2_62 a_63 a_64) → X16 ix4_60 ix3_61 ix2_62 ia_63 ia_64
def wp_X1_worst (wa wy un ga lo mo li kt wk wd : Int32) (f t w c o : Nat → Int32) (nd rt ex mn : Int32) (kp dp tw wt st : Nat → Int32) (tn tr tre tm ts j : Int32) (Q : Int32 → (Nat → Int32) → (Nat → Int32) → Prop) (QX : String → (Nat → Int32) → (Nat → Int32) → Prop) : Prop :=
  ∀ (r_1 : Int32), ps_X1_isIn j 0 1 r_1 → ((∀ (E_2 : String), px_X1_thereIs r_1 E_2 → QX E_2 w o) ∧ (ps_X1_thereIs r_1 → (∀ J90 : Int32 → Int32 → (Nat → Int32) → (Nat → Int32) → Prop, (∀ (x3_54 : Int32) (x2_55 : Int32) (a_56 : Nat → Int32) (a_57 : Nat → Int32), (((¬ j = 0 → (Q x2_55 a_56 a_57)) ∧
 (j = 0 → (Q x3_54 a_56 a_57)))) → J90 x3_54 x2_55 a_56 a_57) →
wp_X1_worst_L16 f t c nd rt ex mn tre J90 0 (-1) 0 w o)))
theorem pf_X1_worst (N : NetM) (wa wy un ga lo mo li kt wk wd : Int32) (f t w c o : Nat → Int32) (nd rt ex mn : Int32) (kp dp tw wt st : Nat → Int32) (tn tr tre tm ts j : Int32) (hp : pr_X1_worst N wa wy un ga lo mo li kt wk wd f t w c o nd rt ex mn kp dp tw wt st tn tr tre tm ts j) : wp_X1_worst wa wy un ga lo mo li kt wk wd f t w c o nd rt ex mn kp dp tw wt st tn tr tre tm ts j (ps_X1_worst N wa wy un ga lo mo li kt wk wd f t w c o nd rt ex mn kp dp tw wt st tn tr tre tm ts j) (px_X1_worst N wa wy un ga lo mo li kt wk wd f t w c o nd rt ex mn kp dp tw wt st tn tr tre tm ts j) := by
  obtain ⟨hN, hT⟩ := hp
  have hm := hN.mn
  subst hm
  have h60 := hN.m60
  have hn := hN.n16
  refine fun r1 h1 => ?_
  have h1 : r1 = i1 (0 ≤ j ∧ j ≤ 1) := h1
  refine ⟨fun E h => ⟨rfl, rfl, i1_eq0.1 (h1.symm.trans h.1), h.2⟩, fun h2 => ?_⟩
  have hj := Classical.not_not.1 (fun q => h2 (h1.trans (i1_eq0.2 q)))
  obtain ⟨J, hJ, rfl⟩ := nat_of (n := 1) (by decide) hj.1 hj.2
  intro J90 hJ90 X hX
  refine up1 (T := Int32 × Int32 × (Nat → Int32) × (Nat → Int32)) (X := fun i p => X i p.1 p.2.1 p.2.2.1 p.2.2.2) N.m (fun k p => FstMax k (fun _ => True) (fun k => nI (lossN N k)) p.1 p.2.1 ∧ NetR N f t p.2.2.1 c p.2.2.2 nd rt ex (nI N.m)) (fun k p hk hI hh => ?_) (fun p hI => hX _ _ _ _ _ ⟨fun _ => hJ90 _ _ _ _ ⟨fun z => ⟨hI.2, J, rfl, hJ, _, _, hI.1, Or.inr ⟨?_, rfl⟩⟩, fun z => ⟨hI.2, J, rfl, hJ, _, _, hI.1, Or.inl ⟨(eqN (b := 0) (by omega) (by omega)).mp z, rfl⟩⟩⟩, fun q => absurd (Int32.le_refl _) q⟩) 0 ((-1), 0, w, o) (Nat.zero_le _) ⟨FstMax.zero, hN⟩
  · obtain ⟨fo, mo, w2, o2⟩ := p
    obtain ⟨i1', i2'⟩ := hI
    dsimp only at i1' i2' hh ⊢
    refine hX _ _ _ _ _ ⟨fun q => absurd q (by rw [leN (by omega) (by omega)]; omega), fun _ => ⟨vp_in_nI (by omega) (by decide), fun J67 hJ67 => ?_⟩⟩
    rw [clN (by omega)]
    have fin : ∀ w3 o3, NetR N f t w3 c o3 nd rt ex (nI N.m) → J67 (nI (lossN N k)) w3 o3 := fun w3 o3 h3 => hJ67 _ _ _ ⟨fun z => hh (_, _, w3, o3) ⟨i1'.gt trivial z, h3⟩, fun z => hh (_, _, w3, o3) ⟨i1'.le z, h3⟩⟩
    refine ⟨fun z => ?_, fun z => ⟨⟨N, k, i2', rfl, hk, (i2'.opn hk).1 z⟩, fun r7 w7 o7 h7 => ?_⟩⟩
    · have : lossN N k = 0 := if_neg (fun q => (i2'.opn hk).2 q z)
      have h9 := fin _ _ i2'
      rwa [this] at h9
    · have hop := (i2'.opn hk).1 z
      obtain ⟨g1, g2⟩ := h7 N k i2' rfl hop hk
      have hs := hT.2.2.2.2.andNot g2
      refine ⟨B16.of hs, fun r8 h8 => ?_⟩
      have h8 : r8 = nI (pc (tre &&& (r7 ^^^ (-1)))) := h8
      rw [h8, pc_set hs]
      have : lossN N k = cnt 16 (fun x => Rd N.E N.root x ∧ ¬ Rd (N.Eb k) N.root x) := if_pos hop
      rw [← this]
      exact fin _ _ g1
  · have z1 : J ≠ 0 := fun q => z (by rw [q]; rfl)
    omega
def pr_X1_would (N : NetM) (wa wy un ga lo mo li kt wk wd : Int32) (f t w c o : Nat → Int32) (nd rt ex mn : Int32) (kp dp tw wt st : Nat → Int32) (tn tr tre tm ts : Int32) (kp9 dp9 tw9 wt9 st9 : Nat → Int32) (tn9 tr9 tre9 tm9 ts9 v u j : Int32) : Prop := NetR N f t w c o nd rt ex mn ∧ TreR N.E N.root N.n kp dp tw tn tr tre
def ps_X1_would (N : NetM) (wa wy un ga lo mo li kt wk wd : Int32) (f t w c o : Nat → Int32) (nd rt ex mn : Int32) (kp dp tw wt st : Nat → Int32) (tn tr tre tm ts : Int32) (kp9 dp9 tw9 wt9 st9 : Nat → Int32) (tn9 tr9 tre9 tm9 ts9 v u j : Int32) (r : Int32) (kp9' dp9' tw9' wt9' st9' : Nat → Int32) (tn9' tr9' tre9' tm9' ts9' : Int32) : Prop := ∃ V, v = nI V ∧ V < N.n ∧ ∃ U, u = nI U ∧ U < N.n ∧ (∃ J, j = nI J ∧ J ≤ 2 ∧ WouldIs N V U J r)
def px_X1_would (N : NetM) (wa wy un ga lo mo li kt wk wd : Int32) (f t w c o : Nat → Int32) (nd rt ex mn : Int32) (kp dp tw wt st : Nat → Int32) (tn tr tre tm ts : Int32) (kp9 dp9 tw9 wt9 st9 : Nat → Int32) (tn9 tr9 tre9 tm9 ts9 v u j : Int32) (E : String) (kp9' dp9' tw9' wt9' st9' : Nat → Int32) (tn9' tr9' tre9' tm9' ts9' : Int32) : Prop := (¬ ((0 ≤ v ∧ v < nI N.n) ∧ (0 ≤ u ∧ u < nI N.n)) ∧ E = "java/lang/IndexOutOfBoundsException") ∨ (((0 ≤ v ∧ v < nI N.n) ∧ (0 ≤ u ∧ u < nI N.n)) ∧ ¬ (0 ≤ j ∧ j ≤ 2) ∧ E = "java/util/NoSuchElementException")
def wp_X1_would (wa wy un ga lo mo li kt wk wd : Int32) (f t w c o : Nat → Int32) (nd rt ex mn : Int32) (kp dp tw wt st : Nat → Int32) (tn tr tre tm ts : Int32) (kp9 dp9 tw9 wt9 st9 : Nat → Int32) (tn9 tr9 tre9 tm9 ts9 v u j : Int32) (Q : Int32 → (Nat → Int32) → (Nat → Int32) → (Nat → Int32) → (Nat → Int32) → (Nat → Int32) → Int32 → Int32 → Int32 → Int32 → Int32 → Prop) (QX : String → (Nat → Int32) → (Nat → Int32) → (Nat → Int32) → (Nat → Int32) → (Nat → Int32) → Int32 → Int32 → Int32 → Int32 → Int32 → Prop) : Prop :=
  (∀ (E_1 : String), px_X1_isNode wa wy un ga lo mo li kt wk wd f t w c o nd rt ex mn kp dp tw wt st tn tr tre tm ts v E_1 → QX E_1 kp9 dp9 tw9 wt9 st9 tn9 tr9 tre9 tm9 ts9) ∧ (ps_X1_isNode wa wy un ga lo mo li kt wk wd f t w c o nd rt ex mn kp dp tw wt st tn tr tre tm ts v → ((∀ (E_2 : String), px_X1_isNode wa wy un ga lo mo li kt wk wd f t w c o nd rt ex mn kp dp tw wt st tn tr tre tm ts u E_2 → QX E_2 kp9 dp9 tw9 wt9 st9 tn9 tr9 tre9 tm9 ts9) ∧ (ps_X1_isNode wa wy un ga lo mo li kt wk wd f t w c o nd rt ex mn kp dp tw wt st tn tr tre tm ts u → (∀ (r_3 : Int32), ps_X1_isIn j 0 2 r_3 → ((∀ (E_4 : String), px_X1_thereIs r_3 E_4 → QX E_4 kp9 dp9 tw9 wt9 st9 tn9 tr9 tre9 tm9 ts9) ∧ (ps_X1_thereIs r_3 → (∃ (N_5 : NetM) (A_5 B_5 : Nat), (pr_X1_tries N_5 A_5 B_5 wa wy un ga lo mo li kt wk wd f t w c o nd rt ex mn kp dp tw wt st tn tr tre tm ts kp9 dp9 tw9 wt9 st9 tn9 tr9 tre9 tm9 ts9 v u ∧ (∀ (kp9_5 dp9_5 tw9_5 wt9_5 st9_5 : Nat → Int32) (tn9_5 tr9_5 tre9_5 tm9_5 ts9_5 : Int32), ps_X1_tries N_5 A_5 B_5 wa wy un ga lo mo li kt wk wd f t w c o nd rt ex mn kp dp tw wt st tn tr tre tm ts kp9 dp9 tw9 wt9 st9 tn9 tr9 tre9 tm9 ts9 v u kp9_5 dp9_5 tw9_5 wt9_5 st9_5 tn9_5 tr9_5 tre9_5 tm9_5 ts9_5 → (((j = 0 → (Q (tre9_5 &&& (tre ^^^ (-1))) kp9_5 dp9_5 tw9_5 wt9_5 st9_5 tn9_5 tr9_5 tre9_5 tm9_5 ts9_5)) ∧
(j = 1 → (pr_X5_movedFrom kp9_5 dp9_5 tw9_5 wt9_5 st9_5 tn9_5 tr9_5 tre9_5 tm9_5 ts9_5 kp dp tw wt st tn tr tre tm ts ∧ (∀ (r_8 : Int32), ps_X5_movedFrom kp9_5 dp9_5 tw9_5 wt9_5 st9_5 tn9_5 tr9_5 tre9_5 tm9_5 ts9_5 kp dp tw wt st tn tr tre tm ts r_8 → (Q r_8 kp9_5 dp9_5 tw9_5 wt9_5 st9_5 tn9_5 tr9_5 tre9_5 tm9_5 ts9_5)))) ∧
(¬ j = 0 ∧ ¬ j = 1 → (pr_X5_liftFrom kp9_5 dp9_5 tw9_5 wt9_5 st9_5 tn9_5 tr9_5 tre9_5 tm9_5 ts9_5 kp dp tw wt st tn tr tre tm ts ∧ (∀ (r_9 : Int32), ps_X5_liftFrom kp9_5 dp9_5 tw9_5 wt9_5 st9_5 tn9_5 tr9_5 tre9_5 tm9_5 ts9_5 kp dp tw wt st tn tr tre tm ts r_9 → (Q r_9 kp9_5 dp9_5 tw9_5 wt9_5 st9_5 tn9_5 tr9_5 tre9_5 tm9_5 ts9_5)))))))))))))))
theorem pf_X1_would (N : NetM) (wa wy un ga lo mo li kt wk wd : Int32) (f t w c o : Nat → Int32) (nd rt ex mn : Int32) (kp dp tw wt st : Nat → Int32) (tn tr tre tm ts : Int32) (kp9 dp9 tw9 wt9 st9 : Nat → Int32) (tn9 tr9 tre9 tm9 ts9 v u j : Int32) (hp : pr_X1_would N wa wy un ga lo mo li kt wk wd f t w c o nd rt ex mn kp dp tw wt st tn tr tre tm ts kp9 dp9 tw9 wt9 st9 tn9 tr9 tre9 tm9 ts9 v u j) : wp_X1_would wa wy un ga lo mo li kt wk wd f t w c o nd rt ex mn kp dp tw wt st tn tr tre tm ts kp9 dp9 tw9 wt9 st9 tn9 tr9 tre9 tm9 ts9 v u j (ps_X1_would N wa wy un ga lo mo li kt wk wd f t w c o nd rt ex mn kp dp tw wt st tn tr tre tm ts kp9 dp9 tw9 wt9 st9 tn9 tr9 tre9 tm9 ts9 v u j) (px_X1_would N wa wy un ga lo mo li kt wk wd f t w c o nd rt ex mn kp dp tw wt st tn tr tre tm ts kp9 dp9 tw9 wt9 st9 tn9 tr9 tre9 tm9 ts9 v u j) := by
  obtain ⟨hN, hT⟩ := hp
  have hn := hN.n16
  have e := hN.nd
  subst e
  refine ⟨fun E h => Or.inl ⟨fun q => h.1 q.1, h.2⟩, fun h1 => ⟨fun E h => Or.inl ⟨fun q => h.1 q.2, h.2⟩, fun h2 => fun r3 h3 => ?_⟩⟩
  have h3 : r3 = i1 (0 ≤ j ∧ j ≤ 2) := h3
  refine ⟨fun E h => Or.inr ⟨⟨h1, h2⟩, i1_eq0.1 (h3.symm.trans h.1), h.2⟩, fun h4 => ?_⟩
  have hj := Classical.not_not.1 (fun q => h4 (h3.trans (i1_eq0.2 q)))
  obtain ⟨V, hV, rfl⟩ := (of_in (by omega)).1 h1
  obtain ⟨U, hU, rfl⟩ := (of_in (by omega)).1 h2
  obtain ⟨J, hJ, rfl⟩ := nat_of (n := 2) (by decide) hj.1 hj.2
  refine ⟨N, V, U, ⟨hN, hT, rfl, hV, rfl, hU⟩, fun kp7 dp7 tw7 wt7 st7 tn7 tr7 tre7 tm7 ts7 hT7 => ?_⟩
  have hT7 : TreR (Ins N.E V U) N.root N.n kp7 dp7 tw7 tn7 tr7 tre7 := hT7
  have htn : tn7 ≤ 16 ∧ 0 ≤ tn7 := by
    rw [hT7.2.1]
    exact ⟨by rw [n16, leN (by omega) (by omega)]; omega, by rw [n0, leN (by omega) (by omega)]; omega⟩
  refine ⟨fun z => ⟨V, rfl, hV, U, rfl, hU, J, rfl, hJ, Or.inl ⟨(eqN (b := 0) (by omega) (by omega)).mp z, hT7.2.2.2.2.andNot hT.2.2.2.2⟩⟩, fun z => ⟨htn, fun r h => ⟨V, rfl, hV, U, rfl, hU, J, rfl, hJ, Or.inr (Or.inl ⟨(eqN (b := 1) (by omega) (by omega)).mp z, moved_eq hT hT7 h⟩)⟩⟩, fun z => ⟨htn, fun r h => ⟨V, rfl, hV, U, rfl, hU, J, rfl, hJ, Or.inr (Or.inr ⟨?_, Eq.trans h (lift_eq hT hT7)⟩)⟩⟩⟩
  have z1 : J ≠ 0 := fun q => z.1 (by rw [q]; rfl)
  have z2 : J ≠ 1 := fun q => z.2 (by rw [q]; rfl)
  omega
def pr_X1_best (N : NetM) (wa wy un ga lo mo li kt wk wd : Int32) (f t w c o : Nat → Int32) (nd rt ex mn : Int32) (kp dp tw wt st : Nat → Int32) (tn tr tre tm ts : Int32) (kp9 dp9 tw9 wt9 st9 : Nat → Int32) (tn9 tr9 tre9 tm9 ts9 j : Int32) : Prop := NetR N f t w c o nd rt ex mn ∧ TreR N.E N.root N.n kp dp tw tn tr tre
def ps_X1_best (N : NetM) (wa wy un ga lo mo li kt wk wd : Int32) (f t w c o : Nat → Int32) (nd rt ex mn : Int32) (kp dp tw wt st : Nat → Int32) (tn tr tre tm ts : Int32) (kp9 dp9 tw9 wt9 st9 : Nat → Int32) (tn9 tr9 tre9 tm9 ts9 j : Int32) (r : Int32) (kp9' dp9' tw9' wt9' st9' : Nat → Int32) (tn9' tr9' tre9' tm9' ts9' : Int32) : Prop := ∃ J, j = nI J ∧ J ≤ 2 ∧ BestIs N J r
def px_X1_best (N : NetM) (wa wy un ga lo mo li kt wk wd : Int32) (f t w c o : Nat → Int32) (nd rt ex mn : Int32) (kp dp tw wt st : Nat → Int32) (tn tr tre tm ts : Int32) (kp9 dp9 tw9 wt9 st9 : Nat → Int32) (tn9 tr9 tre9 tm9 ts9 j : Int32) (E : String) (kp9' dp9' tw9' wt9' st9' : Nat → Int32) (tn9' tr9' tre9' tm9' ts9' : Int32) : Prop := ¬ (0 ≤ j ∧ j ≤ 2) ∧ E = "java/util/NoSuchElementException"
def wp_X1_best_L16 (wa wy un ga lo mo li kt wk wd : Int32) (f t w c o : Nat → Int32) (nd rt ex mn : Int32) (kp dp tw wt st : Nat → Int32) (tn tr tre tm ts : Int32) (J97 : Int32 → Int32 → Int32 → Int32 → Int32 → Int32 → Int32 → (Nat → Int32) → (Nat → Int32) → (Nat → Int32) → (Nat → Int32) → (Nat → Int32) → Nat → Nat → Prop) (ix4_69 ix3_70 ix2_71 inodes_72 iroot_73 ireached_74 imoved_75 iseen_76 : Int32) (ia_77 ia_78 ia_79 ia_80 ia_81 : Nat → Int32) (ikc_82 iks_83 : Nat) : Prop :=
  ∀ X16 : Int32 → Int32 → Int32 → Int32 → Int32 → Int32 → Int32 → Int32 → (Nat → Int32) → (Nat → Int32) → (Nat → Int32) → (Nat → Int32) → (Nat → Int32) → Nat → Nat → Prop, (∀ (x4_69 : Int32) (x3_70 : Int32) (x2_71 : Int32) (nodes_72 : Int32) (root_73 : Int32) (reached_74 : Int32) (moved_75 : Int32) (seen_76 : Int32) (a_77 : Nat → Int32) (a_78 : Nat → Int32) (a_79 : Nat → Int32) (a_80 : Nat → Int32) (a_81 : Nat → Int32) (kc_82 : Nat) (ks_83 : Nat), ((((16 * nd) ≤ x4_69 → (J97 x3_70 x2_71 nodes_72 root_73 reached_74 moved_75 seen_76 a_77 a_78 a_79 a_80 a_81 kc_82 ks_83)) ∧
 (¬ ((16 * nd) ≤ x4_69) → (((x4_69 - x4_69 / 16 * 16) < nd → ((kc_82 + 1 ≤ 257 ∧ ks_83 + 16 ≤ 4102) ∧ (∃ (N_87 : NetM) (A_87 B_87 : Nat), (pr_X1_tries N_87 A_87 B_87 wa wy un ga lo mo li kt wk wd f t w c o nd rt ex mn kp dp tw wt st tn tr tre tm ts a_77 a_78 a_79 a_80 a_81 nodes_72 root_73 reached_74 moved_75 seen_76 (x4_69 / 16) (x4_69 - x4_69 / 16 * 16) ∧ (∀ (kp9_87 dp9_87 tw9_87 wt9_87 st9_87 : Nat → Int32) (tn9_87 tr9_87 tre9_87 tm9_87 ts9_87 : Int32), ps_X1_tries N_87 A_87 B_87 wa wy un ga lo mo li kt wk wd f t w c o nd rt ex mn kp dp tw wt st tn tr tre tm ts a_77 a_78 a_79 a_80 a_81 nodes_72 root_73 reached_74 moved_75 seen_76 (x4_69 / 16) (x4_69 - x4_69 / 16 * 16) kp9_87 dp9_87 tw9_87 wt9_87 st9_87 tn9_87 tr9_87 tre9_87 tm9_87 ts9_87 → ((kc_82 + 1 ≤ 257 ∧ ks_83 + 16 ≤ 4102) ∧ (pr_X5_liftFrom kp9_87 dp9_87 tw9_87 wt9_87 st9_87 tn9_87 tr9_87 tre9_87 tm9_87 ts9_87 kp dp tw wt st tn tr tre tm ts ∧ (∀ (r_88 : Int32), ps_X5_liftFrom kp9_87 dp9_87 tw9_87 wt9_87 st9_87 tn9_87 tr9_87 tre9_87 tm9_87 ts9_87 kp dp tw wt st tn tr tre tm ts r_88 → (((x2_71 < r_88 → (X16 (x4_69 + 1) x4_69 r_88 tn9_87 tr9_87 tre9_87 tm9_87 ts9_87 kp9_87 dp9_87 tw9_87 wt9_87 st9_87 (kc_82 + 1) (ks_83 + 16))) ∧
 (¬ (x2_71 < r_88) → (X16 (x4_69 + 1) x3_70 x2_71 tn9_87 tr9_87 tre9_87 tm9_87 ts9_87 kp9_87 dp9_87 tw9_87 wt9_87 st9_87 (kc_82 + 1) (ks_83 + 16))))))))))))) ∧
 (¬ ((x4_69 - x4_69 / 16 * 16) < nd) → (X16 (x4_69 + 1) x3_70 x2_71 nodes_72 root_73 reached_74 moved_75 seen_76 a_77 a_78 a_79 a_80 a_81 kc_82 ks_83)))))) → X16 x4_69 x3_70 x2_71 nodes_72 root_73 reached_74 moved_75 seen_76 a_77 a_78 a_79 a_80 a_81 kc_82 ks_83) → X16 ix4_69 ix3_70 ix2_71 inodes_72 iroot_73 ireached_74 imoved_75 iseen_76 ia_77 ia_78 ia_79 ia_80 ia_81 ikc_82 iks_83
def wp_X1_best (wa wy un ga lo mo li kt wk wd : Int32) (f t w c o : Nat → Int32) (nd rt ex mn : Int32) (kp dp tw wt st : Nat → Int32) (tn tr tre tm ts : Int32) (kp9 dp9 tw9 wt9 st9 : Nat → Int32) (tn9 tr9 tre9 tm9 ts9 j : Int32) (Q : Int32 → (Nat → Int32) → (Nat → Int32) → (Nat → Int32) → (Nat → Int32) → (Nat → Int32) → Int32 → Int32 → Int32 → Int32 → Int32 → Prop) (QX : String → (Nat → Int32) → (Nat → Int32) → (Nat → Int32) → (Nat → Int32) → (Nat → Int32) → Int32 → Int32 → Int32 → Int32 → Int32 → Prop) : Prop :=
  ∀ (r_1 : Int32), ps_X1_isIn j 0 2 r_1 → ((∀ (E_2 : String), px_X1_thereIs r_1 E_2 → QX E_2 kp9 dp9 tw9 wt9 st9 tn9 tr9 tre9 tm9 ts9) ∧ (ps_X1_thereIs r_1 → (∀ J97 : Int32 → Int32 → Int32 → Int32 → Int32 → Int32 → Int32 → (Nat → Int32) → (Nat → Int32) → (Nat → Int32) → (Nat → Int32) → (Nat → Int32) → Nat → Nat → Prop, (∀ (x3_51 : Int32) (x2_52 : Int32) (nodes_53 : Int32) (root_54 : Int32) (reached_55 : Int32) (moved_56 : Int32) (seen_57 : Int32) (a_58 : Nat → Int32) (a_59 : Nat → Int32) (a_60 : Nat → Int32) (a_61 : Nat → Int32) (a_62 : Nat → Int32) (kc_63 : Nat) (ks_64 : Nat), (((¬ j = 2 → ((¬ x3_51 = (-1) → ((¬ j = 0 → (kc_63 ≤ 257 ∧ (ks_64 ≤ 4102 ∧ (Q (x3_51 - x3_51 / 16 * 16) a_58 a_59 a_60 a_61 a_62 nodes_53 root_54 reached_55 moved_56 seen_57)))) ∧
 (j = 0 → (kc_63 ≤ 257 ∧ (ks_64 ≤ 4102 ∧ (Q (x3_51 / 16) a_58 a_59 a_60 a_61 a_62 nodes_53 root_54 reached_55 moved_56 seen_57)))))) ∧
 (x3_51 = (-1) → (kc_63 ≤ 257 ∧ (ks_64 ≤ 4102 ∧ (Q (-1) a_58 a_59 a_60 a_61 a_62 nodes_53 root_54 reached_55 moved_56 seen_57)))))) ∧
 (j = 2 → (kc_63 ≤ 257 ∧ (ks_64 ≤ 4102 ∧ (Q x2_52 a_58 a_59 a_60 a_61 a_62 nodes_53 root_54 reached_55 moved_56 seen_57)))))) → J97 x3_51 x2_52 nodes_53 root_54 reached_55 moved_56 seen_57 a_58 a_59 a_60 a_61 a_62 kc_63 ks_64) →
wp_X1_best_L16 wa wy un ga lo mo li kt wk wd f t w c o nd rt ex mn kp dp tw wt st tn tr tre tm ts J97 0 (-1) 0 tn9 tr9 tre9 tm9 ts9 kp9 dp9 tw9 wt9 st9 1 6)))
theorem pf_X1_best (N : NetM) (wa wy un ga lo mo li kt wk wd : Int32) (f t w c o : Nat → Int32) (nd rt ex mn : Int32) (kp dp tw wt st : Nat → Int32) (tn tr tre tm ts : Int32) (kp9 dp9 tw9 wt9 st9 : Nat → Int32) (tn9 tr9 tre9 tm9 ts9 j : Int32) (hp : pr_X1_best N wa wy un ga lo mo li kt wk wd f t w c o nd rt ex mn kp dp tw wt st tn tr tre tm ts kp9 dp9 tw9 wt9 st9 tn9 tr9 tre9 tm9 ts9 j) : wp_X1_best wa wy un ga lo mo li kt wk wd f t w c o nd rt ex mn kp dp tw wt st tn tr tre tm ts kp9 dp9 tw9 wt9 st9 tn9 tr9 tre9 tm9 ts9 j (ps_X1_best N wa wy un ga lo mo li kt wk wd f t w c o nd rt ex mn kp dp tw wt st tn tr tre tm ts kp9 dp9 tw9 wt9 st9 tn9 tr9 tre9 tm9 ts9 j) (px_X1_best N wa wy un ga lo mo li kt wk wd f t w c o nd rt ex mn kp dp tw wt st tn tr tre tm ts kp9 dp9 tw9 wt9 st9 tn9 tr9 tre9 tm9 ts9 j) := by
  obtain ⟨hN, hT⟩ := hp
  have hn := hN.n16
  have e := hN.nd
  subst e
  refine fun r1 h1 => ?_
  have h1 : r1 = i1 (0 ≤ j ∧ j ≤ 2) := h1
  refine ⟨fun E h => ⟨i1_eq0.1 (h1.symm.trans h.1), h.2⟩, fun h2 => ?_⟩
  have hj := Classical.not_not.1 (fun q => h2 (h1.trans (i1_eq0.2 q)))
  obtain ⟨J, hJ, rfl⟩ := nat_of (n := 2) (by decide) hj.1 hj.2
  intro J97 hJ97 X hX
  have h16n : (16 : Int32) * nI N.n = nI (16 * N.n) := by rw [n16, pk_mul]
  have hdv : ∀ k, k < 2 ^ 31 → nI k / 16 = nI (k / 16) := fun k hk => by rw [n16, pk_div hk (by decide) (by decide)]
  have hrm : ∀ k, k < 2 ^ 31 → nI k - nI k / 16 * 16 = nI (k % 16) := fun k hk => by rw [n16, pk_rem hk (by decide) (by decide)]
  refine up1 (T := Int32 × Int32 × Int32 × Int32 × Int32 × Int32 × Int32 × (Nat → Int32) × (Nat → Int32) × (Nat → Int32) × (Nat → Int32) × (Nat → Int32) × Nat × Nat) (X := fun i p => X i p.1 p.2.1 p.2.2.1 p.2.2.2.1 p.2.2.2.2.1 p.2.2.2.2.2.1 p.2.2.2.2.2.2.1 p.2.2.2.2.2.2.2.1 p.2.2.2.2.2.2.2.2.1 p.2.2.2.2.2.2.2.2.2.1 p.2.2.2.2.2.2.2.2.2.2.1 p.2.2.2.2.2.2.2.2.2.2.2.1 p.2.2.2.2.2.2.2.2.2.2.2.2.1 p.2.2.2.2.2.2.2.2.2.2.2.2.2) (16 * N.n) (fun k p => FstMax k (fun k => k % 16 < N.n) (insV N) p.1 p.2.1 ∧ p.2.2.2.2.2.2.2.2.2.2.2.2.1 ≤ 1 + k ∧ p.2.2.2.2.2.2.2.2.2.2.2.2.2 ≤ 6 + 16 * k) (fun k p hk hI hh => ?_) (fun p hI => ?_) 0 ((-1), 0, tn9, tr9, tre9, tm9, ts9, kp9, dp9, tw9, wt9, st9, 1, 6) (Nat.zero_le _) ⟨FstMax.zero, by show 1 ≤ 1 + 0; omega, by show 6 ≤ 6 + 16 * 0; omega⟩
  · obtain ⟨fo, mo, p3, p4, p5, p6, p7, p8, p9, p10, p11, p12, kc, ks⟩ := p
    obtain ⟨i1', i2', i3'⟩ := hI
    dsimp only at i1' i2' i3' hh ⊢
    refine hX _ _ _ _ _ _ _ _ _ _ _ _ _ _ _ ⟨fun q => absurd q (by rw [h16n, leN (by omega) (by omega)]; omega), fun _ => ?_⟩
    rw [hrm k (by omega), hdv k (by omega), ltN (by omega) (by omega)]
    refine ⟨fun z => ⟨⟨by omega, by omega⟩, N, k / 16, k % 16, ⟨hN, hT, rfl, by omega, rfl, z⟩, fun kp7 dp7 tw7 wt7 st7 tn7 tr7 tre7 tm7 ts7 hT7 => ⟨⟨by omega, by omega⟩, ?_⟩⟩, fun z => hh (_, _, _, _, _, _, _, _, _, _, _, _, _, _) ⟨i1'.skip z, by dsimp only; omega, by dsimp only; omega⟩⟩
    have hT7 : TreR (Ins N.E (k / 16) (k % 16)) N.root N.n kp7 dp7 tw7 tn7 tr7 tre7 := hT7
    have htn : tn7 ≤ 16 ∧ 0 ≤ tn7 := by
      rw [hT7.2.1]
      exact ⟨by rw [n16, leN (by omega) (by omega)]; omega, by rw [n0, leN (by omega) (by omega)]; omega⟩
    refine ⟨htn, fun r h => ?_⟩
    have hr : r = insV N k := Eq.trans h (lift_eq hT hT7)
    subst hr
    exact ⟨fun z2 => hh (_, _, _, _, _, _, _, _, _, _, _, _, _, _) ⟨i1'.gt z z2, by dsimp only; omega, by dsimp only; omega⟩, fun z2 => hh (_, _, _, _, _, _, _, _, _, _, _, _, _, _) ⟨i1'.le z2, by dsimp only; omega, by dsimp only; omega⟩⟩
  · obtain ⟨fo, mo, p3, p4, p5, p6, p7, p8, p9, p10, p11, p12, kc, ks⟩ := p
    obtain ⟨i1', i2', i3'⟩ := hI
    dsimp only at i1' i2' i3' ⊢
    have c1 : kc ≤ 257 := by omega
    have c2 : ks ≤ 4102 := by omega
    refine hX _ _ _ _ _ _ _ _ _ _ _ _ _ _ _ ⟨fun _ => hJ97 _ _ _ _ _ _ _ _ _ _ _ _ _ _ ⟨fun z => ⟨fun z2 => ?_, fun z2 => ⟨c1, c2, J, rfl, hJ, fo, mo, i1', Or.inr (Or.inl ⟨?_, z2, rfl⟩)⟩⟩, fun z => ⟨c1, c2, J, rfl, hJ, fo, mo, i1', Or.inl ⟨(eqN (b := 2) (by omega) (by omega)).mp z, rfl⟩⟩⟩, fun q => absurd (by rw [h16n]; exact Int32.le_refl _) q⟩
    · rcases i1' with ⟨q1, -⟩ | ⟨K, q1, q2, q3, q4⟩
      · exact absurd q1 z2
      · have hf : FstMax (16 * N.n) (fun k => k % 16 < N.n) (insV N) fo mo := Or.inr ⟨K, q1, q2, q3, q4⟩
        have e9 := q3
        subst q3
        rw [hrm K (by omega), hdv K (by omega)]
        refine ⟨fun z3 => ⟨c1, c2, J, rfl, hJ, _, mo, hf, Or.inr (Or.inr ⟨K, q1, rfl, Or.inr ⟨?_, rfl⟩⟩)⟩, fun z3 => ⟨c1, c2, J, rfl, hJ, _, mo, hf, Or.inr (Or.inr ⟨K, q1, rfl, Or.inl ⟨(eqN (b := 0) (by omega) (by omega)).mp z3, rfl⟩⟩)⟩⟩
        have z1 : J ≠ 0 := fun q => z3 (by rw [q]; rfl)
        have z2 : J ≠ 2 := fun q => z (by rw [q]; rfl)
        omega
    · have z1 : J ≠ 2 := fun q => z (by rw [q]; rfl)
      omega
def pr_X1_pass (N : NetM) (wa wy un ga lo mo li kt wk wd : Int32) (f t w c o : Nat → Int32) (nd rt ex mn : Int32) (kp dp tw wt st : Nat → Int32) (tn tr tre tm ts v k : Int32) : Prop := NetR N f t w c o nd rt ex mn ∧ TreR N.E N.root N.n kp dp tw tn tr tre
def ps_X1_pass (N : NetM) (wa wy un ga lo mo li kt wk wd : Int32) (f t w c o : Nat → Int32) (nd rt ex mn : Int32) (kp dp tw wt st : Nat → Int32) (tn tr tre tm ts v k : Int32) (r : Int32) (w' o' : Nat → Int32) : Prop := NetR N f t w' c o' nd rt ex mn ∧ ∃ V, v = nI V ∧ V < N.n ∧ (PassAt N V k r)
def px_X1_pass (N : NetM) (wa wy un ga lo mo li kt wk wd : Int32) (f t w c o : Nat → Int32) (nd rt ex mn : Int32) (kp dp tw wt st : Nat → Int32) (tn tr tre tm ts v k : Int32) (E : String) (w' o' : Nat → Int32) : Prop := w' = w ∧ o' = o ∧ ¬ (0 ≤ v ∧ v < nI N.n) ∧ E = "java/lang/IndexOutOfBoundsException"
def wp_X1_pass_L43 (wa wy un ga lo mo li kt wk wd : Int32) (f t c : Nat → Int32) (nd rt ex mn : Int32) (kp dp tw wt st : Nat → Int32) (tn tr tre tm ts v k x4_179 : Int32) (J96 J108 : Int32 → (Nat → Int32) → (Nat → Int32) → Prop) (ix5_225 ix3_226 : Int32) (ia_227 ia_228 : Nat → Int32) : Prop :=
  ∀ X43 : Int32 → Int32 → (Nat → Int32) → (Nat → Int32) → Prop, (∀ (x5_225 : Int32) (x3_226 : Int32) (a_227 : Nat → Int32) (a_228 : Nat → Int32), (((mn ≤ x5_225 → (J108 x3_226 a_227 a_228)) ∧
 (¬ (mn ≤ x5_225) → (∃ (N_231 : NetM) (K_231 V_231 : Nat), (pr_X1_isPass N_231 K_231 V_231 wa wy un ga lo mo li kt wk wd f t a_227 c a_228 nd rt ex mn kp dp tw wt st tn tr tre tm ts x5_225 v ∧ (∀ (r_231 : Int32) (w_231 o_231 : Nat → Int32), ps_X1_isPass N_231 K_231 V_231 wa wy un ga lo mo li kt wk wd f t a_227 c a_228 nd rt ex mn kp dp tw wt st tn tr tre tm ts x5_225 v r_231 w_231 o_231 → (((r_231 = 0 → (X43 (x5_225 + 1) x3_226 w_231 o_231)) ∧
 (¬ (r_231 = 0) → (vp_in x5_225 60 ∧ (vp_in (f x5_225.toNatClampNeg) 16 ∧ ((((dp (f x5_225.toNatClampNeg).toNatClampNeg) = x4_179 → ((¬ x3_226 = k → (X43 (x5_225 + 1) (x3_226 + 1) w_231 o_231)) ∧
 (x3_226 = k → (J96 x5_225 w_231 o_231)))) ∧
 (¬ ((dp (f x5_225.toNatClampNeg).toNatClampNeg) = x4_179) → (X43 (x5_225 + 1) x3_226 w_231 o_231))))))))))))))) → X43 x5_225 x3_226 a_227 a_228) → X43 ix5_225 ix3_226 ia_227 ia_228
def wp_X1_pass_L26 (wa wy un ga lo mo li kt wk wd : Int32) (f t c : Nat → Int32) (nd rt ex mn : Int32) (kp dp tw wt st : Nat → Int32) (tn tr tre tm ts v k : Int32) (Q J114 : Int32 → (Nat → Int32) → (Nat → Int32) → Prop) (ix4_179 ix3_180 : Int32) (ia_181 ia_182 : Nat → Int32) : Prop :=
  ∀ X26 : Int32 → Int32 → (Nat → Int32) → (Nat → Int32) → Prop, (∀ (x4_179 : Int32) (x3_180 : Int32) (a_181 : Nat → Int32) (a_182 : Nat → Int32), (vp_in v 16 ∧ ((((dp v.toNatClampNeg) < x4_179 → (J114 x3_180 a_181 a_182)) ∧
 (¬ ((dp v.toNatClampNeg) < x4_179) → (∀ J96 : Int32 → (Nat → Int32) → (Nat → Int32) → Prop, (∀ (x5_217 : Int32) (a_218 : Nat → Int32) (a_219 : Nat → Int32), (Q x5_217 a_218 a_219) → J96 x5_217 a_218 a_219) →
∀ J108 : Int32 → (Nat → Int32) → (Nat → Int32) → Prop, (∀ (x3_220 : Int32) (a_221 : Nat → Int32) (a_222 : Nat → Int32), (X26 (x4_179 + 1) x3_220 a_221 a_222) → J108 x3_220 a_221 a_222) →
wp_X1_pass_L43 wa wy un ga lo mo li kt wk wd f t c nd rt ex mn kp dp tw wt st tn tr tre tm ts v k x4_179 J96 J108 0 x3_180 a_181 a_182))))) → X26 x4_179 x3_180 a_181 a_182) → X26 ix4_179 ix3_180 ia_181 ia_182
def wp_X1_pass (wa wy un ga lo mo li kt wk wd : Int32) (f t w c o : Nat → Int32) (nd rt ex mn : Int32) (kp dp tw wt st : Nat → Int32) (tn tr tre tm ts v k : Int32) (Q : Int32 → (Nat → Int32) → (Nat → Int32) → Prop) (QX : String → (Nat → Int32) → (Nat → Int32) → Prop) : Prop :=
  (∀ (E_1 : String), px_X1_isNode wa wy un ga lo mo li kt wk wd f t w c o nd rt ex mn kp dp tw wt st tn tr tre tm ts v E_1 → QX E_1 w o) ∧ (ps_X1_isNode wa wy un ga lo mo li kt wk wd f t w c o nd rt ex mn kp dp tw wt st tn tr tre tm ts v → (∀ (r_2 : Int32), ps_X1_has tre v r_2 → (((¬ r_2 = 0 → (∀ J114 : Int32 → (Nat → Int32) → (Nat → Int32) → Prop, (∀ (x3_174 : Int32) (a_175 : Nat → Int32) (a_176 : Nat → Int32), (((¬ k = (-1) → (Q (-1) a_175 a_176)) ∧
 (k = (-1) → (Q x3_174 a_175 a_176)))) → J114 x3_174 a_175 a_176) →
wp_X1_pass_L26 wa wy un ga lo mo li kt wk wd f t c nd rt ex mn kp dp tw wt st tn tr tre tm ts v k Q J114 0 0 w o)) ∧
 (r_2 = 0 → (Q (-1) w o))))))
theorem pf_X1_pass (N : NetM) (wa wy un ga lo mo li kt wk wd : Int32) (f t w c o : Nat → Int32) (nd rt ex mn : Int32) (kp dp tw wt st : Nat → Int32) (tn tr tre tm ts v k : Int32) (hp : pr_X1_pass N wa wy un ga lo mo li kt wk wd f t w c o nd rt ex mn kp dp tw wt st tn tr tre tm ts v k) : wp_X1_pass wa wy un ga lo mo li kt wk wd f t w c o nd rt ex mn kp dp tw wt st tn tr tre tm ts v k (ps_X1_pass N wa wy un ga lo mo li kt wk wd f t w c o nd rt ex mn kp dp tw wt st tn tr tre tm ts v k) (px_X1_pass N wa wy un ga lo mo li kt wk wd f t w c o nd rt ex mn kp dp tw wt st tn tr tre tm ts v k) := by
  obtain ⟨hN, hT⟩ := hp
  have hn := hN.n16
  have e := hN.nd
  subst e
  have e := hN.mn
  subst e
  have h60 := hN.m60
  refine ⟨fun E h => ⟨rfl, rfl, h⟩, fun h1 => ?_⟩
  obtain ⟨V, hV, rfl⟩ := (of_in (by omega)).1 h1
  refine fun r2 h2 => ⟨fun z J114 hJ114 X hX => ?_, fun z => ⟨hN, V, rfl, hV, Or.inl ⟨has_z h2 hT.2.2.2.2 (by omega) z, rfl⟩⟩⟩
  have hR := has_p h2 hT.2.2.2.2 (by omega) z
  have hlt : ∀ x, Rd N.E N.root x → x < N.n := fun x hx => hT.1.lt hx
  have hdn := dep_n hlt hR
  have hle : ∀ b, PassIs N b V → dep N.E N.root N.n (N.fr b) ≤ dep N.E N.root N.n V := fun b hb => dep_le hlt (Pass.dm hb hR)
  refine up1 (T := Int32 × (Nat → Int32) × (Nat → Int32)) (X := fun i p => X i p.1 p.2.1 p.2.2) (dep N.E N.root N.n V + 1) (fun d p => p.1 = nI (cnt N.m (fun b => PassIs N b V ∧ dep N.E N.root N.n (N.fr b) < d)) ∧ NetR N f t p.2.1 c p.2.2 (nI N.n) rt ex (nI N.m) ∧ ∀ a, a < N.m → PassIs N a V → dep N.E N.root N.n (N.fr a) < d → ¬ k = nI (cnt N.m (fun b => PassIs N b (N.fr a)))) (fun d p hd hI hh => ?_) (fun p hI => ?_) 0 (0, w, o) (Nat.zero_le _) ⟨?_, hN, fun a _ _ q => absurd q (by omega)⟩
  · obtain ⟨many, w2, o2⟩ := p
    obtain ⟨i1', i2', i3'⟩ := hI
    dsimp only at i1' i2' i3' hh ⊢
    refine hX _ _ _ _ ⟨vp_in_nI (by omega) (by decide), ?_⟩
    rw [clN (by omega), hT.1.dp_eq hR, ltN (by omega) (by omega)]
    refine ⟨fun q => absurd q (by omega), fun _ J96 hJ96 J108 hJ108 X2 hX2 => ?_⟩
    refine up1 (T := Int32 × (Nat → Int32) × (Nat → Int32)) (X := fun i p => X2 i p.1 p.2.1 p.2.2) N.m (fun a p => p.1 = nI (cnt N.m (fun b => PassIs N b V ∧ (dep N.E N.root N.n (N.fr b) < d ∨ (dep N.E N.root N.n (N.fr b) = d ∧ b < a)))) ∧ NetR N f t p.2.1 c p.2.2 (nI N.n) rt ex (nI N.m) ∧ ∀ a', a' < N.m → PassIs N a' V → (dep N.E N.root N.n (N.fr a') < d ∨ (dep N.E N.root N.n (N.fr a') = d ∧ a' < a)) → ¬ k = nI (cnt N.m (fun b => PassIs N b (N.fr a')))) (fun a p ha hI hh2 => ?_) (fun p hI => ?_) 0 (many, w2, o2) (Nat.zero_le _) ⟨?_, i2', fun a' h1 h2 h3 => i3' a' h1 h2 (by omega)⟩
    · obtain ⟨many, w2, o2⟩ := p
      obtain ⟨i1', i2', i3'⟩ := hI
      dsimp only at i1' i2' i3' hh2 ⊢
      refine hX2 _ _ _ _ ⟨fun q => absurd q (by rw [leN (by omega) (by omega)]; omega), fun _ => ⟨N, a, V, ⟨i2', hT, rfl, ha, rfl, hV⟩, fun r3 w3 o3 h3 => ?_⟩⟩
      obtain ⟨g1, g2⟩ := h3
      have no : ¬ (PassIs N a V ∧ dep N.E N.root N.n (N.fr a) = d) → X2 (nI a + 1) many w3 o3 := fun q => hh2 (many, w3, o3) ⟨by
          rw [i1']
          refine congrArg nI (cnt_congr (fun b hb => ⟨fun ⟨y1, y2⟩ => ⟨y1, by omega⟩, fun ⟨y1, y2⟩ => ⟨y1, ?_⟩⟩))
          by_cases y3 : b = a
          · subst y3
            have : dep N.E N.root N.n (N.fr b) ≠ d := fun y4 => q ⟨y1, y4⟩
            omega
          · omega, g1, fun a' y0 y1 y2 => by
          by_cases y3 : a' = a
          · subst y3
            have : dep N.E N.root N.n (N.fr a') ≠ d := fun y4 => q ⟨y1, y4⟩
            exact i3' a' y0 y1 (by omega)
          · exact i3' a' y0 y1 (by omega)⟩
      refine ⟨fun y => no (fun q => g2.neg y q.1), fun y => ⟨vp_in_nI (by omega) (by decide), ?_⟩⟩
      have hP := g2.pos y
      have harc := hN.arc ha
      rw [clN (k := a) (by omega), harc.1, clN (k := N.fr a) (by omega), hT.1.dp_eq hP.2.1]
      have hdf := dep_n hlt hP.2.1
      rw [eqN (by omega) (by omega)]
      refine ⟨vp_in_nI (by omega) (by decide), fun y2 => ?_, fun y2 => no (fun q => y2 q.2)⟩
      have hc : cnt N.m (fun b => PassIs N b V ∧ (dep N.E N.root N.n (N.fr b) < d ∨ (dep N.E N.root N.n (N.fr b) = d ∧ b < a))) = cnt N.m (fun b => PassIs N b (N.fr a)) := cnt_congr (fun b hb => by
        rw [← y2]
        exact Pass.ahead hN.1 ha hP hR hb)
      have hcm := cnt_le N.m (fun b => PassIs N b (N.fr a))
      rw [hc] at i1'
      refine ⟨fun y3 => hh2 (many + 1, w3, o3) ⟨?_, g1, fun a' z0 z1 z2 => ?_⟩, fun y3 => hJ96 _ _ _ ⟨g1, V, rfl, hV, Or.inr (Or.inr ⟨hR, ?_, Or.inl ⟨a, ha, hP, y3.symm.trans i1', rfl⟩⟩)⟩⟩
      · dsimp only
        rw [i1', nI_1, ← hc]
        refine congrArg nI (cnt_add ha (fun q => by omega) (fun b hb => ?_)).symm
        constructor
        · rintro ⟨q1, q2⟩
          by_cases q3 : b = a
          · exact Or.inr q3
          · exact Or.inl ⟨q1, by omega⟩
        · rintro (⟨q1, q2⟩ | q3)
          · exact ⟨q1, by omega⟩
          · subst q3; exact ⟨hP, by omega⟩
      · by_cases z3 : a' = a
        · subst z3; exact fun q => y3 (i1'.trans q.symm)
        · exact i3' a' z0 z1 (by omega)
      · rw [← y3, i1']
        exact nI_m1 (by omega)
    · obtain ⟨many, w2, o2⟩ := p
      obtain ⟨i1', i2', i3'⟩ := hI
      dsimp only at i1' i2' i3' ⊢
      refine hX2 _ _ _ _ ⟨fun _ => hJ108 _ _ _ (hh (many, w2, o2) ⟨?_, i2', fun a' z0 z1 z2 => i3' a' z0 z1 (by omega)⟩), fun q => absurd (Int32.le_refl _) q⟩
      dsimp only
      rw [i1']
      exact congrArg nI (cnt_congr (fun b hb => ⟨fun ⟨y1, y2⟩ => ⟨y1, by omega⟩, fun ⟨y1, y2⟩ => ⟨y1, by omega⟩⟩))
    · rw [i1']
      exact congrArg nI (cnt_congr (fun b hb => ⟨fun ⟨y1, y2⟩ => ⟨y1, by omega⟩, fun ⟨y1, y2⟩ => ⟨y1, by omega⟩⟩))
  · obtain ⟨many, w2, o2⟩ := p
    obtain ⟨i1', i2', i3'⟩ := hI
    dsimp only at i1' i2' i3' ⊢
    refine hX _ _ _ _ ⟨vp_in_nI (by omega) (by decide), ?_⟩
    rw [clN (by omega), hT.1.dp_eq hR, ltN (by omega) (by omega)]
    refine ⟨fun _ => hJ114 _ _ _ ⟨fun z => ⟨i2', V, rfl, hV, Or.inr (Or.inr ⟨hR, z, Or.inr ⟨fun a ha hP => i3' a ha hP (by have := hle a hP; omega), rfl⟩⟩)⟩, fun z => ⟨i2', V, rfl, hV, Or.inr (Or.inl ⟨hR, z, ?_⟩)⟩⟩, fun q => absurd (by omega) q⟩
    rw [i1']
    exact congrArg nI (cnt_congr (fun b hb => ⟨fun q => q.1, fun q => ⟨q, by have := hle b q; omega⟩⟩))
  · rw [cnt_0 (fun b _ q => by omega)]
    rfl
