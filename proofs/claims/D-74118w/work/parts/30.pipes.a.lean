/-! pipes: contracts, pure predicates (printed by gen.py) -/
def ps_X6_empties (ra : Nat → Nat) (by_ rw_ : Nat → Int32) (rm : Nat → Nat → Int32) (rm' : Nat → Nat → Int32) : Prop := ∀ a b, a < 32 → b < 32 → rm' a b = 0
def wp_X6_empties_L10 (x1_86 : Int32) (J31 : (Nat → Nat → Int32) → Prop) (ix2_109 : Int32) (ig_110 : Nat → Nat → Int32) : Prop :=
  ∀ X10 : Int32 → (Nat → Nat → Int32) → Prop, (∀ (x2_109 : Int32) (g_110 : Nat → Nat → Int32), (((32 ≤ x2_109 → (J31 g_110)) ∧
 (¬ (32 ≤ x2_109) → (vp_in x1_86 32 ∧ (vp_in x2_109 32 ∧ (∀ u_115 : Nat → Nat → Int32, u_115 = upd2 g_110 x1_86.toNatClampNeg (upd (g_110 x1_86.toNatClampNeg) x2_109.toNatClampNeg 0) → (X10 (x2_109 + 1) u_115))))))) → X10 x2_109 g_110) → X10 ix2_109 ig_110
def wp_X6_empties_L2 (J37 : (Nat → Nat → Int32) → Prop) (ix1_86 : Int32) (ig_87 : Nat → Nat → Int32) : Prop :=
  ∀ X2 : Int32 → (Nat → Nat → Int32) → Prop, (∀ (x1_86 : Int32) (g_87 : Nat → Nat → Int32), (((32 ≤ x1_86 → (J37 g_87)) ∧
 (¬ (32 ≤ x1_86) → (∀ J31 : (Nat → Nat → Int32) → Prop, (∀ (g_107 : Nat → Nat → Int32), (X2 (x1_86 + 1) g_107) → J31 g_107) →
wp_X6_empties_L10 x1_86 J31 0 g_87)))) → X2 x1_86 g_87) → X2 ix1_86 ig_87
def wp_X6_empties (ra : Nat → Nat) (by_ rw_ : Nat → Int32) (rm : Nat → Nat → Int32) (Q : (Nat → Nat → Int32) → Prop) : Prop :=
  ∀ J37 : (Nat → Nat → Int32) → Prop, (∀ (g_84 : Nat → Nat → Int32), (Q g_84) → J37 g_84) →
wp_X6_empties_L2 J37 0 rm
theorem pf_X6_empties (ra : Nat → Nat) (by_ rw_ : Nat → Int32) (rm : Nat → Nat → Int32) : wp_X6_empties ra by_ rw_ rm (ps_X6_empties ra by_ rw_ rm) := by
  intro J hJ X hX
  refine up1 32 (fun k (g : Nat → Nat → Int32) => ∀ a b, a < k → b < 32 → g a b = 0) (fun k g hk hI hh => hX _ _ ⟨fun q => absurd q (by rw [n32, leN (by omega) (by omega)]; omega), fun _ J31 hJ31 X2 hX2 => ?_⟩) (fun g hI => hX _ _ ⟨fun _ => hJ _ hI, fun q => absurd (Int32.le_refl _) q⟩) 0 rm (Nat.zero_le _) (fun a b ha => absurd ha (by omega))
  refine up1 32 (fun j (g : Nat → Nat → Int32) => ∀ a b, b < 32 → (a < k ∨ (a = k ∧ b < j)) → g a b = 0) (fun j g hj hI2 hh2 => hX2 _ _ ⟨fun q => absurd q (by rw [n32, leN (by omega) (by omega)]; omega), fun _ => ⟨vp_in_nI (by omega) (by decide), vp_in_nI (by omega) (by decide), fun u hu => hh2 _ (fun a b hb h => ?_)⟩⟩) (fun g hI2 => hX2 _ _ ⟨fun _ => hJ31 _ (hh _ (fun a b ha hb => hI2 a b hb (by omega))), fun q => absurd (Int32.le_refl _) q⟩) 0 g (Nat.zero_le _) (fun a b hb h => hI a b (by omega) hb)
  rw [hu, clN (k := k) (by omega), clN (k := j) (by omega)]
  by_cases e : a = k ∧ b = j
  · obtain ⟨rfl, rfl⟩ := e; exact upd2_s
  · rw [upd2_n e]; exact hI2 a b hb (by omega)
def pr_X6_goes (F T : Nat) (C : Nat → Nat → Nat) (K : Nat) (ra : Nat → Nat) (by_ rw_ : Nat → Int32) (rm : Nat → Nat → Int32) (fr to : Int32) : Prop := fr = nI F ∧ to = nI T ∧ F < 32 ∧ T < 32 ∧ F ≠ T ∧ FlowI C F T K rm
def ps_X6_goes (F T : Nat) (C : Nat → Nat → Nat) (K : Nat) (ra : Nat → Nat) (by_ rw_ : Nat → Int32) (rm : Nat → Nat → Int32) (fr to : Int32) (r : Int32) (by_' rw_' : Nat → Int32) (rm' : Nat → Nat → Int32) : Prop := (r = 1 ∧ FlowI C F T (K + 1) rm') ∨ (r = 0 ∧ CutMin C F T K ∧ FlowI C F T K rm')
def wp_X6_goes_L150 (fr : Int32) (a_195 : Nat → Int32) (J206 : (Nat → Nat → Int32) → Prop) (ix4_222 : Int32) (ig_223 : Nat → Nat → Int32) : Prop :=
  ∀ X150 : Int32 → (Nat → Nat → Int32) → Prop, (∀ (x4_222 : Int32) (g_223 : Nat → Nat → Int32), (((x4_222 = fr → (J206 g_223)) ∧
 (¬ (x4_222 = fr) → (vp_in x4_222 32 ∧ (vp_in (a_195 x4_222.toNatClampNeg) 32 ∧ (∀ u_228 : Nat → Nat → Int32, u_228 = upd2 g_223 (a_195 x4_222.toNatClampNeg).toNatClampNeg (upd (g_223 (a_195 x4_222.toNatClampNeg).toNatClampNeg) x4_222.toNatClampNeg ((g_223 (a_195 x4_222.toNatClampNeg).toNatClampNeg x4_222.toNatClampNeg) - 1)) → (∀ u_229 : Nat → Nat → Int32, u_229 = upd2 u_228 x4_222.toNatClampNeg (upd (u_228 x4_222.toNatClampNeg) (a_195 x4_222.toNatClampNeg).toNatClampNeg ((u_228 x4_222.toNatClampNeg (a_195 x4_222.toNatClampNeg).toNatClampNeg) + 1)) → (X150 (a_195 x4_222.toNatClampNeg) u_229)))))))) → X150 x4_222 g_223) → X150 ix4_222 ig_223
def wp_X6_goes_L59 (rm : Nat → Nat → Int32) (x4_231 : Int32) (J129 : Int32 → (Nat → Int32) → (Nat → Int32) → Prop) (ix5_279 ix3_280 : Int32) (ia_281 ia_282 : Nat → Int32) : Prop :=
  ∀ X59 : Int32 → Int32 → (Nat → Int32) → (Nat → Int32) → Prop, (∀ (x5_279 : Int32) (x3_280 : Int32) (a_281 : Nat → Int32) (a_282 : Nat → Int32), (((32 ≤ x5_279 → (J129 x3_280 a_281 a_282)) ∧
 (¬ (32 ≤ x5_279) → (vp_in x5_279 32 ∧ (((¬ (a_281 x5_279.toNatClampNeg) = (-1) → (X59 (x5_279 + 1) x3_280 a_281 a_282)) ∧
 ((a_281 x5_279.toNatClampNeg) = (-1) → (vp_in x4_231 32 ∧ (vp_in (a_282 x4_231.toNatClampNeg) 32 ∧ (((¬ (rm (a_282 x4_231.toNatClampNeg).toNatClampNeg x5_279.toNatClampNeg) = 0 → (∀ u_290 : Nat → Int32, u_290 = upd a_281 x5_279.toNatClampNeg (a_282 x4_231.toNatClampNeg) → (vp_in x3_280 32 ∧ (∀ u_292 : Nat → Int32, u_292 = upd a_282 x3_280.toNatClampNeg x5_279 → (X59 (x5_279 + 1) (x3_280 + 1) u_290 u_292))))) ∧
 ((rm (a_282 x4_231.toNatClampNeg).toNatClampNeg x5_279.toNatClampNeg) = 0 → (X59 (x5_279 + 1) x3_280 a_281 a_282))))))))))))) → X59 x5_279 x3_280 a_281 a_282) → X59 ix5_279 ix3_280 ia_281 ia_282
def wp_X6_goes_L40 (rm : Nat → Nat → Int32) (to : Int32) (J135 : (Nat → Int32) → (Nat → Int32) → Prop) (ix4_231 ix3_232 : Int32) (ia_233 ia_234 : Nat → Int32) : Prop :=
  ∀ X40 : Int32 → Int32 → (Nat → Int32) → (Nat → Int32) → Prop, (∀ (x4_231 : Int32) (x3_232 : Int32) (a_233 : Nat → Int32) (a_234 : Nat → Int32), (((x3_232 ≤ x4_231 → (J135 a_233 a_234)) ∧
 (¬ (x3_232 ≤ x4_231) → (vp_in to 32 ∧ (((¬ (a_233 to.toNatClampNeg) = (-1) → (J135 a_233 a_234)) ∧
 ((a_233 to.toNatClampNeg) = (-1) → (∀ J129 : Int32 → (Nat → Int32) → (Nat → Int32) → Prop, (∀ (x3_275 : Int32) (a_276 : Nat → Int32) (a_277 : Nat → Int32), (X40 (x4_231 + 1) x3_275 a_276 a_277) → J129 x3_275 a_276 a_277) →
wp_X6_goes_L59 rm x4_231 J129 0 x3_232 a_233 a_234)))))))) → X40 x4_231 x3_232 a_233 a_234) → X40 ix4_231 ix3_232 ia_233 ia_234
def wp_X6_goes_L2 (J21 : (Nat → Int32) → Prop) (ix3_294 : Int32) (ia_295 : Nat → Int32) : Prop :=
  ∀ X2 : Int32 → (Nat → Int32) → Prop, (∀ (x3_294 : Int32) (a_295 : Nat → Int32), (((32 ≤ x3_294 → (J21 a_295)) ∧
 (¬ (32 ≤ x3_294) → (vp_in x3_294 32 ∧ (∀ u_299 : Nat → Int32, u_299 = upd a_295 x3_294.toNatClampNeg (-1) → (X2 (x3_294 + 1) u_299)))))) → X2 x3_294 a_295) → X2 ix3_294 ia_295
def wp_X6_goes (ra : Nat → Nat) (by_ rw_ : Nat → Int32) (rm : Nat → Nat → Int32) (fr to : Int32) (Q : Int32 → (Nat → Int32) → (Nat → Int32) → (Nat → Nat → Int32) → Prop) : Prop :=
  ∀ J21 : (Nat → Int32) → Prop, (∀ (a_15 : Nat → Int32), (vp_in fr 32 ∧ (∀ u_17 : Nat → Int32, u_17 = upd a_15 fr.toNatClampNeg fr → (∀ u_18 : Nat → Int32, u_18 = upd rw_ (0 : Int32).toNatClampNeg fr → (∀ J135 : (Nat → Int32) → (Nat → Int32) → Prop, (∀ (a_195 : Nat → Int32) (a_196 : Nat → Int32), (vp_in to 32 ∧ (((¬ (a_195 to.toNatClampNeg) = (-1) → (∀ J206 : (Nat → Nat → Int32) → Prop, (∀ (g_220 : Nat → Nat → Int32), (Q 1 a_195 a_196 g_220) → J206 g_220) →
wp_X6_goes_L150 fr a_195 J206 to rm)) ∧
 ((a_195 to.toNatClampNeg) = (-1) → (Q 0 a_195 a_196 rm))))) → J135 a_195 a_196) →
wp_X6_goes_L40 rm to J135 0 1 u_17 u_18)))) → J21 a_15) →
wp_X6_goes_L2 J21 0 by_
theorem pf_X6_goes (F T : Nat) (C : Nat → Nat → Nat) (K : Nat) (ra : Nat → Nat) (by_ rw_ : Nat → Int32) (rm : Nat → Nat → Int32) (fr to : Int32) (hp : pr_X6_goes F T C K ra by_ rw_ rm fr to) : wp_X6_goes ra by_ rw_ rm fr to (ps_X6_goes F T C K ra by_ rw_ rm fr to) := by
  obtain ⟨rfl, rfl, hF, hT, hFT, R, hR, hS⟩ := hp
  intro J21 hJ21 X hX
  refine up1 32 (fun k (a : Nat → Int32) => ∀ x, x < k → a x = -1) (fun k a hk hI hh => hX _ _ ⟨fun q => absurd q (by rw [n32, leN (by omega) (by omega)]; omega), fun _ => ⟨vp_in_nI hk (by decide), fun u hu => hh _ (fun x hx => ?_)⟩⟩) (fun a hI => hX _ _ ⟨fun _ => hJ21 _ ?_, fun q => absurd (Int32.le_refl _) q⟩) 0 by_ (Nat.zero_le _) (fun x hx => absurd hx (by omega))
  · rw [hu, clN (by omega)]
    by_cases e : x = k
    · subst e; rw [upd_s]
    · rw [upd_n e]; exact hI x (by omega)
  refine ⟨vp_in_nI hF (by decide), fun u17 h17 u18 h18 J135 hJ135 => ?_⟩
  rw [clN (by omega)] at h17
  rw [sb_cl0] at h18
  have hB0 := Bf.start (R := R) (rw_ := rw_) hF hI
  rw [← h17, ← h18] at hB0
  have fin : ∀ a rw M q, Bf R F M q a rw → (a T = -1 → ∀ i n, i < M → n < 32 → 0 < R (q i) n → ¬ a n = -1) → J135 a rw := by
    intro a rw M q hB hall
    refine hJ135 a rw ⟨vp_in_nI hT (by decide), ?_⟩
    rw [clN (k := T) (by omega)]
    refine ⟨fun z J206 hJ206 X150 hX150 => ?_, fun z => Or.inr ⟨rfl, hB.cut hT hR hS z (hall z), R, hR, hS⟩⟩
    obtain ⟨j, hj, ej⟩ := hB.2.2.1 T hT z
    have key : ∀ j, j < M → ∀ R' rm', FlowR C R' rm' → (∀ i1 i2, i1 ≤ j → i2 ≤ j → R' (q i1) (q i2) = R (q i1) (q i2)) → (∀ S : Nat → Prop, S F → ¬ S T → (S (q j) → cutV S R' + 1 = cutV S R) ∧ (¬ S (q j) → cutV S R' = cutV S R)) → X150 (nI (q j)) rm' := by
      intro j
      induction j using Nat.strongRecOn with
      | ind j ih =>
        intro hj R' rm' hR' h1 h2
        have hqj := hB.2.1 j hj
        refine hX150 _ _ ⟨fun e => hJ206 _ (Or.inl ⟨rfl, R', hR', fun S s1 s2 => ?_⟩), fun e => ?_⟩
        · have e := (eqN (by omega) (by omega)).mp e
          have g1 := (h2 S s1 s2).1 (by rw [e]; exact s1)
          have g2 := hS S s1 s2
          omega
        · have hj0 : 0 < j := Nat.pos_of_ne_zero (fun z => e (by rw [z, hB.1.2]))
          obtain ⟨i, hi, e1, e2⟩ := hB.2.2.2.1 j hj0 hj
          have hqi := hB.2.1 i (by omega)
          have hne : q i ≠ q j := fun z => by have := hB.2.2.2.2.2 i j (by omega) hj z; omega
          have hRp : 0 < R' (q i) (q j) := by rw [h1 i j (by omega) (by omega)]; exact e2
          rw [clN (k := q j) (by omega), e1, clN (k := q i) (by omega)]
          refine ⟨vp_in_nI hqj.2.1 (by decide), vp_in_nI hqi.2.1 (by decide), fun u hu u2 hu2 => ?_⟩
          subst hu; subst hu2
          refine ih i hi (by omega) (stepM R' (q i) (q j)) _ (stepM_R hR' hqi.2.1 hqj.2.1 hne hRp) (fun i1 i2 l1 l2 => ?_) (fun S s1 s2 => ?_)
          · have n1 : q i1 ≠ q j := fun z => by have := hB.2.2.2.2.2 i1 j (by omega) hj z; omega
            have n2 : q i2 ≠ q j := fun z => by have := hB.2.2.2.2.2 i2 j (by omega) hj z; omega
            unfold stepM
            rw [putM_n (fun z => n1 z.1), putM_n (fun z => n2 z.2)]
            exact h1 i1 i2 (by omega) (by omega)
          · have sc := stepM_cut (S := S) hqi.2.1 hqj.2.1 hne hRp
            have h3 := h2 S s1 s2
            by_cases a1 : S (q i) <;> by_cases a2 : S (q j)
            · exact ⟨fun _ => by have g1 := sc.2.2 ⟨fun _ => a2, fun _ => a1⟩; have g2 := h3.1 a2; omega, fun z => absurd a1 z⟩
            · exact ⟨fun _ => by have g1 := sc.1 ⟨a1, a2⟩; have g2 := h3.2 a2; omega, fun z => absurd a1 z⟩
            · exact ⟨fun z => absurd z a1, fun _ => by have g1 := sc.2.1 ⟨a1, a2⟩; have g2 := h3.1 a2; omega⟩
            · exact ⟨fun z => absurd z a1, fun _ => by have g1 := sc.2.2 ⟨fun z => absurd z a1, fun z => absurd z a2⟩; have g2 := h3.2 a2; omega⟩
    rw [← ej]
    exact key j hj R rm hR (fun _ _ _ _ => rfl) (fun S s1 s2 => ⟨fun z => absurd (ej ▸ z) s2, fun _ => rfl⟩)
  intro X40 hX40
  refine dn1 (T := Int32 × Int32 × (Nat → Int32) × (Nat → Int32)) (X := fun p => X40 p.1 p.2.1 p.2.2.1 p.2.2.2) (fun p => ∃ k M q, p.1 = nI k ∧ p.2.1 = nI M ∧ k ≤ M ∧ Bf R F M q p.2.2.1 p.2.2.2 ∧ ∀ i n, i < k → n < 32 → 0 < R (q i) n → ¬ p.2.2.1 n = -1) (fun p => 40 - p.1.toNatClampNeg) (fun p hI40 hh40 => ?_) (0, 1, u17, u18) ⟨0, 1, _, rfl, rfl, by omega, hB0, fun i n hi => absurd hi (by omega)⟩
  obtain ⟨x4, x3, a, rw⟩ := p
  obtain ⟨k, M, q, h4, h3, hkM, hB, hsc⟩ := hI40
  dsimp only at h4 h3 hB hsc hh40 ⊢
  subst h4; subst h3
  have hM32 : M ≤ 32 := by rw [hB.2.2.2.2.1]; exact cnt_le _ _
  refine hX40 _ _ _ _ ?_
  rw [leN (by omega) (by omega), clN (k := T) (by omega)]
  refine ⟨fun z => fin a rw M q hB (fun _ i n hi => hsc i n (by omega)), fun z => ⟨vp_in_nI hT (by decide), fun z2 => fin a rw M q hB (fun z3 => absurd z3 z2), fun z2 J129 hJ129 X59 hX59 => ?_⟩⟩
  refine up1 (T := Int32 × (Nat → Int32) × (Nat → Int32)) (X := fun i p => X59 i p.1 p.2.1 p.2.2) 32 (fun n p => ∃ M' q', p.1 = nI M' ∧ Bf R F M' q' p.2.1 p.2.2 ∧ M ≤ M' ∧ (∀ i, i < M → q' i = q i) ∧ (∀ x, ¬ a x = -1 → ¬ p.2.1 x = -1) ∧ ∀ y, y < n → 0 < R (q k) y → ¬ p.2.1 y = -1) (fun n p hn hI2 hh2 => ?_) (fun p hI2 => ?_) 0 (nI M, a, rw) (Nat.zero_le _) ⟨M, q, rfl, hB, Nat.le_refl _, fun _ _ => rfl, fun _ z => z, fun y hy => absurd hy (by omega)⟩
  · obtain ⟨x3, a2, rw2⟩ := p
    obtain ⟨M', q', g1, hB', g2, g3, g4, g5⟩ := hI2
    dsimp only at g1 hB' g4 g5 hh2 ⊢
    subst g1
    have hM' : M' ≤ 32 := by rw [hB'.2.2.2.2.1]; exact cnt_le _ _
    have hqk := hB'.2.1 k (by omega)
    have eqk := g3 k (by omega)
    refine hX59 _ _ _ _ ⟨fun q => absurd q (by rw [n32, leN (by omega) (by omega)]; omega), fun _ => ⟨vp_in_nI hn (by decide), ?_⟩⟩
    rw [clN (k := n) (by omega), clN (k := k) (by omega), hqk.1, clN (k := q' k) (by omega), (hR.2 (q' k) n hqk.2.1 hn).1, clN (k := M') (by omega)]
    have hRl := hR.le hqk.2.1 hn
    refine ⟨fun y => hh2 (nI M', a2, rw2) ⟨M', q', rfl, hB', g2, g3, g4, fun y2 hy2 hpos => ?_⟩, fun y => ⟨vp_in_nI (by omega) (by decide), vp_in_nI hqk.2.1 (by decide), fun y2 u hu => ?_, fun y2 => hh2 (nI M', a2, rw2) ⟨M', q', rfl, hB', g2, g3, g4, fun y3 hy3 hpos => ?_⟩⟩⟩
    · by_cases e : y2 = n
      · subst e; exact y
      · exact g5 y2 (by omega) hpos
    · have hpos : 0 < R (q' k) n := Nat.pos_of_ne_zero (fun z3 => y2 (by rw [z3]; rfl))
      obtain ⟨i1, i2⟩ := hB'.ins (show k < M' by omega) hn y hpos
      refine ⟨vp_in_nI i1 (by decide), fun u2 hu2 => hh2 (nI M' + 1, u, u2) ⟨M' + 1, fun j => if j = M' then n else q' j, nI_1 M', by dsimp only; rw [hu, hu2]; exact i2, by omega, fun i hi => ?_, fun x hx => ?_, fun y3 hy3 hp3 => ?_⟩⟩
      · dsimp only; rw [if_neg (by omega)]; exact g3 i hi
      · dsimp only; rw [hu]
        by_cases e : x = n
        · subst e; exact absurd y (g4 x hx)
        · rw [upd_n e]; exact g4 x hx
      · dsimp only; rw [hu]
        by_cases e : y3 = n
        · subst e; rw [upd_s]; exact nI_m1 (by omega)
        · rw [upd_n e]; exact g5 y3 (by omega) hp3
    · by_cases e : y3 = n
      · subst e
        rw [← eqk] at hpos
        have := (eqN (b := 0) (by omega) (by omega)).mp y2
        omega
      · exact g5 y3 (by omega) hpos
  · obtain ⟨x3, a2, rw2⟩ := p
    obtain ⟨M', q', g1, hB', g2, g3, g4, g5⟩ := hI2
    dsimp only at g1 hB' g4 g5 ⊢
    subst g1
    refine hX59 _ _ _ _ ⟨fun _ => hJ129 _ _ _ (hh40 (nI k + 1, nI M', a2, rw2) ⟨k + 1, M', q', nI_1 k, rfl, by omega, hB', fun i n hi hn hpos => ?_⟩ (by dsimp only; rw [nI_1, clN (by omega), clN (by omega)]; omega)), fun q => absurd (Int32.le_refl _) q⟩
    rw [g3 i (by omega)] at hpos
    by_cases e : i = k
    · subst e; exact g5 n hn hpos
    · exact g4 n (hsc i n (by omega) hn hpos)
def pr_X6_most (F T : Nat) (C : Nat → Nat → Nat) (ra : Nat → Nat) (by_ rw_ : Nat → Int32) (rm : Nat → Nat → Int32) (fr to : Int32) : Prop := fr = nI F ∧ to = nI T ∧ F < 32 ∧ T < 32 ∧ F ≠ T ∧ (∀ a b, a < 32 → b < 32 → rm a b = nI (C a b) ∧ C a b ≤ 120)
def ps_X6_most (F T : Nat) (C : Nat → Nat → Nat) (ra : Nat → Nat) (by_ rw_ : Nat → Int32) (rm : Nat → Nat → Int32) (fr to : Int32) (r : Int32) (by_' rw_' : Nat → Int32) (rm' : Nat → Nat → Int32) : Prop := ∃ k, k < 2 ^ 31 ∧ r = nI k ∧ CutMin C F T k
def wp_X6_most_L2 (ra : Nat → Nat) (fr to : Int32) (J17 : Int32 → (Nat → Int32) → (Nat → Int32) → (Nat → Nat → Int32) → Prop) (ix3_23 : Int32) (ia_24 ia_25 : Nat → Int32) (ig_26 : Nat → Nat → Int32) : Prop :=
  ∀ X2 : Int32 → (Nat → Int32) → (Nat → Int32) → (Nat → Nat → Int32) → Prop, (∀ (x3_23 : Int32) (a_24 : Nat → Int32) (a_25 : Nat → Int32) (g_26 : Nat → Nat → Int32), (∃ (F_28 T_28 : Nat) (C_28 : Nat → Nat → Nat) (K_28 : Nat), (pr_X6_goes F_28 T_28 C_28 K_28 ra a_24 a_25 g_26 fr to ∧ (∀ (r_28 : Int32) (by__28 rw__28 : Nat → Int32) (rm_28 : Nat → Nat → Int32), ps_X6_goes F_28 T_28 C_28 K_28 ra a_24 a_25 g_26 fr to r_28 by__28 rw__28 rm_28 → (((r_28 = 0 → (J17 x3_23 by__28 rw__28 rm_28)) ∧
 (¬ (r_28 = 0) → (X2 (x3_23 + 1) by__28 rw__28 rm_28))))))) → X2 x3_23 a_24 a_25 g_26) → X2 ix3_23 ia_24 ia_25 ig_26
def wp_X6_most (ra : Nat → Nat) (by_ rw_ : Nat → Int32) (rm : Nat → Nat → Int32) (fr to : Int32) (Q : Int32 → (Nat → Int32) → (Nat → Int32) → (Nat → Nat → Int32) → Prop) : Prop :=
  ∀ J17 : Int32 → (Nat → Int32) → (Nat → Int32) → (Nat → Nat → Int32) → Prop, (∀ (x3_18 : Int32) (a_19 : Nat → Int32) (a_20 : Nat → Int32) (g_21 : Nat → Nat → Int32), (Q x3_18 a_19 a_20 g_21) → J17 x3_18 a_19 a_20 g_21) →
wp_X6_most_L2 ra fr to J17 0 by_ rw_ rm
theorem pf_X6_most (F T : Nat) (C : Nat → Nat → Nat) (ra : Nat → Nat) (by_ rw_ : Nat → Int32) (rm : Nat → Nat → Int32) (fr to : Int32) (hp : pr_X6_most F T C ra by_ rw_ rm fr to) : wp_X6_most ra by_ rw_ rm fr to (ps_X6_most F T C ra by_ rw_ rm fr to) := by
  obtain ⟨rfl, rfl, hF, hT, hFT, hC⟩ := hp
  intro J17 hJ17 X hX
  have h0 : FlowI C F T 0 rm := ⟨C, ⟨fun a b ha hb => (hC a b ha hb).2, fun a b ha hb => ⟨(hC a b ha hb).1, rfl⟩⟩, fun S _ _ => rfl⟩
  refine dn1 (T := Int32 × (Nat → Int32) × (Nat → Int32) × (Nat → Nat → Int32)) (X := fun p => X p.1 p.2.1 p.2.2.1 p.2.2.2) (fun p => ∃ K, p.1 = nI K ∧ FlowI C F T K p.2.2.2) (fun p => 122882 - p.1.toNatClampNeg) (fun p hI hh => ?_) (0, by_, rw_, rm) ⟨0, rfl, h0⟩
  obtain ⟨x3, a, rw, g⟩ := p
  obtain ⟨K, hK, hFl⟩ := hI
  dsimp only at hK hFl hh ⊢
  subst hK
  have hle := hFl.le hFT
  refine hX _ _ _ _ ⟨F, T, C, K, ⟨rfl, rfl, hF, hT, hFT, hFl⟩, fun r by' rw' rm' h => ?_⟩
  rcases h with ⟨h1, h2⟩ | ⟨h1, h2, h3⟩
  · subst h1
    refine ⟨fun z => absurd z (by decide), fun _ => hh (nI K + 1, by', rw', rm') ⟨K + 1, nI_1 K, h2⟩ ?_⟩
    have hle2 := h2.le hFT
    dsimp only
    rw [nI_1, clN (by omega), clN (by omega)]
    omega
  · subst h1
    exact ⟨fun _ => hJ17 _ _ _ _ ⟨K, by omega, rfl, h2⟩, fun z => absurd rfl z⟩
def pr_X1_hardOf (N : NetM) (V : Nat) (wa wy un ga lo mo li kt wk wd : Int32) (f t w c o : Nat → Int32) (nd rt ex mn : Int32) (kp dp tw wt st : Nat → Int32) (tn tr tre tm ts : Int32) (ra : Nat → Nat) (by_ rw_ : Nat → Int32) (rm : Nat → Nat → Int32) (v : Int32) : Prop := NetR N f t w c o nd rt ex mn ∧ TreR N.E N.root N.n kp dp tw tn tr tre ∧ v = nI V ∧ V < N.n
def ps_X1_hardOf (N : NetM) (V : Nat) (wa wy un ga lo mo li kt wk wd : Int32) (f t w c o : Nat → Int32) (nd rt ex mn : Int32) (kp dp tw wt st : Nat → Int32) (tn tr tre tm ts : Int32) (ra : Nat → Nat) (by_ rw_ : Nat → Int32) (rm : Nat → Nat → Int32) (v : Int32) (r : Int32) (by_' rw_' : Nat → Int32) (rm' : Nat → Nat → Int32) : Prop := HardIs N V r
def wp_X1_hardOf_L23 (f t o : Nat → Int32) (mn : Int32) (J87 : (Nat → Nat → Int32) → Prop) (ix2_33 : Int32) (ig_34 : Nat → Nat → Int32) : Prop :=
  ∀ X23 : Int32 → (Nat → Nat → Int32) → Prop, (∀ (x2_33 : Int32) (g_34 : Nat → Nat → Int32), (((mn ≤ x2_33 → (J87 g_34)) ∧
 (¬ (mn ≤ x2_33) → (vp_in x2_33 60 ∧ (vp_in (f x2_33.toNatClampNeg) 32 ∧ (vp_in (t x2_33.toNatClampNeg) 32 ∧ ((((o x2_33.toNatClampNeg) = 0 → (∀ u_41 : Nat → Nat → Int32, u_41 = upd2 g_34 (f x2_33.toNatClampNeg).toNatClampNeg (upd (g_34 (f x2_33.toNatClampNeg).toNatClampNeg) (t x2_33.toNatClampNeg).toNatClampNeg ((g_34 (f x2_33.toNatClampNeg).toNatClampNeg (t x2_33.toNatClampNeg).toNatClampNeg) + 0)) → (X23 (x2_33 + 1) u_41))) ∧
 (¬ ((o x2_33.toNatClampNeg) = 0) → (∀ u_42 : Nat → Nat → Int32, u_42 = upd2 g_34 (f x2_33.toNatClampNeg).toNatClampNeg (upd (g_34 (f x2_33.toNatClampNeg).toNatClampNeg) (t x2_33.toNatClampNeg).toNatClampNeg ((g_34 (f x2_33.toNatClampNeg).toNatClampNeg (t x2_33.toNatClampNeg).toNatClampNeg) + 1)) → (X23 (x2_33 + 1) u_42))))))))))) → X23 x2_33 g_34) → X23 ix2_33 ig_34
def wp_X1_hardOf (wa wy un ga lo mo li kt wk wd : Int32) (f t w c o : Nat → Int32) (nd rt ex mn : Int32) (kp dp tw wt st : Nat → Int32) (tn tr tre tm ts : Int32) (ra : Nat → Nat) (by_ rw_ : Nat → Int32) (rm : Nat → Nat → Int32) (v : Int32) (Q : Int32 → (Nat → Int32) → (Nat → Int32) → (Nat → Nat → Int32) → Prop) : Prop :=
  ((¬ v = rt → (∀ (rm_2 : Nat → Nat → Int32), ps_X6_empties ra by_ rw_ rm rm_2 → (∀ J87 : (Nat → Nat → Int32) → Prop, (∀ (g_30 : Nat → Nat → Int32), (∃ (F_31 T_31 : Nat) (C_31 : Nat → Nat → Nat), (pr_X6_most F_31 T_31 C_31 ra by_ rw_ g_30 rt v ∧ (∀ (r_31 : Int32) (by__31 rw__31 : Nat → Int32) (rm_31 : Nat → Nat → Int32), ps_X6_most F_31 T_31 C_31 ra by_ rw_ g_30 rt v r_31 by__31 rw__31 rm_31 → (Q r_31 by__31 rw__31 rm_31)))) → J87 g_30) →
wp_X1_hardOf_L23 f t o mn J87 0 rm_2))) ∧
 (v = rt → (Q 99 by_ rw_ rm)))
/-- the room for nodes, as far as it is laid -/
def Wv (N : NetM) (v : Nat) (A : Nat → Prop) (B : Nat → Nat → Prop) (g : Nat → Nat → Int32) : Prop := ∀ a b, a < 32 → b < 32 →
  (a < 16 ∧ A a ∧ b = 16 + a → ((a = N.root ∨ a = v) → g a b = 16) ∧ (¬ (a = N.root ∨ a = v) → g a b = 1)) ∧ (16 ≤ a ∧ b < 16 ∧ B (a - 16) b ∧ N.E (a - 16) b → g a b = 16) ∧ (¬ (a < 16 ∧ A a ∧ b = 16 + a) → ¬ (16 ≤ a ∧ b < 16 ∧ B (a - 16) b ∧ N.E (a - 16) b) → g a b = 0)
theorem Wv.one {N : NetM} {v : Nat} {A A' : Nat → Prop} {B : Nat → Nat → Prop} {g : Nat → Nat → Int32} (h : Wv N v A B g) {k : Nat} (hk : k < 16) (hA' : ∀ a, A' a ↔ A a ∨ a = k) {x : Int32} (hx : ((k = N.root ∨ k = v) → x = 16) ∧ (¬ (k = N.root ∨ k = v) → x = 1)) : Wv N v A' B (upd2 g k (upd (g k) (16 + k) x)) := by
  intro a b ha hb
  by_cases e : a = k ∧ b = 16 + k
  · obtain ⟨rfl, rfl⟩ := e
    rw [upd2_s]
    exact ⟨fun _ => hx, fun q => by omega, fun q => absurd ⟨hk, (hA' _).2 (Or.inr rfl), rfl⟩ q⟩
  · rw [upd2_n e]
    obtain ⟨h1, h2, h3⟩ := h a b ha hb
    refine ⟨fun q => h1 ⟨q.1, ((hA' a).1 q.2.1).resolve_right (fun z => e ⟨z, by rw [q.2.2, z]⟩), q.2.2⟩, h2, fun q1 q2 => h3 (fun z => q1 ⟨z.1, (hA' a).2 (Or.inl z.2.1), z.2.2⟩) q2⟩
theorem Wv.two {N : NetM} {v : Nat} {A : Nat → Prop} {B B' : Nat → Nat → Prop} {g : Nat → Nat → Int32} (h : Wv N v A B g) {k j : Nat} (hk : k < 16) (hj : j < 16) (hB' : ∀ n b, B' n b ↔ B n b ∨ (n = k ∧ b = j)) {x : Int32} (hx : (N.E k j → x = 16) ∧ (¬ N.E k j → x = 0)) : Wv N v A B' (upd2 g (16 + k) (upd (g (16 + k)) j x)) := by
  intro a b ha hb
  by_cases e : a = 16 + k ∧ b = j
  · obtain ⟨rfl, rfl⟩ := e
    rw [upd2_s, show 16 + k - 16 = k by omega]
    refine ⟨fun q => by omega, fun q => hx.1 q.2.2.2, fun _ q2 => hx.2 (fun z => q2 ⟨by omega, hj, (hB' _ _).2 (Or.inr ⟨rfl, rfl⟩), z⟩)⟩
  · rw [upd2_n e]
    obtain ⟨h1, h2, h3⟩ := h a b ha hb
    have hb' : (16 ≤ a) → (B' (a - 16) b ↔ B (a - 16) b) := fun q => ⟨fun z => ((hB' _ _).1 z).resolve_right (fun y => e ⟨by omega, y.2⟩), fun z => (hB' _ _).2 (Or.inl z)⟩
    exact ⟨h1, fun q => h2 ⟨q.1, q.2.1, (hb' q.1).1 q.2.2.1, q.2.2.2⟩, fun q1 q2 => h3 q1 (fun z => q2 ⟨z.1, z.2.1, (hb' z.1).2 z.2.2.1, z.2.2.2⟩)⟩
theorem Wv.val {N : NetM} {v : Nat} {A : Nat → Prop} {B : Nat → Nat → Prop} {g : Nat → Nat → Int32} (h : Wv N v A B g) {a b : Nat} (ha : a < 32) (hb : b < 32) : g a b = 0 ∨ g a b = 1 ∨ g a b = 16 := by
  obtain ⟨h1, h2, h3⟩ := h a b ha hb
  by_cases c1 : a < 16 ∧ A a ∧ b = 16 + a
  · by_cases c2 : a = N.root ∨ a = v
    · exact Or.inr (Or.inr ((h1 c1).1 c2))
    · exact Or.inr (Or.inl ((h1 c1).2 c2))
  · by_cases c2 : 16 ≤ a ∧ b < 16 ∧ B (a - 16) b ∧ N.E (a - 16) b
    · exact Or.inr (Or.inr (h2 c2))
    · exact Or.inl (h3 c1 c2)
theorem Wv.fin {N : NetM} (hN : N.ok) {v : Nat} {g : Nat → Nat → Int32} (h : Wv N v (fun a => a < N.n) (fun n _ => n < N.n) g) : (∀ a b, a < 32 → b < 32 → g a b = nI ((g a b).toNatClampNeg) ∧ (g a b).toNatClampNeg ≤ 120) ∧ WallC N v (fun a b => (g a b).toNatClampNeg) := by
  have h16 := hN.2.1
  have z16 : (16 : Int32).toNatClampNeg = 16 := by decide
  have z1 : (1 : Int32).toNatClampNeg = 1 := by decide
  have z0 : (0 : Int32).toNatClampNeg = 0 := by decide
  refine ⟨fun a b ha hb => ?_, fun n hn => ?_, fun n b hn hb hne => ?_, fun n b hn hb => ⟨fun e => ?_, fun e => ?_⟩, fun n b hn hb1 hb2 => ?_⟩
  · rcases h.val ha hb with e | e | e <;> rw [e] <;> decide
  · obtain ⟨h1, h2, h3⟩ := h n (16 + n) (by omega) (by omega)
    dsimp only
    by_cases c1 : n < N.n
    · rw [if_pos c1]
      by_cases c2 : n = N.root ∨ n = v
      · rw [if_pos c2, (h1 ⟨hn, c1, rfl⟩).1 c2, z16]
      · rw [if_neg c2, (h1 ⟨hn, c1, rfl⟩).2 c2, z1]
    · rw [if_neg c1, h3 (fun q => c1 q.2.1) (fun q => by omega), z0]
  · dsimp only
    rw [(h n b (by omega) hb).2.2 (fun q => hne q.2.2) (fun q => by omega), z0]
  · have hl := NetM.E_lt hN e
    dsimp only
    rw [(h (16 + n) b (by omega) (by omega)).2.1 ⟨by omega, hb, by rw [show 16 + n - 16 = n by omega]; exact hl.1, by rw [show 16 + n - 16 = n by omega]; exact e⟩, z16]
  · dsimp only
    rw [(h (16 + n) b (by omega) (by omega)).2.2 (fun q => by omega) (fun q => e (by have := q.2.2.2; rwa [show 16 + n - 16 = n by omega] at this)), z0]
  · dsimp only
    rw [(h (16 + n) b (by omega) (by omega)).2.2 (fun q => by omega) (fun q => by omega), z0]
theorem pf_X1_hardOf (N : NetM) (V : Nat) (wa wy un ga lo mo li kt wk wd : Int32) (f t w c o : Nat → Int32) (nd rt ex mn : Int32) (kp dp tw wt st : Nat → Int32) (tn tr tre tm ts : Int32) (ra : Nat → Nat) (by_ rw_ : Nat → Int32) (rm : Nat → Nat → Int32) (v : Int32) (hp : pr_X1_hardOf N V wa wy un ga lo mo li kt wk wd f t w c o nd rt ex mn kp dp tw wt st tn tr tre tm ts ra by_ rw_ rm v) : wp_X1_hardOf wa wy un ga lo mo li kt wk wd f t w c o nd rt ex mn kp dp tw wt st tn tr tre tm ts ra by_ rw_ rm v (ps_X1_hardOf N V wa wy un ga lo mo li kt wk wd f t w c o nd rt ex mn kp dp tw wt st tn tr tre tm ts ra by_ rw_ rm v) := by
  obtain ⟨hN, hT, rfl, hV⟩ := hp
  have hn := hN.n16
  have h60 := hN.m60
  have e : rt = nI N.root := hN.2.2.1
  subst e
  have e := hN.mn
  subst e
  have hr0 := hN.1.2.2.1
  refine ⟨fun z => ?_, fun z => Or.inl ⟨(eqN (by omega) (by omega)).mp z, rfl⟩⟩
  have hne : V ≠ N.root := fun q => z (by rw [q])
  intro rm2 h2 J hJ X hX
  refine up1 N.m (fun k (g : Nat → Nat → Int32) => ∀ a b, a < 32 → b < 32 → g a b = nI (capA N k a b)) (fun k g hk hI hh => hX _ _ ⟨fun q => absurd q (by rw [leN (by omega) (by omega)]; omega), fun _ => ?_⟩) (fun g hI => hX _ _ ⟨fun _ => hJ g ⟨N.root, V, capA N N.m, ⟨rfl, rfl, by omega, by omega, fun q => hne q.symm, fun a b ha hb => ⟨hI a b ha hb, Nat.le_trans (cnt_le N.m _) (by omega)⟩⟩, fun r by' rw' rm' h => ?_⟩, fun q => absurd (Int32.le_refl _) q⟩) 0 rm2 (Nat.zero_le _) (fun a b ha hb => h2 a b ha hb)
  · have harc := hN.arc hk
    rw [clN (k := k) (by omega), harc.1, harc.2.1, clN (k := N.fr k) (by omega), clN (k := N.to k) (by omega)]
    refine ⟨vp_in_nI (by omega) (by decide), vp_in_nI (by omega) (by decide), vp_in_nI (by omega) (by decide), fun z u hu => hh _ (fun a b ha hb => ?_), fun z u hu => hh _ (fun a b ha hb => ?_)⟩
    · rw [hu, capA_n (fun q => (hN.opn hk).2 q z)]
      by_cases e : a = N.fr k ∧ b = N.to k
      · obtain ⟨rfl, rfl⟩ := e
        rw [upd2_s, hI _ _ ha hb, nI_z]
      · rw [upd2_n e]; exact hI a b ha hb
    · rw [hu, capA_s ((hN.opn hk).1 z)]
      by_cases e : a = N.fr k ∧ b = N.to k
      · obtain ⟨rfl, rfl⟩ := e
        rw [upd2_s, putM_s, hI _ _ ha hb, nI_1]
      · rw [upd2_n e, putM_n e]; exact hI a b ha hb
  · obtain ⟨k, hk, h3, h4⟩ := h
    exact Or.inr ⟨hne, k, hk, h3, hard_of hN.1 h4⟩
def pr_X1_wallOf (N : NetM) (V : Nat) (wa wy un ga lo mo li kt wk wd : Int32) (f t w c o : Nat → Int32) (nd rt ex mn : Int32) (kp dp tw wt st : Nat → Int32) (tn tr tre tm ts : Int32) (ra : Nat → Nat) (by_ rw_ : Nat → Int32) (rm : Nat → Nat → Int32) (v : Int32) : Prop := NetR N f t w c o nd rt ex mn ∧ TreR N.E N.root N.n kp dp tw tn tr tre ∧ v = nI V ∧ V < N.n
def ps_X1_wallOf (N : NetM) (V : Nat) (wa wy un ga lo mo li kt wk wd : Int32) (f t w c o : Nat → Int32) (nd rt ex mn : Int32) (kp dp tw wt st : Nat → Int32) (tn tr tre tm ts : Int32) (ra : Nat → Nat) (by_ rw_ : Nat → Int32) (rm : Nat → Nat → Int32) (v : Int32) (r : Int32) (by_' rw_' : Nat → Int32) (rm' : Nat → Nat → Int32) : Prop := WallIs N V r
def wp_X1_wallOf_L93 (w : Nat → Int32) (nd x2_166 : Int32) (J146 : (Nat → Nat → Int32) → Prop) (ix3_207 : Int32) (ig_208 : Nat → Nat → Int32) : Prop :=
  ∀ X93 : Int32 → (Nat → Nat → Int32) → Prop, (∀ (x3_207 : Int32) (g_208 : Nat → Nat → Int32), (((nd ≤ x3_207 → (J146 g_208)) ∧
 (¬ (nd ≤ x3_207) → (vp_in x2_166 16 ∧ (∀ (r_212 : Int32), ps_X1_has (w x2_166.toNatClampNeg) x3_207 r_212 → (((r_212 = 0 → (vp_in x3_207 32 ∧ (∀ u_215 : Nat → Nat → Int32, u_215 = upd2 g_208 (16 + x2_166).toNatClampNeg (upd (g_208 (16 + x2_166).toNatClampNeg) x3_207.toNatClampNeg 0) → (X93 (x3_207 + 1) u_215)))) ∧
 (¬ (r_212 = 0) → (vp_in x3_207 32 ∧ (∀ u_217 : Nat → Nat → Int32, u_217 = upd2 g_208 (16 + x2_166).toNatClampNeg (upd (g_208 (16 + x2_166).toNatClampNeg) x3_207.toNatClampNeg 16) → (X93 (x3_207 + 1) u_217))))))))))) → X93 x3_207 g_208) → X93 ix3_207 ig_208
def wp_X1_wallOf_L44 (w : Nat → Int32) (nd rt v : Int32) (J152 : (Nat → Nat → Int32) → Prop) (ix2_166 : Int32) (ig_167 : Nat → Nat → Int32) : Prop :=
  ∀ X44 : Int32 → (Nat → Nat → Int32) → Prop, (∀ (x2_166 : Int32) (g_167 : Nat → Nat → Int32), (((nd ≤ x2_166 → (J152 g_167)) ∧
 (¬ (nd ≤ x2_166) → (vp_in x2_166 32 ∧ (∀ J90 : Int32 → Prop, (∀ (t_173 : Int32), (vp_in (16 + x2_166) 32 ∧ (∀ u_175 : Nat → Nat → Int32, u_175 = upd2 g_167 x2_166.toNatClampNeg (upd (g_167 x2_166.toNatClampNeg) (16 + x2_166).toNatClampNeg t_173) → (∀ J146 : (Nat → Nat → Int32) → Prop, (∀ (g_205 : Nat → Nat → Int32), (X44 (x2_166 + 1) g_205) → J146 g_205) →
wp_X1_wallOf_L93 w nd x2_166 J146 0 u_175))) → J90 t_173) →
((x2_166 = rt → (J90 16)) ∧
 (¬ (x2_166 = rt) → ((¬ x2_166 = v → (J90 1)) ∧
 (x2_166 = v → (J90 16)))))))))) → X44 x2_166 g_167) → X44 ix2_166 ig_167
def wp_X1_wallOf (wa wy un ga lo mo li kt wk wd : Int32) (f t w c o : Nat → Int32) (nd rt ex mn : Int32) (kp dp tw wt st : Nat → Int32) (tn tr tre tm ts : Int32) (ra : Nat → Nat) (by_ rw_ : Nat → Int32) (rm : Nat → Nat → Int32) (v : Int32) (Q : Int32 → (Nat → Int32) → (Nat → Int32) → (Nat → Nat → Int32) → Prop) : Prop :=
  ((v = rt → (Q (-1) by_ rw_ rm)) ∧
 (¬ (v = rt) → (vp_in rt 16 ∧ (∀ (r_3 : Int32), ps_X1_has (w rt.toNatClampNeg) v r_3 → (((r_3 = 0 → (∀ (rm_5 : Nat → Nat → Int32), ps_X6_empties ra by_ rw_ rm rm_5 → (∀ J152 : (Nat → Nat → Int32) → Prop, (∀ (g_163 : Nat → Nat → Int32), (∃ (F_164 T_164 : Nat) (C_164 : Nat → Nat → Nat), (pr_X6_most F_164 T_164 C_164 ra by_ rw_ g_163 rt v ∧ (∀ (r_164 : Int32) (by__164 rw__164 : Nat → Int32) (rm_164 : Nat → Nat → Int32), ps_X6_most F_164 T_164 C_164 ra by_ rw_ g_163 rt v r_164 by__164 rw__164 rm_164 → (Q r_164 by__164 rw__164 rm_164)))) → J152 g_163) →
wp_X1_wallOf_L44 w nd rt v J152 0 rm_5))) ∧
 (¬ (r_3 = 0) → (Q (-1) by_ rw_ rm))))))))
theorem pf_X1_wallOf (N : NetM) (V : Nat) (wa wy un ga lo mo li kt wk wd : Int32) (f t w c o : Nat → Int32) (nd rt ex mn : Int32) (kp dp tw wt st : Nat → Int32) (tn tr tre tm ts : Int32) (ra : Nat → Nat) (by_ rw_ : Nat → Int32) (rm : Nat → Nat → Int32) (v : Int32) (hp : pr_X1_wallOf N V wa wy un ga lo mo li kt wk wd f t w c o nd rt ex mn kp dp tw wt st tn tr tre tm ts ra by_ rw_ rm v) : wp_X1_wallOf wa wy un ga lo mo li kt wk wd f t w c o nd rt ex mn kp dp tw wt st tn tr tre tm ts ra by_ rw_ rm v (ps_X1_wallOf N V wa wy un ga lo mo li kt wk wd f t w c o nd rt ex mn kp dp tw wt st tn tr tre tm ts ra by_ rw_ rm v) := by
  obtain ⟨hN, hT, rfl, hV⟩ := hp
  have hn := hN.n16
  have e : rt = nI N.root := hN.2.2.1
  subst e
  have e := hN.nd
  subst e
  have hr0 := hN.1.2.2.1
  have hrows := hN.rows (a := N.root) (by omega)
  refine ⟨fun z => Or.inl ⟨Or.inl ((eqN (by omega) (by omega)).mp z), rfl⟩, fun z => ⟨vp_in_nI (by omega) (by decide), fun r3 h3 => ?_⟩⟩
  rw [clN (by omega)] at h3
  have hne : V ≠ N.root := fun q => z (by rw [q])
  refine ⟨fun y => ?_, fun y => Or.inl ⟨Or.inr (has_p h3 hrows (by omega) y), rfl⟩⟩
  have hE := has_z h3 hrows (by omega) y
  intro rm5 h5 J hJ X hX
  have h16k : ∀ k : Nat, (16 : Int32) + nI k = nI (16 + k) := fun k => by rw [n16, nI_add]
  refine up1 N.n (fun k (g : Nat → Nat → Int32) => Wv N V (fun a => a < k) (fun n _ => n < k) g) (fun k g hk hI hh => hX _ _ ⟨fun q => absurd q (by rw [leN (by omega) (by omega)]; omega), fun _ => ⟨vp_in_nI (by omega) (by decide), fun J90 hJ90 => ?_⟩⟩) (fun g hI => ?_) 0 rm5 (Nat.zero_le _) (fun a b ha hb => ⟨fun q => absurd q.2.1 (by omega), fun q => absurd q.2.2.1 (by omega), fun _ _ => h5 a b ha hb⟩)
  · have go : ∀ x : Int32, ((k = N.root ∨ k = V) → x = 16) ∧ (¬ (k = N.root ∨ k = V) → x = 1) → J90 x := by
      intro x hx
      refine hJ90 x ?_
      rw [h16k, clN (k := k) (by omega), clN (k := 16 + k) (by omega)]
      refine ⟨vp_in_nI (by omega) (by decide), fun u hu J146 hJ146 X2 hX2 => ?_⟩
      have hI1 : Wv N V (fun a => a < k + 1) (fun n _ => n < k) u := by
        rw [hu]
        exact hI.one (by omega) (fun a => by omega) hx
      refine up1 N.n (fun j (g : Nat → Nat → Int32) => Wv N V (fun a => a < k + 1) (fun n b => n < k ∨ (n = k ∧ b < j)) g) (fun j g hj hI2 hh2 => hX2 _ _ ⟨fun q => absurd q (by rw [leN (by omega) (by omega)]; omega), fun _ => ⟨vp_in_nI (by omega) (by decide), fun r7 h7 => ?_⟩⟩) (fun g hI2 => hX2 _ _ ⟨fun _ => hJ146 g (hh g ?_), fun q => absurd (Int32.le_refl _) q⟩) 0 u (Nat.zero_le _) (fun a b ha hb => ?_)
      · rw [clN (k := k) (by omega)] at h7
        have hrk := hN.rows (a := k) (by omega)
        rw [h16k, clN (k := 16 + k) (by omega), clN (k := j) (by omega)]
        refine ⟨fun q => ⟨vp_in_nI (by omega) (by decide), fun u7 hu7 => hh2 _ ?_⟩, fun q => ⟨vp_in_nI (by omega) (by decide), fun u7 hu7 => hh2 _ ?_⟩⟩
        · rw [hu7]
          exact hI2.two (by omega) (by omega) (fun n b => by omega) ⟨fun e => absurd e (has_z h7 hrk (by omega) q), fun _ => rfl⟩
        · rw [hu7]
          exact hI2.two (by omega) (by omega) (fun n b => by omega) ⟨fun _ => rfl, fun e => absurd (has_p h7 hrk (by omega) q) e⟩
      · intro a b ha hb
        obtain ⟨q1, q2, q3⟩ := hI2 a b ha hb
        refine ⟨q1, fun y => q2 ⟨y.1, y.2.1, ?_, y.2.2.2⟩, fun y1 y2 => q3 y1 (fun y3 => y2 ⟨y3.1, y3.2.1, by omega, y3.2.2.2⟩)⟩
        have := (NetM.E_lt hN.1 y.2.2.2).2
        omega
      · obtain ⟨q1, q2, q3⟩ := hI1 a b ha hb
        exact ⟨q1, fun y => q2 ⟨y.1, y.2.1, by omega, y.2.2.2⟩, fun y1 y2 => q3 y1 (fun y3 => y2 ⟨y3.1, y3.2.1, by omega, y3.2.2.2⟩)⟩
    rw [eqN (by omega) (by omega), eqN (by omega) (by omega)]
    exact ⟨fun q => go 16 ⟨fun _ => rfl, fun q2 => absurd (Or.inl q) q2⟩, fun q => ⟨fun q2 => go 1 ⟨fun q3 => absurd q3 (fun q4 => q4.elim q q2), fun _ => rfl⟩, fun q2 => go 16 ⟨fun _ => rfl, fun q3 => absurd (Or.inr q2) q3⟩⟩⟩
  · obtain ⟨f1, f2⟩ := Wv.fin hN.1 hI
    refine hX _ _ ⟨fun _ => hJ g ⟨N.root, V, _, ⟨rfl, rfl, by omega, by omega, fun q => hne q.symm, f1⟩, fun r by' rw' rm' h => ?_⟩, fun q => absurd (Int32.le_refl _) q⟩
    obtain ⟨k, hk, h3, h4⟩ := h
    obtain ⟨w1, w2, w3⟩ := wall_of hN.1 hV hne hE f2 h4
    exact Or.inr ⟨hne, hE, k, w1, h3, w2, w3⟩
