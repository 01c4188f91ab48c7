/-! net: contracts, pure predicates (printed by gen.py) -/
def ps_X1_has (s k : Int32) (r : Int32)  : Prop := r = i1 (hs s k)
def wp_X1_has (s k : Int32) (Q : Int32 → Prop) : Prop :=
  ((¬ ((s >>> (k &&& 31)) &&& 1) = 1 → (Q 0)) ∧
 (((s >>> (k &&& 31)) &&& 1) = 1 → (Q 1)))
theorem pf_X1_has (s k : Int32) : wp_X1_has s k (ps_X1_has s k) := by
  exact ⟨fun c => (i1_f c).symm, fun c => (i1_t c).symm⟩
def ps_X3_init   : Prop := True
def wp_X3_init  (Q : Prop) : Prop :=
  Q
theorem pf_X3_init  : wp_X3_init  (ps_X3_init) := by
  trivial
def pr_X3_rows (f t w c o : Nat → Int32) (nd rt ex mn : Int32) : Prop := NetB f t o mn
def ps_X3_rows (f t w c o : Nat → Int32) (nd rt ex mn : Int32) (w' : Nat → Int32) : Prop := RowsIs f t o mn w'
def wp_X3_rows_L23 (f t o : Nat → Int32) (mn : Int32) (J68 : (Nat → Int32) → Prop) (ix1_39 : Int32) (ia_40 : Nat → Int32) : Prop :=
  ∀ X23 : Int32 → (Nat → Int32) → Prop, (∀ (x1_39 : Int32) (a_40 : Nat → Int32), (((mn ≤ x1_39 → (J68 a_40)) ∧
 (¬ (mn ≤ x1_39) → (vp_in x1_39 60 ∧ ((((o x1_39.toNatClampNeg) = 0 → (X23 (x1_39 + 1) a_40)) ∧
 (¬ ((o x1_39.toNatClampNeg) = 0) → (vp_in (f x1_39.toNatClampNeg) 16 ∧ (∀ u_46 : Nat → Int32, u_46 = upd a_40 (f x1_39.toNatClampNeg).toNatClampNeg ((a_40 (f x1_39.toNatClampNeg).toNatClampNeg) ||| (1 <<< ((t x1_39.toNatClampNeg) &&& 31))) → (X23 (x1_39 + 1) u_46)))))))))) → X23 x1_39 a_40) → X23 ix1_39 ia_40
def wp_X3_rows_L2 (J21 : (Nat → Int32) → Prop) (ix1_48 : Int32) (ia_49 : Nat → Int32) : Prop :=
  ∀ X2 : Int32 → (Nat → Int32) → Prop, (∀ (x1_48 : Int32) (a_49 : Nat → Int32), (((16 ≤ x1_48 → (J21 a_49)) ∧
 (¬ (16 ≤ x1_48) → (vp_in x1_48 16 ∧ (∀ u_53 : Nat → Int32, u_53 = upd a_49 x1_48.toNatClampNeg 0 → (X2 (x1_48 + 1) u_53)))))) → X2 x1_48 a_49) → X2 ix1_48 ia_49
def wp_X3_rows (f t w c o : Nat → Int32) (nd rt ex mn : Int32) (Q : (Nat → Int32) → Prop) : Prop :=
  ∀ J21 : (Nat → Int32) → Prop, (∀ (a_15 : Nat → Int32), (∀ J68 : (Nat → Int32) → Prop, (∀ (a_37 : Nat → Int32), (Q a_37) → J68 a_37) →
wp_X3_rows_L23 f t o mn J68 0 a_15) → J21 a_15) →
wp_X3_rows_L2 J21 0 w
theorem pf_X3_rows (f t w c o : Nat → Int32) (nd rt ex mn : Int32) (hp : pr_X3_rows f t w c o nd rt ex mn) : wp_X3_rows f t w c o nd rt ex mn (ps_X3_rows f t w c o nd rt ex mn) := by
  obtain ⟨m, rfl, hm, hft, ho⟩ := hp
  intro J hJ X hX
  refine up1 16 (fun k a => ∀ j, j < k → a j = 0) (fun k a hk hI hh => hX _ _ ⟨fun c => ?_, fun c => ⟨vp_in_nI hk (by decide), fun u eu => hh _ ?_⟩⟩) (fun a hI => hX _ _ ⟨fun _ => hJ _ ?_, fun c => absurd (Int32.le_refl _) c⟩) 0 w (by omega) (by intro j hj; omega)
  · rw [n16, leN (by omega) (by omega)] at c; omega
  · subst eu; intro j hj
    rw [clN (by omega)]
    by_cases e : j = k
    · subst e; exact upd_s
    · rw [upd_n e]; exact hI j (by omega)
  · intro J2 hJ2 X2 hX2
    refine up1 m (fun k a => ∀ x, x < 16 → IsSet (a x) (fun b => ∃ i, i < k ∧ o i = 1 ∧ f i = nI x ∧ t i = nI b)) (fun k a hk hI hh => hX2 _ _ ⟨fun c => ?_, fun c => ⟨vp_in_nI (by omega) (by decide), ?_⟩⟩) (fun a hI => hX2 _ _ ⟨fun _ => hJ2 _ ?_, fun c => absurd (Int32.le_refl _) c⟩) 0 a (by omega) ?_
    · rw [leN (by omega) (by omega)] at c; omega
    · rw [clN (by omega)]
      obtain ⟨p, q, ep, eq, hp, hq⟩ := hft k hk
      refine ⟨fun c => hh _ ?_, fun c => ?_⟩
      · intro x hx
        refine (hI x hx).congr (fun b hb => ⟨fun ⟨i, h1, h2⟩ => ⟨i, by omega, h2⟩, fun ⟨i, h1, h2⟩ => ⟨i, ?_, h2⟩⟩)
        by_cases e : i = k
        · subst e; rw [c] at h2; exact absurd h2.1 (by decide)
        · omega
      · rw [ep, eq]
        refine ⟨vp_in_nI hp (by decide), fun u eu => hh _ ?_⟩
        have c1 : o k = 1 := (ho k (by omega)).resolve_left c
        subst eu; rw [clN (by omega)]
        intro x hx
        by_cases e : x = p
        · subst e; rw [upd_s]
          refine ((hI x hx).or (IsSet.bit hq)).congr (fun b hb => ⟨?_, ?_⟩)
          · rintro (⟨i, h1, h2⟩ | rfl)
            · exact ⟨i, by omega, h2⟩
            · exact ⟨k, by omega, c1, ep, eq⟩
          · rintro ⟨i, h1, h2, h3, h4⟩
            by_cases e : i = k
            · subst e; right; rw [eq, eqN (by omega) (by omega)] at h4; exact h4.symm
            · exact Or.inl ⟨i, by omega, h2, h3, h4⟩
        · rw [upd_n e]
          refine (hI x hx).congr (fun b hb => ⟨fun ⟨i, h1, h2⟩ => ⟨i, by omega, h2⟩, fun ⟨i, h1, h2⟩ => ⟨i, ?_, h2⟩⟩)
          by_cases e2 : i = k
          · subst e2; rw [ep, eqN (by omega) (by omega)] at h2; exact absurd h2.2.1 (fun z => e z.symm)
          · omega
    · intro x hx
      rw [clN (by omega)]
      exact hI x hx
    · intro x hx
      rw [hI x hx]
      exact IsSet.zero.congr (fun b hb => ⟨fun f => f.elim, fun ⟨i, h1, h2⟩ => absurd h1 (by omega)⟩)
def ps_X3_nodes (f t w c o : Nat → Int32) (nd rt ex mn : Int32) (r : Int32)  : Prop := r = nd
def wp_X3_nodes (f t w c o : Nat → Int32) (nd rt ex mn : Int32) (Q : Int32 → Prop) : Prop :=
  Q nd
theorem pf_X3_nodes (f t w c o : Nat → Int32) (nd rt ex mn : Int32) : wp_X3_nodes f t w c o nd rt ex mn (ps_X3_nodes f t w c o nd rt ex mn) := by
  rfl
def pr_X3_next (f t w c o : Nat → Int32) (nd rt ex mn k : Int32) : Prop := vp_in k 16
def ps_X3_next (f t w c o : Nat → Int32) (nd rt ex mn k : Int32) (r : Int32)  : Prop := r = w k.toNatClampNeg
def wp_X3_next (f t w c o : Nat → Int32) (nd rt ex mn k : Int32) (Q : Int32 → Prop) : Prop :=
  vp_in k 16 ∧ (Q (w k.toNatClampNeg))
theorem pf_X3_next (f t w c o : Nat → Int32) (nd rt ex mn k : Int32) (hp : pr_X3_next f t w c o nd rt ex mn k) : wp_X3_next f t w c o nd rt ex mn k (ps_X3_next f t w c o nd rt ex mn k) := by
  exact ⟨hp, rfl⟩
def ps_X3_isNode (f t w c o : Nat → Int32) (nd rt ex mn k : Int32) (r : Int32)  : Prop := r = i1 (0 ≤ k ∧ k < nd)
def wp_X3_isNode (f t w c o : Nat → Int32) (nd rt ex mn k : Int32) (Q : Int32 → Prop) : Prop :=
  ((k < 0 → (Q 0)) ∧
 (¬ (k < 0) → ((nd ≤ k → (Q 0)) ∧
 (¬ (nd ≤ k) → (Q 1)))))
theorem pf_X3_isNode (f t w c o : Nat → Int32) (nd rt ex mn k : Int32) : wp_X3_isNode f t w c o nd rt ex mn k (ps_X3_isNode f t w c o nd rt ex mn k) := by
  unfold wp_X3_isNode ps_X3_isNode i1
  grind
def ps_X3_isArc (f t w c o : Nat → Int32) (nd rt ex mn k : Int32) (r : Int32)  : Prop := r = i1 (0 ≤ k ∧ k < mn)
def wp_X3_isArc (f t w c o : Nat → Int32) (nd rt ex mn k : Int32) (Q : Int32 → Prop) : Prop :=
  ((k < 0 → (Q 0)) ∧
 (¬ (k < 0) → ((mn ≤ k → (Q 0)) ∧
 (¬ (mn ≤ k) → (Q 1)))))
theorem pf_X3_isArc (f t w c o : Nat → Int32) (nd rt ex mn k : Int32) : wp_X3_isArc f t w c o nd rt ex mn k (ps_X3_isArc f t w c o nd rt ex mn k) := by
  unfold wp_X3_isArc ps_X3_isArc i1
  grind
def pr_X3_begins (f t w c o : Nat → Int32) (nd rt ex mn k : Int32) : Prop := ∀ k, k < 60 → o k = 0 ∨ o k = 1
def ps_X3_begins (f t w c o : Nat → Int32) (nd rt ex mn k : Int32) (w' c' : Nat → Int32) (nd' rt' ex' mn' : Int32) : Prop := nd' = k ∧ rt' = 0 ∧ ex' = k - 1 ∧ mn' = 0 ∧ (∀ j, j < 16 → c' j = 1) ∧ RowsIs f t o 0 w'
def wp_X3_begins_L24 (J43 : (Nat → Int32) → Prop) (ix2_18 : Int32) (ia_19 : Nat → Int32) : Prop :=
  ∀ X24 : Int32 → (Nat → Int32) → Prop, (∀ (x2_18 : Int32) (a_19 : Nat → Int32), (((16 ≤ x2_18 → (J43 a_19)) ∧
 (¬ (16 ≤ x2_18) → (vp_in x2_18 16 ∧ (∀ u_23 : Nat → Int32, u_23 = upd a_19 x2_18.toNatClampNeg 1 → (X24 (x2_18 + 1) u_23)))))) → X24 x2_18 a_19) → X24 ix2_18 ia_19
def wp_X3_begins (f t w c o : Nat → Int32) (nd rt ex mn k : Int32) (Q : (Nat → Int32) → (Nat → Int32) → Int32 → Int32 → Int32 → Int32 → Prop) : Prop :=
  ∀ J43 : (Nat → Int32) → Prop, (∀ (a_15 : Nat → Int32), (pr_X3_rows f t w a_15 o k 0 (k - 1) 0 ∧ (∀ (w_16 : Nat → Int32), ps_X3_rows f t w a_15 o k 0 (k - 1) 0 w_16 → (Q w_16 a_15 k 0 (k - 1) 0))) → J43 a_15) →
wp_X3_begins_L24 J43 0 c
theorem pf_X3_begins (f t w c o : Nat → Int32) (nd rt ex mn k : Int32) (hp : pr_X3_begins f t w c o nd rt ex mn k) : wp_X3_begins f t w c o nd rt ex mn k (ps_X3_begins f t w c o nd rt ex mn k) := by
  intro J hJ X hX
  refine up1 16 (fun k a => ∀ j, j < k → a j = 1) (fun i a hk hI hh => hX _ _ ⟨fun c => ?_, fun c => ⟨vp_in_nI hk (by decide), fun u eu => hh _ ?_⟩⟩) (fun a hI => hX _ _ ⟨fun _ => hJ _ ?_, fun c => absurd (Int32.le_refl _) c⟩) 0 c (by omega) (by intro j hj; omega)
  · rw [n16, leN (by omega) (by omega)] at c; omega
  · subst eu; intro j hj
    rw [clN (by omega)]
    by_cases e : j = i
    · subst e; exact upd_s
    · rw [upd_n e]; exact hI j (by omega)
  · exact ⟨NetB.zero hp, fun w' hw => ⟨rfl, rfl, rfl, rfl, hI, hw⟩⟩
def pr_X3_be (f t w c o : Nat → Int32) (nd rt ex mn : Int32) (f2 t2 w2 c2 o2 : Nat → Int32) (nd2 rt2 ex2 mn2 : Int32) : Prop := ∀ i : Nat, i < 60 → fits .boolean (.int (o2 i)) = true
def ps_X3_be (f t w c o : Nat → Int32) (nd rt ex mn : Int32) (f2 t2 w2 c2 o2 : Nat → Int32) (nd2 rt2 ex2 mn2 : Int32) (f' t' w' c' o' : Nat → Int32) (nd' rt' ex' mn' : Int32) : Prop := (∀ j, j < 60 → f' j = f2 j ∧ t' j = t2 j ∧ o' j = o2 j) ∧ (∀ j, j < 16 → w' j = w2 j ∧ c' j = c2 j) ∧ nd' = nd2 ∧ rt' = rt2 ∧ ex' = ex2 ∧ mn' = mn2
def wp_X3_be (f t w c o : Nat → Int32) (nd rt ex mn : Int32) (f2 t2 w2 c2 o2 : Nat → Int32) (nd2 rt2 ex2 mn2 : Int32) (Q : (Nat → Int32) → (Nat → Int32) → (Nat → Int32) → (Nat → Int32) → (Nat → Int32) → Int32 → Int32 → Int32 → Int32 → Prop) : Prop :=
  (∀ i : Nat, i < 60 → fits .boolean (.int (o2 (0 + i))) = true) ∧ (Q (va_cpy f2 f 0 0 60) (va_cpy t2 t 0 0 60) (va_cpy w2 w 0 0 16) (va_cpy c2 c 0 0 16) (va_cpy o2 o 0 0 60) nd2 rt2 ex2 mn2)
theorem pf_X3_be (f t w c o : Nat → Int32) (nd rt ex mn : Int32) (f2 t2 w2 c2 o2 : Nat → Int32) (nd2 rt2 ex2 mn2 : Int32) (hp : pr_X3_be f t w c o nd rt ex mn f2 t2 w2 c2 o2 nd2 rt2 ex2 mn2) : wp_X3_be f t w c o nd rt ex mn f2 t2 w2 c2 o2 nd2 rt2 ex2 mn2 (ps_X3_be f t w c o nd rt ex mn f2 t2 w2 c2 o2 nd2 rt2 ex2 mn2) := by
  unfold pr_X3_be at hp
  refine ⟨fun i hi => by rw [Nat.zero_add]; exact hp i hi, ?_⟩
  refine ⟨fun j hj => ?_, fun j hj => ?_, rfl, rfl, rfl, rfl⟩
  · refine ⟨?_, ?_, ?_⟩ <;> exact (pk_cpy_in (by omega) (by omega)).trans (by simp)
  · refine ⟨?_, ?_⟩ <;> exact (pk_cpy_in (by omega) (by omega)).trans (by simp)
def ps_X3_tells (f t w c o : Nat → Int32) (nd rt ex mn k z : Int32) (r : Int32) (rt' ex' : Int32) : Prop := (¬ (0 ≤ k ∧ k < nd) ∧ r = 1 ∧ rt' = rt ∧ ex' = ex) ∨ ((0 ≤ k ∧ k < nd) ∧ (if z = 0 then rt else ex) = k ∧ r = 4 ∧ rt' = rt ∧ ex' = ex) ∨ ((0 ≤ k ∧ k < nd) ∧ ¬ (if z = 0 then rt else ex) = k ∧ r = 0 ∧ rt' = (if z = 0 then k else rt) ∧ ex' = (if z = 0 then ex else k))
def wp_X3_tells (f t w c o : Nat → Int32) (nd rt ex mn k z : Int32) (Q : Int32 → Int32 → Int32 → Prop) : Prop :=
  ∀ (r_1 : Int32), ps_X3_isNode f t w c o nd rt ex mn k r_1 → (((¬ r_1 = 0 → (∀ J25 : Int32 → Prop, (∀ (t_4 : Int32), (((¬ t_4 = k → ((z = 0 → (Q 0 k ex)) ∧
 (¬ (z = 0) → (Q 0 rt k)))) ∧
 (t_4 = k → (Q 4 rt ex)))) → J25 t_4) →
((z = 0 → (J25 rt)) ∧
 (¬ (z = 0) → (J25 ex))))) ∧
 (r_1 = 0 → (Q 1 rt ex))))
theorem pf_X3_tells (f t w c o : Nat → Int32) (nd rt ex mn k z : Int32) : wp_X3_tells f t w c o nd rt ex mn k z (ps_X3_tells f t w c o nd rt ex mn k z) := by
  unfold wp_X3_tells ps_X3_tells ps_X3_isNode i1
  grind
def pr_X3_asks (f t w c o : Nat → Int32) (nd rt ex mn k z : Int32) : Prop := nd ≤ 16
def ps_X3_asks (f t w c o : Nat → Int32) (nd rt ex mn k z : Int32) (r : Int32) (c' : Nat → Int32) : Prop := (¬ (0 ≤ k ∧ k < nd) ∧ r = 1 ∧ c' = c) ∨ ((0 ≤ k ∧ k < nd) ∧ c k.toNatClampNeg = z ∧ r = 4 ∧ c' = c) ∨ ((0 ≤ k ∧ k < nd) ∧ ¬ c k.toNatClampNeg = z ∧ r = 0 ∧ c' = upd c k.toNatClampNeg z)
def wp_X3_asks (f t w c o : Nat → Int32) (nd rt ex mn k z : Int32) (Q : Int32 → (Nat → Int32) → Prop) : Prop :=
  ∀ (r_1 : Int32), ps_X3_isNode f t w c o nd rt ex mn k r_1 → (((¬ r_1 = 0 → (vp_in k 16 ∧ (((¬ (c k.toNatClampNeg) = z → (∀ u_5 : Nat → Int32, u_5 = upd c k.toNatClampNeg z → (Q 0 u_5))) ∧
 ((c k.toNatClampNeg) = z → (Q 4 c)))))) ∧
 (r_1 = 0 → (Q 1 c))))
theorem pf_X3_asks (f t w c o : Nat → Int32) (nd rt ex mn k z : Int32) (hp : pr_X3_asks f t w c o nd rt ex mn k z) : wp_X3_asks f t w c o nd rt ex mn k z (ps_X3_asks f t w c o nd rt ex mn k z) := by
  unfold wp_X3_asks ps_X3_asks ps_X3_isNode i1
  unfold pr_X3_asks at hp
  grind [vp16]
def pr_X3_lays (f t w c o : Nat → Int32) (nd rt ex mn a b : Int32) : Prop := NetB f t o mn ∧ nd ≤ 16
def ps_X3_lays (f t w c o : Nat → Int32) (nd rt ex mn a b : Int32) (r : Int32) (f' t' w' o' : Nat → Int32) (mn' : Int32) : Prop := (¬ ((0 ≤ a ∧ a < nd) ∧ (0 ≤ b ∧ b < nd)) ∧ r = 1 ∧ f' = f ∧ t' = t ∧ w' = w ∧ o' = o ∧ mn' = mn) ∨ (((0 ≤ a ∧ a < nd) ∧ (0 ≤ b ∧ b < nd)) ∧ mn = 60 ∧ r = 2 ∧ f' = f ∧ t' = t ∧ w' = w ∧ o' = o ∧ mn' = mn) ∨ (((0 ≤ a ∧ a < nd) ∧ (0 ≤ b ∧ b < nd)) ∧ ¬ mn = 60 ∧ r = 0 ∧ f' = upd f mn.toNatClampNeg a ∧ t' = upd t mn.toNatClampNeg b ∧ o' = upd o mn.toNatClampNeg 1 ∧ mn' = mn + 1 ∧ RowsIs f' t' o' mn' w')
def wp_X3_lays (f t w c o : Nat → Int32) (nd rt ex mn a b : Int32) (Q : Int32 → (Nat → Int32) → (Nat → Int32) → (Nat → Int32) → (Nat → Int32) → Int32 → Prop) : Prop :=
  ∀ (r_1 : Int32), ps_X3_isNode f t w c o nd rt ex mn a r_1 → (((r_1 = 0 → (Q 1 f t w o mn)) ∧
 (¬ (r_1 = 0) → (∀ (r_3 : Int32), ps_X3_isNode f t w c o nd rt ex mn b r_3 → (((¬ r_3 = 0 → ((¬ mn = 60 → (vp_in mn 60 ∧ (∀ u_7 : Nat → Int32, u_7 = upd f mn.toNatClampNeg a → (∀ u_8 : Nat → Int32, u_8 = upd t mn.toNatClampNeg b → (∀ u_9 : Nat → Int32, u_9 = upd o mn.toNatClampNeg (vp_nar .boolean 1) → (pr_X3_rows u_7 u_8 w c u_9 nd rt ex (mn + 1) ∧ (∀ (w_10 : Nat → Int32), ps_X3_rows u_7 u_8 w c u_9 nd rt ex (mn + 1) w_10 → (Q 0 u_7 u_8 w_10 u_9 (mn + 1))))))))) ∧
 (mn = 60 → (Q 2 f t w o mn)))) ∧
 (r_3 = 0 → (Q 1 f t w o mn))))))))
theorem pf_X3_lays (f t w c o : Nat → Int32) (nd rt ex mn a b : Int32) (hp : pr_X3_lays f t w c o nd rt ex mn a b) : wp_X3_lays f t w c o nd rt ex mn a b (ps_X3_lays f t w c o nd rt ex mn a b) := by
  unfold wp_X3_lays ps_X3_lays ps_X3_isNode
  obtain ⟨hB, hn⟩ := hp
  rintro r rfl
  rw [i1_eq0]
  refine ⟨fun h1 => Or.inl ⟨fun h => h1 h.1, rfl, rfl, rfl, rfl, rfl, rfl⟩, fun h1 => ?_⟩
  rintro r rfl
  rw [i1_eq0]
  have h1 := Classical.not_not.1 h1
  refine ⟨fun h2 => ?_, fun h2 => Or.inl ⟨fun h => h2 h.2, rfl, rfl, rfl, rfl, rfl, rfl⟩⟩
  have h2 := Classical.not_not.1 h2
  refine ⟨fun h3 => ?_, fun h3 => Or.inr (Or.inl ⟨⟨h1, h2⟩, h3, rfl, rfl, rfl, rfl, rfl, rfl⟩)⟩
  obtain ⟨h4, h5⟩ := hB.lay h3 h1 h2 hn
  refine ⟨h4, fun u1 e1 u2 e2 u3 e3 => ?_⟩
  rw [nar_z (Or.inr rfl)] at e3
  subst e1 e2 e3
  exact ⟨h5, fun w' hw => Or.inr (Or.inr ⟨⟨h1, h2⟩, h3, rfl, rfl, rfl, rfl, rfl, hw⟩)⟩
def pr_X3_turns (f t w c o : Nat → Int32) (nd rt ex mn k z : Int32) : Prop := NetB f t o mn ∧ (z = 0 ∨ z = 1)
def ps_X3_turns (f t w c o : Nat → Int32) (nd rt ex mn k z : Int32) (r : Int32) (w' o' : Nat → Int32) : Prop := (¬ (0 ≤ k ∧ k < mn) ∧ r = 3 ∧ w' = w ∧ o' = o) ∨ ((0 ≤ k ∧ k < mn) ∧ o k.toNatClampNeg = z ∧ r = 4 ∧ w' = w ∧ o' = o) ∨ ((0 ≤ k ∧ k < mn) ∧ ¬ o k.toNatClampNeg = z ∧ r = 0 ∧ o' = upd o k.toNatClampNeg z ∧ RowsIs f t o' mn w')
def wp_X3_turns (f t w c o : Nat → Int32) (nd rt ex mn k z : Int32) (Q : Int32 → (Nat → Int32) → (Nat → Int32) → Prop) : Prop :=
  ∀ (r_1 : Int32), ps_X3_isArc f t w c o nd rt ex mn k r_1 → (((¬ r_1 = 0 → (vp_in k 60 ∧ (((¬ (o k.toNatClampNeg) = z → (∀ u_5 : Nat → Int32, u_5 = upd o k.toNatClampNeg (vp_nar .boolean z) → (pr_X3_rows f t w c u_5 nd rt ex mn ∧ (∀ (w_6 : Nat → Int32), ps_X3_rows f t w c u_5 nd rt ex mn w_6 → (Q 0 w_6 u_5))))) ∧
 ((o k.toNatClampNeg) = z → (Q 4 w o)))))) ∧
 (r_1 = 0 → (Q 3 w o))))
theorem pf_X3_turns (f t w c o : Nat → Int32) (nd rt ex mn k z : Int32) (hp : pr_X3_turns f t w c o nd rt ex mn k z) : wp_X3_turns f t w c o nd rt ex mn k z (ps_X3_turns f t w c o nd rt ex mn k z) := by
  unfold wp_X3_turns ps_X3_turns ps_X3_isArc
  obtain ⟨hB, hz⟩ := hp
  rintro r rfl
  rw [i1_eq0]
  refine ⟨fun h1 => ?_, fun h1 => Or.inl ⟨h1, rfl, rfl, rfl⟩⟩
  have h1 := Classical.not_not.1 h1
  refine ⟨vp60 hB.mn60 h1.1 h1.2, fun h2 => ?_, fun h2 => Or.inr (Or.inl ⟨h1, h2, rfl, rfl, rfl⟩)⟩
  intro u eu
  rw [nar_z hz] at eu
  subst eu
  exact ⟨hB.opn hz, fun w' hw => Or.inr (Or.inr ⟨h1, h2, rfl, rfl, hw⟩)⟩
def ps_X5_nodes (kp dp tw wt st : Nat → Int32) (tn tr tre tm ts : Int32) (r : Int32)  : Prop := r = tn
def wp_X5_nodes (kp dp tw wt st : Nat → Int32) (tn tr tre tm ts : Int32) (Q : Int32 → Prop) : Prop :=
  Q tn
theorem pf_X5_nodes (kp dp tw wt st : Nat → Int32) (tn tr tre tm ts : Int32) : wp_X5_nodes kp dp tw wt st tn tr tre tm ts (ps_X5_nodes kp dp tw wt st tn tr tre tm ts) := by
  rfl
def pr_X5_next (kp dp tw wt st : Nat → Int32) (tn tr tre tm ts k : Int32) : Prop := vp_in k 16
def ps_X5_next (kp dp tw wt st : Nat → Int32) (tn tr tre tm ts k : Int32) (r : Int32)  : Prop := r = tw k.toNatClampNeg
def wp_X5_next (kp dp tw wt st : Nat → Int32) (tn tr tre tm ts k : Int32) (Q : Int32 → Prop) : Prop :=
  vp_in k 16 ∧ (Q (tw k.toNatClampNeg))
theorem pf_X5_next (kp dp tw wt st : Nat → Int32) (tn tr tre tm ts k : Int32) (hp : pr_X5_next kp dp tw wt st tn tr tre tm ts k) : wp_X5_next kp dp tw wt st tn tr tre tm ts k (ps_X5_next kp dp tw wt st tn tr tre tm ts k) := by
  exact ⟨hp, rfl⟩
def pr_X8_reach_N (f t w c o : Nat → Int32) (nd rt ex mn fr bu : Int32) : Prop := RPre nd w fr bu
def ps_X8_reach_N (f t w c o : Nat → Int32) (nd rt ex mn fr bu : Int32) (r : Int32)  : Prop := IsSet r (Rs (Er nd w) (fun x => x = fr.toNatClampNeg) (fun x => bt bu x = true))
def wp_X8_reach_N_L19 (f t w c o : Nat → Int32) (nd rt ex mn bu : Int32) (J60 : Int32 → Prop) (ix5_137 ix3_138 : Int32) : Prop :=
  ∀ X19 : Int32 → Int32 → Prop, (∀ (x5_137 : Int32) (x3_138 : Int32), (∀ (r_140 : Int32), ps_X3_nodes f t w c o nd rt ex mn r_140 → (((r_140 ≤ x5_137 → (J60 x3_138)) ∧
 (¬ (r_140 ≤ x5_137) → (∀ (r_142 : Int32), ps_X1_has x3_138 x5_137 r_142 → (((r_142 = 0 → (X19 (x5_137 + 1) x3_138)) ∧
 (¬ (r_142 = 0) → (pr_X3_next f t w c o nd rt ex mn x5_137 ∧ (∀ (r_144 : Int32), ps_X3_next f t w c o nd rt ex mn x5_137 r_144 → (X19 (x5_137 + 1) (x3_138 ||| (r_144 &&& (bu ^^^ (-1))))))))))))))) → X19 x5_137 x3_138) → X19 ix5_137 ix3_138
def wp_X8_reach_N_L7 (f t w c o : Nat → Int32) (nd rt ex mn bu : Int32) (J63 : Int32 → Prop) (ix4_109 ix3_110 : Int32) : Prop :=
  ∀ X7 : Int32 → Int32 → Prop, (∀ (x4_109 : Int32) (x3_110 : Int32), (((x4_109 = x3_110 → (J63 x3_110)) ∧
 (¬ (x4_109 = x3_110) → (∀ J60 : Int32 → Prop, (∀ (x3_135 : Int32), (X7 x3_110 x3_135) → J60 x3_135) →
wp_X8_reach_N_L19 f t w c o nd rt ex mn bu J60 0 x3_110)))) → X7 x4_109 x3_110) → X7 ix4_109 ix3_110
def wp_X8_reach_N (f t w c o : Nat → Int32) (nd rt ex mn fr bu : Int32) (Q : Int32 → Prop) : Prop :=
  ∀ J63 : Int32 → Prop, (∀ (x3_107 : Int32), (Q x3_107) → J63 x3_107) →
wp_X8_reach_N_L7 f t w c o nd rt ex mn bu J63 0 (1 <<< (fr &&& 31))
theorem pf_X8_reach_N (f t w c o : Nat → Int32) (nd rt ex mn fr bu : Int32) (hp : pr_X8_reach_N f t w c o nd rt ex mn fr bu) : wp_X8_reach_N f t w c o nd rt ex mn fr bu (ps_X8_reach_N f t w c o nd rt ex mn fr bu) := by
  obtain ⟨n, a, rfl, hn, rfl, ha, hb, hρ⟩ := hp
  intro J hJ X hX
  refine reach_core (J := J) hn ha hb hρ (fun s hs => hJ s (by unfold ps_X8_reach_N; rw [clN (by omega)]; exact hs)) (X := X) (fun w s h => hX w s ⟨h.1, fun c J2 hJ2 Y hY => ?_⟩)
  refine h.2 c J2 hJ2 Y (fun i s' h2 => hY i s' (fun r er => ?_))
  cases er
  refine ⟨h2.1, fun c2 r2 er2 => ?_⟩
  unfold ps_X1_has at er2
  rw [er2, i1_eq0]
  refine ⟨(h2.2 c2).2, fun c3 => ?_⟩
  have h3 := (h2.2 c2).1 (Classical.not_not.1 c3)
  exact ⟨h3.1, fun r3 er3 => by cases er3; exact h3.2⟩
def pr_X8_reach_T (kp dp tw wt st : Nat → Int32) (tn tr tre tm ts fr bu : Int32) : Prop := RPre tn tw fr bu
def ps_X8_reach_T (kp dp tw wt st : Nat → Int32) (tn tr tre tm ts fr bu : Int32) (r : Int32)  : Prop := IsSet r (Rs (Er tn tw) (fun x => x = fr.toNatClampNeg) (fun x => bt bu x = true))
def wp_X8_reach_T_L19 (kp dp tw wt st : Nat → Int32) (tn tr tre tm ts bu : Int32) (J60 : Int32 → Prop) (ix5_137 ix3_138 : Int32) : Prop :=
  ∀ X19 : Int32 → Int32 → Prop, (∀ (x5_137 : Int32) (x3_138 : Int32), (∀ (r_140 : Int32), ps_X5_nodes kp dp tw wt st tn tr tre tm ts r_140 → (((r_140 ≤ x5_137 → (J60 x3_138)) ∧
 (¬ (r_140 ≤ x5_137) → (∀ (r_142 : Int32), ps_X1_has x3_138 x5_137 r_142 → (((r_142 = 0 → (X19 (x5_137 + 1) x3_138)) ∧
 (¬ (r_142 = 0) → (pr_X5_next kp dp tw wt st tn tr tre tm ts x5_137 ∧ (∀ (r_144 : Int32), ps_X5_next kp dp tw wt st tn tr tre tm ts x5_137 r_144 → (X19 (x5_137 + 1) (x3_138 ||| (r_144 &&& (bu ^^^ (-1))))))))))))))) → X19 x5_137 x3_138) → X19 ix5_137 ix3_138
def wp_X8_reach_T_L7 (kp dp tw wt st : Nat → Int32) (tn tr tre tm ts bu : Int32) (J63 : Int32 → Prop) (ix4_109 ix3_110 : Int32) : Prop :=
  ∀ X7 : Int32 → Int32 → Prop, (∀ (x4_109 : Int32) (x3_110 : Int32), (((x4_109 = x3_110 → (J63 x3_110)) ∧
 (¬ (x4_109 = x3_110) → (∀ J60 : Int32 → Prop, (∀ (x3_135 : Int32), (X7 x3_110 x3_135) → J60 x3_135) →
wp_X8_reach_T_L19 kp dp tw wt st tn tr tre tm ts bu J60 0 x3_110)))) → X7 x4_109 x3_110) → X7 ix4_109 ix3_110
def wp_X8_reach_T (kp dp tw wt st : Nat → Int32) (tn tr tre tm ts fr bu : Int32) (Q : Int32 → Prop) : Prop :=
  ∀ J63 : Int32 → Prop, (∀ (x3_107 : Int32), (Q x3_107) → J63 x3_107) →
wp_X8_reach_T_L7 kp dp tw wt st tn tr tre tm ts bu J63 0 (1 <<< (fr &&& 31))
theorem pf_X8_reach_T (kp dp tw wt st : Nat → Int32) (tn tr tre tm ts fr bu : Int32) (hp : pr_X8_reach_T kp dp tw wt st tn tr tre tm ts fr bu) : wp_X8_reach_T kp dp tw wt st tn tr tre tm ts fr bu (ps_X8_reach_T kp dp tw wt st tn tr tre tm ts fr bu) := by
  obtain ⟨n, a, rfl, hn, rfl, ha, hb, hρ⟩ := hp
  intro J hJ X hX
  refine reach_core (J := J) hn ha hb hρ (fun s hs => hJ s (by unfold ps_X8_reach_T; rw [clN (by omega)]; exact hs)) (X := X) (fun w s h => hX w s ⟨h.1, fun c J2 hJ2 Y hY => ?_⟩)
  refine h.2 c J2 hJ2 Y (fun i s' h2 => hY i s' (fun r er => ?_))
  cases er
  refine ⟨h2.1, fun c2 r2 er2 => ?_⟩
  unfold ps_X1_has at er2
  rw [er2, i1_eq0]
  refine ⟨(h2.2 c2).2, fun c3 => ?_⟩
  have h3 := (h2.2 c2).1 (Classical.not_not.1 c3)
  exact ⟨h3.1, fun r3 er3 => by cases er3; exact h3.2⟩
