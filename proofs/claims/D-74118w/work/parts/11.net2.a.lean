/-! net2: contracts, pure predicates (printed by gen.py) -/
def pr_X3_reached (f t w c o : Nat → Int32) (nd rt ex mn : Int32) : Prop := ∃ N, NetR N f t w c o nd rt ex mn
def ps_X3_reached (f t w c o : Nat → Int32) (nd rt ex mn : Int32) (r : Int32)  : Prop := ∀ N, NetR N f t w c o nd rt ex mn → IsSet r (Rd N.E N.root)
def wp_X3_reached (f t w c o : Nat → Int32) (nd rt ex mn : Int32) (Q : Int32 → Prop) : Prop :=
  pr_X8_reach_N f t w c o nd rt ex mn rt 0 ∧ (∀ (r_1 : Int32), ps_X8_reach_N f t w c o nd rt ex mn rt 0 r_1 → (Q r_1))
theorem pf_X3_reached (f t w c o : Nat → Int32) (nd rt ex mn : Int32) (hp : pr_X3_reached f t w c o nd rt ex mn) : wp_X3_reached f t w c o nd rt ex mn (ps_X3_reached f t w c o nd rt ex mn) := by
  obtain ⟨N, hN⟩ := hp
  have h1 := hN.1
  obtain ⟨-, e1, e2, -⟩ := id hN
  refine ⟨⟨N.n, N.root, e1, h1.2.1, e2, h1.2.2.1, b_0 _, hN.RowsW⟩, fun r hr N' hN' => ?_⟩
  obtain ⟨-, e1', e2', -⟩ := id hN'
  have h1' := hN'.1
  refine hr.congr (fun k hk => Rs.congr (fun a b => hN'.Er a b) (fun a => ?_) (fun a => by rw [b_zero]))
  rw [e2', clN (by have := h1'.2.2.1; have := h1'.2.1; omega)]
def pr_X3_isOpenFrom (f t w c o : Nat → Int32) (nd rt ex mn k s : Int32) : Prop := vp_in k 60
def ps_X3_isOpenFrom (f t w c o : Nat → Int32) (nd rt ex mn k s : Int32) (r : Int32)  : Prop := r = i1 (¬ o k.toNatClampNeg = 0 ∧ hs s (f k.toNatClampNeg))
def wp_X3_isOpenFrom (f t w c o : Nat → Int32) (nd rt ex mn k s : Int32) (Q : Int32 → Prop) : Prop :=
  vp_in k 60 ∧ ((((o k.toNatClampNeg) = 0 → (Q 0)) ∧
 (¬ ((o k.toNatClampNeg) = 0) → (∀ (r_3 : Int32), ps_X1_has s (f k.toNatClampNeg) r_3 → (((r_3 = 0 → (Q 0)) ∧
 (¬ (r_3 = 0) → (Q 1))))))))
theorem pf_X3_isOpenFrom (f t w c o : Nat → Int32) (nd rt ex mn k s : Int32) (hp : pr_X3_isOpenFrom f t w c o nd rt ex mn k s) : wp_X3_isOpenFrom f t w c o nd rt ex mn k s (ps_X3_isOpenFrom f t w c o nd rt ex mn k s) := by
  refine ⟨hp, fun c => (i1_f (fun h => h.1 c)).symm, fun c r hr => ?_⟩
  unfold ps_X1_has at hr
  rw [hr, i1_eq0]
  exact ⟨fun d => (i1_f (fun h => d h.2)).symm, fun d => (i1_t ⟨c, Classical.not_not.1 d⟩).symm⟩
def pr_X3_reachedBut (f t w c o : Nat → Int32) (nd rt ex mn k : Int32) : Prop := ∃ N x, NetR N f t w c o nd rt ex mn ∧ k = nI x ∧ x < N.m ∧ N.op x = true
def ps_X3_reachedBut (f t w c o : Nat → Int32) (nd rt ex mn k : Int32) (r : Int32) (w' o' : Nat → Int32) : Prop := ∀ N x, NetR N f t w c o nd rt ex mn → k = nI x → N.op x = true → x < N.m → NetR N f t w' c o' nd rt ex mn ∧ IsSet r (Rd (N.Eb x) N.root)
def wp_X3_reachedBut (f t w c o : Nat → Int32) (nd rt ex mn k : Int32) (Q : Int32 → (Nat → Int32) → (Nat → Int32) → Prop) : Prop :=
  vp_in k 60 ∧ (∀ u_2 : Nat → Int32, u_2 = upd o k.toNatClampNeg (vp_nar .boolean 0) → (pr_X3_rows f t w c u_2 nd rt ex mn ∧ (∀ (w_3 : Nat → Int32), ps_X3_rows f t w c u_2 nd rt ex mn w_3 → (pr_X3_reached f t w_3 c u_2 nd rt ex mn ∧ (∀ (r_4 : Int32), ps_X3_reached f t w_3 c u_2 nd rt ex mn r_4 → (∀ u_5 : Nat → Int32, u_5 = upd u_2 k.toNatClampNeg (vp_nar .boolean 1) → (pr_X3_rows f t w_3 c u_5 nd rt ex mn ∧ (∀ (w_6 : Nat → Int32), ps_X3_rows f t w_3 c u_5 nd rt ex mn w_6 → (Q r_4 w_6 u_5)))))))))
theorem pf_X3_reachedBut (f t w c o : Nat → Int32) (nd rt ex mn k : Int32) (hp : pr_X3_reachedBut f t w c o nd rt ex mn k) : wp_X3_reachedBut f t w c o nd rt ex mn k (ps_X3_reachedBut f t w c o nd rt ex mn k) := by
  obtain ⟨N, x, hN, rfl, hx, hop⟩ := hp
  have h60 : N.m ≤ 60 := hN.1.2.2.2.2.1
  refine ⟨vp_in_nI (by omega) (by decide), ?_⟩
  rw [clN (by omega)]
  intro u eu
  have eu : u = upd o x 0 := eu
  subst eu
  have hB := hN.B
  have hB0 : NetB f t (upd o x 0) mn := by have := hB.opn (k := nI x) (z := 0) (Or.inl rfl); rwa [clN (by omega)] at this
  have hox : o x = 1 := ((hN.2.2.2.2.2.2.2.1) x hx).1 hop
  refine ⟨hB0, fun w3 hw3 => ?_⟩
  have hN3 := hN.turn (x := x) false 0 ⟨by simp, fun _ => rfl⟩ hw3
  refine ⟨⟨_, hN3⟩, fun r hr u5 eu5 => ?_⟩
  have eu5 : u5 = upd (upd o x 0) x 1 := eu5
  rw [upd_back hox] at eu5
  subst eu5
  refine ⟨hB, fun w6 hw6 N' x' hN' ex' hop' hx' => ?_⟩
  have h60' : N'.m ≤ 60 := hN'.1.2.2.2.2.1
  rw [eqN (by omega) (by omega)] at ex'
  subst ex'
  refine ⟨hN'.rowsNew hw6, ?_⟩
  have hN3' := hN'.turn (x := x) false 0 ⟨by simp, fun _ => rfl⟩ hw3
  exact (hr _ hN3').congr (fun a ha => Rd.congr (fun a b => NetM.turn_Eb))
