/-! ACTS: what each act does to a net, as numbers (own work) -/
def NetM.setR (N : NetM) (r : Nat) : NetM := ((N.n, r, N.exit, N.m), N.2)
def NetM.setX (N : NetM) (r : Nat) : NetM := ((N.n, N.root, r, N.m), N.2)
def NetM.setT (N : NetM) (a v : Nat) : NetM := (N.1, N.fr, N.to, N.op, fun k => if k = a then v else N.tl k)
def NetM.add (N : NetM) (a b : Nat) : NetM := ((N.n, N.root, N.exit, N.m + 1), (fun k => if k = N.m then a else N.fr k), (fun k => if k = N.m then b else N.to k), (fun k => if k = N.m then true else N.op k), N.tl)
def freshN (n : Nat) : NetM := ((n, 0, n - 1, 0), (fun _ => 0), (fun _ => 0), (fun _ => false), fun _ => 1)
def tellF (N : NetM) (v : Int32) (z : Bool) : Nat × NetM := if 0 ≤ v ∧ v < nI N.n then (if (if z = true then N.exit else N.root) = v.toNatClampNeg then (4, N) else (0, if z = true then N.setX v.toNatClampNeg else N.setR v.toNatClampNeg)) else (1, N)
def layF (N : NetM) (a b : Int32) : Nat × NetM := if (0 ≤ a ∧ a < nI N.n) ∧ (0 ≤ b ∧ b < nI N.n) then (if N.m = 60 then (2, N) else (0, N.add a.toNatClampNeg b.toNatClampNeg)) else (1, N)
def turnF (N : NetM) (k : Int32) (b : Bool) : Nat × NetM := if 0 ≤ k ∧ k < nI N.m then (if N.op k.toNatClampNeg = b then (4, N) else (0, N.turn k.toNatClampNeg b)) else (3, N)
def tollF (N : NetM) (v t : Int32) : Nat × NetM := if 0 ≤ v ∧ v < nI N.n then (if N.tl v.toNatClampNeg = t.toNatClampNeg then (4, N) else (0, N.setT v.toNatClampNeg t.toNatClampNeg)) else (1, N)
def zB (z : Int32) : Bool := !decide (z = 0)
theorem zB_0 : zB 0 = false := rfl
theorem zB_1 : zB 1 = true := rfl
section ACT
variable {N : NetM} {f t w c o : Nat → Int32} {nd rt ex mn : Int32}
theorem tells_R (hN : NetR N f t w c o nd rt ex mn) {k z r rt' ex' : Int32} (h : ps_X3_tells f t w c o nd rt ex mn k z r rt' ex') : r = nI (tellF N k (zB z)).1 ∧ NetR (tellF N k (zB z)).2 f t w c o nd rt' ex' mn := by
  have hN0 := hN
  obtain ⟨hok, h1, h2, h3, h4, hrest⟩ := hN
  obtain ⟨k1, k2, k3, k4, k5, k6, k7⟩ := hok
  subst h1; subst h2; subst h3
  unfold tellF
  rcases h with ⟨g1, g2, g3, g4⟩ | ⟨g1, g2, g3, g4, g5⟩ | ⟨g1, g2, g3, g4, g5⟩
  · subst g3; subst g4
    rw [if_neg g1]
    exact ⟨g2, hN0⟩
  · subst g4; subst g5
    obtain ⟨V, hV, rfl⟩ := (of_in (by omega)).1 g1
    rw [if_pos g1, clN (by omega)]
    have e : (if zB z = true then N.exit else N.root) = V := by
      by_cases q : z = 0
      · subst q; rw [zB_0, if_neg Bool.false_ne_true]; rw [if_pos rfl] at g2; exact (eqN (by omega) (by omega)).mp g2
      · have : zB z = true := by unfold zB; simp [q]
        rw [if_pos this]; rw [if_neg q] at g2; exact (eqN (by omega) (by omega)).mp g2
    rw [if_pos e]
    exact ⟨g3, hN0⟩
  · obtain ⟨V, hV, rfl⟩ := (of_in (by omega)).1 g1
    rw [if_pos g1, clN (by omega)]
    by_cases q : z = 0
    · subst q
      rw [if_pos rfl] at g2 g4 g5
      have ne : ¬ (if zB 0 = true then N.exit else N.root) = V := fun e => g2 (by rw [zB_0] at e; exact congrArg nI e)
      rw [if_neg ne, g4, g5]
      exact ⟨g3, ⟨k1, k2, hV, k4, k5, k6, k7⟩, rfl, rfl, rfl, h4, hrest⟩
    · have hz : zB z = true := by unfold zB; simp [q]
      rw [if_neg q] at g2 g4 g5
      have ne : ¬ (if zB z = true then N.exit else N.root) = V := fun e => g2 (by rw [if_pos hz] at e; exact congrArg nI e)
      rw [if_neg ne, g4, g5, if_pos hz]
      exact ⟨g3, ⟨k1, k2, k3, hV, k5, k6, k7⟩, rfl, rfl, rfl, h4, hrest⟩
theorem asks_R (hN : NetR N f t w c o nd rt ex mn) {k z r : Int32} {c' : Nat → Int32} (hz : 0 ≤ z ∧ z ≤ 99) (h : ps_X3_asks f t w c o nd rt ex mn k z r c') : r = nI (tollF N k z).1 ∧ NetR (tollF N k z).2 f t w c' o nd rt ex mn := by
  have hN0 := hN
  obtain ⟨hok, h1, h2, h3, h4, h5, h6, h7, h8, h9⟩ := hN
  have hok0 := hok
  obtain ⟨k1, k2, k3, k4, k5, k6, k7⟩ := hok
  subst h1
  obtain ⟨T, hT, rfl⟩ := nat_of (n := 99) (by decide) hz.1 hz.2
  unfold tollF
  rw [clN (k := T) (by omega)]
  rcases h with ⟨g1, g2, g3⟩ | ⟨g1, g2, g3, g4⟩ | ⟨g1, g2, g3, g4⟩
  · subst g3
    rw [if_neg g1]
    exact ⟨g2, hN0⟩
  · subst g4
    obtain ⟨V, hV, rfl⟩ := (of_in (by omega)).1 g1
    rw [clN (by omega), h8 V (by omega)] at g2
    have hl := k7 V (by omega)
    rw [if_pos g1, clN (k := V) (by omega), if_pos ((eqN (by omega) (by omega)).mp g2)]
    exact ⟨g3, hN0⟩
  · obtain ⟨V, hV, rfl⟩ := (of_in (by omega)).1 g1
    rw [clN (by omega), h8 V (by omega)] at g2
    rw [clN (by omega)] at g4
    have hl := k7 V (by omega)
    rw [if_pos g1, clN (k := V) (by omega), if_neg (fun e => g2 (congrArg nI e))]
    refine ⟨g3, ⟨k1, k2, k3, k4, k5, k6, fun a ha => ?_⟩, rfl, h2, h3, h4, h5, h6, h7, fun a ha => ?_, h9⟩
    · show (if a = V then T else N.tl a) ≤ 99
      split
      · exact hT
      · exact k7 a ha
    · show c' a = nI (if a = V then T else N.tl a)
      rw [g4]
      by_cases e : a = V
      · subst e; rw [upd_s, if_pos rfl]
      · rw [upd_n e, if_neg e]; exact h8 a ha
theorem turns_R (hN : NetR N f t w c o nd rt ex mn) {k z r : Int32} {w' o' : Nat → Int32} (hz : z = 0 ∨ z = 1) (h : ps_X3_turns f t w c o nd rt ex mn k z r w' o') : r = nI (turnF N k (zB z)).1 ∧ NetR (turnF N k (zB z)).2 f t w' c o' nd rt ex mn := by
  have hN0 := hN
  have h60 := hN.m60
  have hmn := hN.mn
  subst hmn
  unfold turnF
  rcases h with ⟨g1, g2, g3, g4⟩ | ⟨g1, g2, g3, g4, g5⟩ | ⟨g1, g2, g3, g4, g5⟩
  · subst g3; subst g4
    rw [if_neg g1]
    exact ⟨g2, hN0⟩
  · subst g4; subst g5
    obtain ⟨K, hK, rfl⟩ := (of_in (by omega)).1 g1
    rw [clN (by omega)] at g2
    have ho := hN.opn hK
    have e : N.op K = zB z := by
      rcases hz with q | q
      · subst q
        rw [zB_0]
        cases hb : N.op K
        · rfl
        · exact absurd g2 (ho.2 hb)
      · subst q
        rw [zB_1]
        exact ho.1 (by rw [g2]; decide)
    rw [if_pos g1, clN (by omega), if_pos e]
    exact ⟨g3, hN0⟩
  · obtain ⟨K, hK, rfl⟩ := (of_in (by omega)).1 g1
    rw [clN (by omega)] at g2 g4
    have ho := hN.opn hK
    have e : ¬ N.op K = zB z := by
      intro q
      rcases hz with q2 | q2
      · subst q2
        rw [zB_0] at q
        exact g2 (Classical.not_not.1 (fun y => by rw [ho.1 y] at q; exact absurd q (by simp)))
      · subst q2
        rw [zB_1] at q
        have := hN.2.2.2.2.2.2.2.1 K hK
        exact g2 (this.1 q)
    rw [if_pos g1, clN (by omega), if_neg e]
    subst g4
    refine ⟨g3, hN0.turn (zB z) z ⟨fun q => ?_, fun q => ?_⟩ g5⟩
    · rcases hz with q2 | q2
      · subst q2; exact absurd q (by decide)
      · exact q2
    · rcases hz with q2 | q2
      · exact q2
      · subst q2; exact absurd q (by decide)
theorem lays_R (hN : NetR N f t w c o nd rt ex mn) {a b r : Int32} {f' t' w' o' : Nat → Int32} {mn' : Int32} (h : ps_X3_lays f t w c o nd rt ex mn a b r f' t' w' o' mn') : r = nI (layF N a b).1 ∧ NetR (layF N a b).2 f' t' w' c o' nd rt ex mn' := by
  have hN0 := hN
  obtain ⟨hok, h1, h2, h3, h4, h5, h6, h7, h8, h9⟩ := hN
  obtain ⟨k1, k2, k3, k4, k5, k6, k7⟩ := hok
  subst h1; subst h4
  unfold layF
  rcases h with ⟨g1, g2, g3, g4, g5, g6, g7⟩ | ⟨g1, g2, g3, g4, g5, g6, g7, g8⟩ | ⟨g1, g2, g3, g4, g5, g6, g7, g8⟩
  · subst g3; subst g4; subst g5; subst g6; subst g7
    rw [if_neg g1]
    exact ⟨g2, hN0⟩
  · subst g4; subst g5; subst g6; subst g7; subst g8
    rw [if_pos g1, if_pos ((eqN (b := 60) (by omega) (by omega)).mp g2)]
    exact ⟨g3, hN0⟩
  · have hm : ¬ N.m = 60 := fun e => g2 (by rw [e]; rfl)
    obtain ⟨A, hA, rfl⟩ := (of_in (by omega)).1 g1.1
    obtain ⟨B, hB, rfl⟩ := (of_in (by omega)).1 g1.2
    rw [clN (by omega)] at g4 g5 g6
    rw [if_pos g1, if_neg hm, clN (by omega), clN (by omega)]
    refine ⟨g3, ⟨k1, k2, k3, k4, by show N.m + 1 ≤ 60; omega, fun k hk => ?_, k7⟩, rfl, h2, h3, by rw [g7, nI_1]; rfl, fun k hk => ?_, fun k hk => ?_, fun k hk => ?_, h8, g8⟩
    · have hk : k < N.m + 1 := hk
      show (if k = N.m then A else N.fr k) < N.n ∧ (if k = N.m then B else N.to k) < N.n
      by_cases e : k = N.m
      · rw [if_pos e, if_pos e]; exact ⟨hA, hB⟩
      · rw [if_neg e, if_neg e]; exact k6 k (by omega)
    · have hk : k < N.m + 1 := hk
      show f' k = nI (if k = N.m then A else N.fr k) ∧ t' k = nI (if k = N.m then B else N.to k)
      rw [g4, g5]
      by_cases e : k = N.m
      · subst e; rw [if_pos rfl, if_pos rfl, upd_s, upd_s]; exact ⟨rfl, rfl⟩
      · rw [if_neg e, if_neg e, upd_n e, upd_n e]; exact h5 k (by omega)
    · rw [g6]
      by_cases e : k = N.m
      · subst e; rw [upd_s]; exact Or.inr rfl
      · rw [upd_n e]; exact h6 k hk
    · have hk : k < N.m + 1 := hk
      show (if k = N.m then true else N.op k) = true ↔ o' k = 1
      rw [g6]
      by_cases e : k = N.m
      · subst e; rw [if_pos rfl, upd_s]; exact ⟨fun _ => rfl, fun _ => rfl⟩
      · rw [if_neg e, upd_n e]; exact h7 k (by omega)
theorem begins_R {n : Nat} (hn : 2 ≤ n ∧ n ≤ 16) (ho : ∀ k, k < 60 → o k = 0 ∨ o k = 1) {w' c' : Nat → Int32} {nd' rt' ex' mn' : Int32} (h : ps_X3_begins f t w c o nd rt ex mn (nI n) w' c' nd' rt' ex' mn') : NetR (freshN n) f t w' c' o nd' rt' ex' mn' := by
  obtain ⟨h1, h2, h3, h4, h5, h6⟩ := h
  subst h1; subst h2; subst h3; subst h4
  refine ⟨⟨hn.1, hn.2, by show 0 < n; omega, by show n - 1 < n; omega, by show 0 ≤ 60; omega, fun k hk => absurd hk (by show ¬ k < 0; omega), fun a _ => by show 1 ≤ 99; omega⟩, rfl, rfl, ?_, rfl, fun k hk => absurd hk (by show ¬ k < 0; omega), ho, fun k hk => absurd hk (by show ¬ k < 0; omega), fun a ha => h5 a ha, h6⟩
  show nI n - 1 = nI (n - 1)
  rw [n1, pk_sub (by omega)]
end ACT
theorem NetM.add_E {N : NetM} {a b x y : Nat} : (N.add a b).E x y ↔ Ins N.E a b x y := by
  constructor
  · rintro ⟨k, hk, h1, h2, h3⟩
    have hk : k < N.m + 1 := hk
    have h1 : (if k = N.m then true else N.op k) = true := h1
    have h2 : (if k = N.m then a else N.fr k) = x := h2
    have h3 : (if k = N.m then b else N.to k) = y := h3
    by_cases e : k = N.m
    · rw [if_pos e] at h2 h3; exact Or.inr ⟨h2.symm, h3.symm⟩
    · rw [if_neg e] at h1 h2 h3; exact Or.inl ⟨k, by omega, h1, h2, h3⟩
  · rintro (⟨k, hk, h1, h2, h3⟩ | ⟨rfl, rfl⟩)
    · have e : ¬ k = N.m := by omega
      refine ⟨k, by show k < N.m + 1; omega, ?_, ?_, ?_⟩
      · show (if k = N.m then true else N.op k) = true
        rw [if_neg e]; exact h1
      · show (if k = N.m then a else N.fr k) = x
        rw [if_neg e]; exact h2
      · show (if k = N.m then b else N.to k) = y
        rw [if_neg e]; exact h3
    · exact ⟨N.m, by show N.m < N.m + 1; omega, if_pos rfl, if_pos rfl, if_pos rfl⟩
theorem NetM.turn_E {N : NetM} {k x y : Nat} (hk : k < N.m) : (N.turn k true).E x y ↔ Ins N.E (N.fr k) (N.to k) x y := by
  constructor
  · rintro ⟨j, hj, h1, h2, h3⟩
    have h1 : (if j = k then true else N.op j) = true := h1
    by_cases e : j = k
    · subst e; exact Or.inr ⟨h2.symm, h3.symm⟩
    · rw [if_neg e] at h1; exact Or.inl ⟨j, hj, h1, h2, h3⟩
  · rintro (⟨j, hj, h1, h2, h3⟩ | ⟨rfl, rfl⟩)
    · refine ⟨j, hj, ?_, h2, h3⟩
      show (if j = k then true else N.op j) = true
      split
      · rfl
      · exact h1
    · exact ⟨k, hk, if_pos rfl, rfl, rfl⟩
/-- what the latest act changed -/
def Latest (N0 N : NetM) (ga lo mo li : Int32) : Prop := IsSet ga (fun x => Rd N.E N.root x ∧ ¬ Rd N0.E N0.root x) ∧ IsSet lo (fun x => Rd N0.E N0.root x ∧ ¬ Rd N.E N.root x) ∧ IsSet mo (Mv N0.E N0.root N.E N.root) ∧ li = LiftV N0.E N0.root N0.n N.E N.root
theorem tellF_c (N : NetM) (v : Int32) (b : Bool) : (tellF N v b).1 ≤ 4 ∧ (¬ (tellF N v b).1 = 0 → (tellF N v b).2 = N) ∧ (tellF N v b).2.n = N.n := by
  unfold tellF
  by_cases h : 0 ≤ v ∧ v < nI N.n
  · rw [if_pos h]
    by_cases g : (if b = true then N.exit else N.root) = v.toNatClampNeg
    · rw [if_pos g]; exact ⟨Nat.le_of_ble_eq_true rfl, fun _ => rfl, rfl⟩
    · rw [if_neg g]; exact ⟨Nat.zero_le _, fun q => absurd rfl q, by cases b <;> rfl⟩
  · rw [if_neg h]; exact ⟨Nat.le_of_ble_eq_true rfl, fun _ => rfl, rfl⟩
theorem layF_c (N : NetM) (a b : Int32) : (layF N a b).1 ≤ 4 ∧ (¬ (layF N a b).1 = 0 → (layF N a b).2 = N) ∧ (layF N a b).2.n = N.n ∧ ((layF N a b).1 = 0 → ∃ A B, (layF N a b).2 = N.add A B) := by
  unfold layF
  by_cases h : (0 ≤ a ∧ a < nI N.n) ∧ (0 ≤ b ∧ b < nI N.n)
  · rw [if_pos h]
    by_cases g : N.m = 60
    · rw [if_pos g]; exact ⟨Nat.le_of_ble_eq_true rfl, fun _ => rfl, rfl, fun q => absurd q (by show ¬ 2 = 0; omega)⟩
    · rw [if_neg g]; exact ⟨Nat.zero_le _, fun q => absurd rfl q, rfl, fun _ => ⟨_, _, rfl⟩⟩
  · rw [if_neg h]; exact ⟨Nat.le_of_ble_eq_true rfl, fun _ => rfl, rfl, fun q => absurd q (by show ¬ 1 = 0; omega)⟩
theorem turnF_c {N : NetM} (hN : N.ok) (k : Int32) (b : Bool) : (turnF N k b).1 ≤ 4 ∧ (¬ (turnF N k b).1 = 0 → (turnF N k b).2 = N) ∧ (turnF N k b).2.n = N.n ∧ ((turnF N k b).1 = 0 → ∃ K, k = nI K ∧ K < N.m ∧ (turnF N k b).2 = N.turn K b) := by
  have h60 := hN.2.2.2.2.1
  unfold turnF
  by_cases h : 0 ≤ k ∧ k < nI N.m
  · rw [if_pos h]
    obtain ⟨K, hK, rfl⟩ := (of_in (by omega)).1 h
    rw [clN (by omega)]
    by_cases g : N.op K = b
    · rw [if_pos g]; exact ⟨Nat.le_of_ble_eq_true rfl, fun _ => rfl, rfl, fun q => absurd q (by show ¬ 4 = 0; omega)⟩
    · rw [if_neg g]; exact ⟨Nat.zero_le _, fun q => absurd rfl q, rfl, fun _ => ⟨K, rfl, hK, rfl⟩⟩
  · rw [if_neg h]; exact ⟨Nat.le_of_ble_eq_true rfl, fun _ => rfl, rfl, fun q => absurd q (by show ¬ 3 = 0; omega)⟩
theorem tollF_c (N : NetM) (v t : Int32) : (tollF N v t).1 ≤ 4 ∧ (¬ (tollF N v t).1 = 0 → (tollF N v t).2 = N) ∧ (tollF N v t).2.n = N.n ∧ ((tollF N v t).1 = 0 → 0 ≤ v ∧ v < nI N.n) := by
  unfold tollF
  by_cases h : 0 ≤ v ∧ v < nI N.n
  · rw [if_pos h]
    by_cases g : N.tl v.toNatClampNeg = t.toNatClampNeg
    · rw [if_pos g]; exact ⟨Nat.le_of_ble_eq_true rfl, fun _ => rfl, rfl, fun q => absurd q (by show ¬ 4 = 0; omega)⟩
    · rw [if_neg g]; exact ⟨Nat.zero_le _, fun q => absurd rfl q, rfl, fun _ => h⟩
  · rw [if_neg h]; exact ⟨Nat.le_of_ble_eq_true rfl, fun _ => rfl, rfl, fun q => absurd q (by show ¬ 1 = 0; omega)⟩
theorem code0 {c : Nat} (h : c ≤ 4) (e : nI c = 0) : c = 0 := (eqN (b := 0) (by omega) (by omega)).mp e
