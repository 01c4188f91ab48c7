/-! the public queries of the model (own work) -/
def CountJ (N : NetM) (un r : Int32) : Nat → Prop
  | 0 => r = nI N.n
  | 1 => r = nI N.root
  | 2 => r = nI N.exit
  | 3 => r = nI N.m
  | 4 => r = nI (cnt N.m (fun k => N.op k = true))
  | 5 => IsSet r (Rd N.E N.root)
  | 6 => r = nI (mxP N.n (Rd N.E N.root) (dep N.E N.root N.n))
  | 7 => IsSet r (fun n => ∃ u, Tail N.E N.root u n)
  | 8 => r = nI (cnt N.m (fun k => KindIs N k 2))
  | 9 => r = nI (cnt N.m (Bridge N))
  | 10 => IsB r (Sound N.E N.root)
  | 11 => r = nI (smP N.n (Rd N.E N.root) (dep N.E N.root N.n))
  | 12 => IsSet r (fun v => Rd N.E N.root v ∧ ∀ x, ¬ Pd N.E N.root v x)
  | 13 => r = nI (mxP N.n (fun _ => True) (fun v => cnt 16 (fun h => h < N.n ∧ Body N.E N.root h v)))
  | 14 => r = un
  | 15 => r = nI (smP N.n (Rd N.E N.root) (fun a => cnt 16 (fun x => Pd N.E N.root a x ∧ OutG N a x)))
  | 16 => r = nI (cnt N.n (RingLow N.E N.root))
  | 17 => r = nI (smP N.n (Rd N.E N.root) N.tl)
  | _ => r = nI (cnt N.m (Spare N))
def CountIs (N : NetM) (un j r : Int32) : Prop := (∃ J, j = nI J ∧ J ≤ 18 ∧ CountJ N un r J) ∨ (¬ (0 ≤ j ∧ j ≤ 18) ∧ r = -1)
theorem of_toI {j : Int32} {c : Nat} (hc : c < 2 ^ 31) (h : j.toInt = (c : Int)) : j = nI c := Int32.toInt_inj.1 (h.trans (nI_toInt hc).symm)
theorem thrA {r : Int32} {P Q : Prop} (h : r = 0 ∧ (((0 : Int32) = 0 ∧ P) ∨ ((0 : Int32) = 1 ∧ Q))) : r = 0 ∧ P := ⟨h.1, h.2.elim (fun q => q.2) (fun q => absurd q.1 (by decide))⟩
theorem thrB {r : Int32} {P Q : Prop} (h : r = 1 ∧ (((1 : Int32) = 0 ∧ P) ∨ ((1 : Int32) = 1 ∧ Q))) : r = 1 ∧ Q := ⟨h.1, h.2.elim (fun q => absurd q.1 (by decide)) (fun q => q.2)⟩
theorem ndZ {r th : Int32} {A : Prop} (h : (r = 0 ∧ th = 0 ∧ A) ∨ (r = 1 ∧ th = 1 ∧ ¬ A)) (z : r = 0) : th = 0 ∧ A := h.elim (fun q => q.2) (fun q => absurd (q.1.symm.trans z) (by decide))
theorem ndN {r th : Int32} {A : Prop} (h : (r = 0 ∧ th = 0 ∧ A) ∨ (r = 1 ∧ th = 1 ∧ ¬ A)) (z : ¬ r = 0) : th = 1 ∧ ¬ A := h.elim (fun q => absurd q.1 z) (fun q => q.2)
theorem SubN.bit {n V : Nat} (hV : V < n) (h16 : n ≤ 16) : SubN n ((1 : Int32) <<< (nI V &&& 31)) := fun k _ q => by
  have := (bt_one (by omega) k).1 q
  omega
theorem SubN.shr {n : Nat} (h16 : n ≤ 16) {s : Int32} : s >>> (nI n &&& 31) = 0 ↔ SubN n s := by
  constructor
  · intro h k hk hs
    apply Classical.byContradiction
    intro q
    have := congrArg (fun z => bt z (k - n)) h
    simp only [b_0] at this
    rw [b_sshr n (by omega) s (by omega), if_pos (by omega), show n + (k - n) = k by omega, hs] at this
    exact absurd this (by decide)
  · intro h
    apply b_ext
    intro i hi
    rw [b_sshr n (by omega) s hi, b_0]
    by_cases q : n + i < 32
    · rw [if_pos q]
      apply Bool.eq_false_iff.2
      intro w
      have := h _ q w
      omega
    · rw [if_neg q]
      apply Bool.eq_false_iff.2
      intro w
      have := h 31 (by omega) w
      omega
theorem SubN.nn {n : Nat} (h16 : n ≤ 16) {s : Int32} (h : SubN n s) : ¬ s < 0 := by
  obtain ⟨k, hk, hs⟩ := num_set (W := fun x => x < 32 ∧ bt s x = true) h16 (fun x q => h x q.1 q.2)
  have e : s = nI k := b_ext (fun i hi => by
    have := hs i
    cases h1 : bt s i <;> cases h2 : bt (nI k) i
    · rfl
    · exact absurd (this.1 h2).2 (by rw [h1]; decide)
    · exact absurd (this.2 ⟨hi, h1⟩) (by rw [h2]; decide)
    · rfl)
  rw [e]
  have p16 : 2 ^ n ≤ 2 ^ 16 := Nat.pow_le_pow_right (by omega) h16
  rw [Int32.not_lt, show (0 : Int32) = nI 0 from rfl, leN (by omega) (by omega)]
  omega
/-! mod6: contracts, pure predicates (printed by gen.py) -/
def pr_X7_noNode (N : NetM) (jth jrm jwy jhi jmf jmt jla jre jwr jga jlo jmo jli jta jpt jen jbg jfa jwt jac jng jnl jnm jnv jwm : Int32) (mW mG mP mK : Nat → Int32) (v : Int32) : Prop := NetW N mW ∧ jmf = -1 ∧ jla = -1
def ps_X7_noNode (N : NetM) (jth jrm jwy jhi jmf jmt jla jre jwr jga jlo jmo jli jta jpt jen jbg jfa jwt jac jng jnl jnm jnv jwm : Int32) (mW mG mP mK : Nat → Int32) (v : Int32) (r : Int32) (jth' jre' : Int32) (mG' mP' mK' : Nat → Int32) : Prop := GatR N.E N.root N.n jre' mG' mP' mK' ∧ ((r = 0 ∧ jth' = 0 ∧ (0 ≤ v ∧ v < nI N.n)) ∨ (r = 1 ∧ jth' = 1 ∧ ¬ (0 ≤ v ∧ v < nI N.n)))
def wp_X7_noNode (jth jrm jwy jhi jmf jmt jla jre jwr jga jlo jmo jli jta jpt jen jbg jfa jwt jac jng jnl jnm jnv jwm : Int32) (mW mG mP mK : Nat → Int32) (v : Int32) (Q : Int32 → Int32 → Int32 → (Nat → Int32) → (Nat → Int32) → (Nat → Int32) → Prop) : Prop :=
  ∃ (N_1 : NetM) (E_1 : Nat → Nat → Prop), (pr_X7_laysGates N_1 E_1 0 jrm jwy jhi jmf jmt jla jre jwr jga jlo jmo jli jta jpt jen jbg jfa jwt jac jng jnl jnm jnv jwm mW mG mP mK ∧ (∀ (jre_1 : Int32) (mG_1 mP_1 mK_1 : Nat → Int32), ps_X7_laysGates N_1 E_1 0 jrm jwy jhi jmf jmt jla jre jwr jga jlo jmo jli jta jpt jen jbg jfa jwt jac jng jnl jnm jnv jwm mW mG mP mK jre_1 mG_1 mP_1 mK_1 → (∃ (N_2 : NetM), (pr_X7_isNode N_2 0 jrm jwy jhi jmf jmt jla jre_1 jwr jga jlo jmo jli jta jpt jen jbg jfa jwt jac jng jnl jnm jnv jwm mW v ∧ (∀ (r_2 : Int32), ps_X7_isNode N_2 0 jrm jwy jhi jmf jmt jla jre_1 jwr jga jlo jmo jli jta jpt jen jbg jfa jwt jac jng jnl jnm jnv jwm mW v r_2 → (((¬ r_2 = 0 → (pr_X7_throwsIf 0 jrm jwy jhi jmf jmt jla jre_1 jwr jga jlo jmo jli jta jpt jen jbg jfa jwt jac jng jnl jnm jnv jwm 0 1 ∧ (∀ (r_4 jth_4 : Int32), ps_X7_throwsIf 0 jrm jwy jhi jmf jmt jla jre_1 jwr jga jlo jmo jli jta jpt jen jbg jfa jwt jac jng jnl jnm jnv jwm 0 1 r_4 jth_4 → ((r_4 = 0 ∨ r_4 = 1) ∧ (Q r_4 jth_4 jre_1 mG_1 mP_1 mK_1))))) ∧
 (r_2 = 0 → (pr_X7_throwsIf 0 jrm jwy jhi jmf jmt jla jre_1 jwr jga jlo jmo jli jta jpt jen jbg jfa jwt jac jng jnl jnm jnv jwm 1 1 ∧ (∀ (r_5 jth_5 : Int32), ps_X7_throwsIf 0 jrm jwy jhi jmf jmt jla jre_1 jwr jga jlo jmo jli jta jpt jen jbg jfa jwt jac jng jnl jnm jnv jwm 1 1 r_5 jth_5 → ((r_5 = 0 ∨ r_5 = 1) ∧ (Q r_5 jth_5 jre_1 mG_1 mP_1 mK_1))))))))))))
theorem pf_X7_noNode (N : NetM) (jth jrm jwy jhi jmf jmt jla jre jwr jga jlo jmo jli jta jpt jen jbg jfa jwt jac jng jnl jnm jnv jwm : Int32) (mW mG mP mK : Nat → Int32) (v : Int32) (hp : pr_X7_noNode N jth jrm jwy jhi jmf jmt jla jre jwr jga jlo jmo jli jta jpt jen jbg jfa jwt jac jng jnl jnm jnv jwm mW mG mP mK v) : wp_X7_noNode jth jrm jwy jhi jmf jmt jla jre jwr jga jlo jmo jli jta jpt jen jbg jfa jwt jac jng jnl jnm jnv jwm mW mG mP mK v (ps_X7_noNode N jth jrm jwy jhi jmf jmt jla jre jwr jga jlo jmo jli jta jpt jen jbg jfa jwt jac jng jnl jnm jnv jwm mW mG mP mK v) := by
  unfold wp_X7_noNode
  obtain ⟨hN, rfl, rfl⟩ := hp
  exact ⟨N, N.E, ⟨hN, EGa.base hN.1 _⟩, fun re G P K h => ⟨N, hN, fun r2 h2 => ⟨fun y => ⟨Or.inl rfl, fun r4 th h4 => ⟨Or.inl (thrA h4).1, h, Or.inl ⟨(thrA h4).1, (thrA h4).2, of_i1 h2 y⟩⟩⟩, fun y => ⟨Or.inr rfl, fun r4 th h4 => ⟨Or.inr (thrB h4).1, h, Or.inr ⟨(thrB h4).1, (thrB h4).2, no_i1 h2 y⟩⟩⟩⟩⟩⟩
def pr_X7_keeps (N : NetM) (jth jrm jwy jhi jmf jmt jla jre jwr jga jlo jmo jli jta jpt jen jbg jfa jwt jac jng jnl jnm jnv jwm : Int32) (mW mG mP mK : Nat → Int32) (v u : Int32) : Prop := NetW N mW ∧ jmf = -1 ∧ jla = -1
def ps_X7_keeps (N : NetM) (jth jrm jwy jhi jmf jmt jla jre jwr jga jlo jmo jli jta jpt jen jbg jfa jwt jac jng jnl jnm jnv jwm : Int32) (mW mG mP mK : Nat → Int32) (v u : Int32) (r : Int32) (jth' jre' : Int32) (mG' mP' mK' : Nat → Int32) : Prop := (jth' = 0 ∧ ∃ V, v = nI V ∧ V < N.n ∧ ∃ U, u = nI U ∧ U < N.n ∧ (IsB r (Pd N.E N.root V U))) ∨ (jth' = 1 ∧ ¬ ((0 ≤ v ∧ v < nI N.n) ∧ (0 ≤ u ∧ u < nI N.n)))
def wp_X7_keeps (jth jrm jwy jhi jmf jmt jla jre jwr jga jlo jmo jli jta jpt jen jbg jfa jwt jac jng jnl jnm jnv jwm : Int32) (mW mG mP mK : Nat → Int32) (v u : Int32) (Q : Int32 → Int32 → Int32 → (Nat → Int32) → (Nat → Int32) → (Nat → Int32) → Prop) : Prop :=
  ∃ (N_1 : NetM), (pr_X7_noNode N_1 jth jrm jwy jhi jmf jmt jla jre jwr jga jlo jmo jli jta jpt jen jbg jfa jwt jac jng jnl jnm jnv jwm mW mG mP mK v ∧ (∀ (r_1 jth_1 jre_1 : Int32) (mG_1 mP_1 mK_1 : Nat → Int32), ps_X7_noNode N_1 jth jrm jwy jhi jmf jmt jla jre jwr jga jlo jmo jli jta jpt jen jbg jfa jwt jac jng jnl jnm jnv jwm mW mG mP mK v r_1 jth_1 jre_1 mG_1 mP_1 mK_1 → (((¬ r_1 = 0 → (Q 0 jth_1 jre_1 mG_1 mP_1 mK_1)) ∧
 (r_1 = 0 → (∃ (N_3 : NetM), (pr_X7_noNode N_3 jth_1 jrm jwy jhi jmf jmt jla jre_1 jwr jga jlo jmo jli jta jpt jen jbg jfa jwt jac jng jnl jnm jnv jwm mW mG_1 mP_1 mK_1 u ∧ (∀ (r_3 jth_3 jre_3 : Int32) (mG_3 mP_3 mK_3 : Nat → Int32), ps_X7_noNode N_3 jth_1 jrm jwy jhi jmf jmt jla jre_1 jwr jga jlo jmo jli jta jpt jen jbg jfa jwt jac jng jnl jnm jnv jwm mW mG_1 mP_1 mK_1 u r_3 jth_3 jre_3 mG_3 mP_3 mK_3 → (((¬ r_3 = 0 → (Q 0 jth_3 jre_3 mG_3 mP_3 mK_3)) ∧
 (r_3 = 0 → (∃ (E_5 : Nat → Nat → Prop) (ro_5 B_5 V_5 : Nat), (pr_X7_keepsOne E_5 ro_5 B_5 V_5 jth_3 jrm jwy jhi jmf jmt jla jre_3 jwr jga jlo jmo jli jta jpt jen jbg jfa jwt jac jng jnl jnm jnv jwm mG_3 v u ∧ (∀ (r_5 : Int32), ps_X7_keepsOne E_5 ro_5 B_5 V_5 jth_3 jrm jwy jhi jmf jmt jla jre_3 jwr jga jlo jmo jli jta jpt jen jbg jfa jwt jac jng jnl jnm jnv jwm mG_3 v u r_5 → (((r_5 = 0 → (Q 0 jth_3 jre_3 mG_3 mP_3 mK_3)) ∧
 (¬ (r_5 = 0) → (Q 1 jth_3 jre_3 mG_3 mP_3 mK_3))))))))))))))))))
theorem pf_X7_keeps (N : NetM) (jth jrm jwy jhi jmf jmt jla jre jwr jga jlo jmo jli jta jpt jen jbg jfa jwt jac jng jnl jnm jnv jwm : Int32) (mW mG mP mK : Nat → Int32) (v u : Int32) (hp : pr_X7_keeps N jth jrm jwy jhi jmf jmt jla jre jwr jga jlo jmo jli jta jpt jen jbg jfa jwt jac jng jnl jnm jnv jwm mW mG mP mK v u) : wp_X7_keeps jth jrm jwy jhi jmf jmt jla jre jwr jga jlo jmo jli jta jpt jen jbg jfa jwt jac jng jnl jnm jnv jwm mW mG mP mK v u (ps_X7_keeps N jth jrm jwy jhi jmf jmt jla jre jwr jga jlo jmo jli jta jpt jen jbg jfa jwt jac jng jnl jnm jnv jwm mW mG mP mK v u) := by
  unfold wp_X7_keeps
  have hN := hp.1
  have h16 := hN.1.2.1
  refine ⟨N, hp, fun r1 th1 re1 G1 P1 K1 h1 => ⟨fun y => Or.inr ⟨(ndN h1.2 y).1, fun w => (ndN h1.2 y).2 w.1⟩, fun y => ⟨N, hp, fun r3 th3 re3 G3 P3 K3 h3 => ⟨fun y3 => Or.inr ⟨(ndN h3.2 y3).1, fun w => (ndN h3.2 y3).2 w.2⟩, fun y3 => ?_⟩⟩⟩⟩
  obtain ⟨V, hV, rfl⟩ := (of_in (by omega)).1 (ndZ h1.2 y).2
  obtain ⟨U, hU, rfl⟩ := (of_in (by omega)).1 (ndZ h3.2 y3).2
  exact ⟨N.E, N.root, V, U, ⟨h3.1.2.1, rfl, by omega, rfl, by omega⟩, fun r5 h5 => ⟨fun y5 => Or.inl ⟨(ndZ h3.2 y3).1, V, rfl, hV, U, rfl, hU, Or.inr ⟨rfl, IsB.neg h5 y5⟩⟩, fun y5 => Or.inl ⟨(ndZ h3.2 y3).1, V, rfl, hV, U, rfl, hU, Or.inl ⟨rfl, IsB.pos h5 y5⟩⟩⟩⟩
def pr_X7_without (N : NetM) (jth jrm jwy jhi jmf jmt jla jre jwr jga jlo jmo jli jta jpt jen jbg jfa jwt jac jng jnl jnm jnv jwm : Int32) (mW mG mP mK : Nat → Int32) (v : Int32) : Prop := NetW N mW ∧ jmf = -1 ∧ jla = -1
def ps_X7_without (N : NetM) (jth jrm jwy jhi jmf jmt jla jre jwr jga jlo jmo jli jta jpt jen jbg jfa jwt jac jng jnl jnm jnv jwm : Int32) (mW mG mP mK : Nat → Int32) (v : Int32) (r : Int32) (jth' jre' : Int32) (mG' mP' mK' : Nat → Int32) : Prop := (jth' = 0 ∧ ∃ V, v = nI V ∧ V < N.n ∧ (IsSet r (SealIs N ((1 : Int32) <<< (nI V &&& 31))))) ∨ (jth' = 1 ∧ ¬ (0 ≤ v ∧ v < nI N.n))
def wp_X7_without (jth jrm jwy jhi jmf jmt jla jre jwr jga jlo jmo jli jta jpt jen jbg jfa jwt jac jng jnl jnm jnv jwm : Int32) (mW mG mP mK : Nat → Int32) (v : Int32) (Q : Int32 → Int32 → Int32 → (Nat → Int32) → (Nat → Int32) → (Nat → Int32) → Prop) : Prop :=
  ∃ (N_1 : NetM), (pr_X7_noNode N_1 jth jrm jwy jhi jmf jmt jla jre jwr jga jlo jmo jli jta jpt jen jbg jfa jwt jac jng jnl jnm jnv jwm mW mG mP mK v ∧ (∀ (r_1 jth_1 jre_1 : Int32) (mG_1 mP_1 mK_1 : Nat → Int32), ps_X7_noNode N_1 jth jrm jwy jhi jmf jmt jla jre jwr jga jlo jmo jli jta jpt jen jbg jfa jwt jac jng jnl jnm jnv jwm mW mG mP mK v r_1 jth_1 jre_1 mG_1 mP_1 mK_1 → (((r_1 = 0 → (∃ (N_3 : NetM), (pr_X7_sealedBy N_3 jth_1 jrm jwy jhi jmf jmt jla jre_1 jwr jga jlo jmo jli jta jpt jen jbg jfa jwt jac jng jnl jnm jnv jwm mW (1 <<< (v &&& 31)) ∧ (∀ (r_3 : Int32), ps_X7_sealedBy N_3 jth_1 jrm jwy jhi jmf jmt jla jre_1 jwr jga jlo jmo jli jta jpt jen jbg jfa jwt jac jng jnl jnm jnv jwm mW (1 <<< (v &&& 31)) r_3 → (Q r_3 jth_1 jre_1 mG_1 mP_1 mK_1))))) ∧
 (¬ (r_1 = 0) → (Q 0 jth_1 jre_1 mG_1 mP_1 mK_1))))))
theorem pf_X7_without (N : NetM) (jth jrm jwy jhi jmf jmt jla jre jwr jga jlo jmo jli jta jpt jen jbg jfa jwt jac jng jnl jnm jnv jwm : Int32) (mW mG mP mK : Nat → Int32) (v : Int32) (hp : pr_X7_without N jth jrm jwy jhi jmf jmt jla jre jwr jga jlo jmo jli jta jpt jen jbg jfa jwt jac jng jnl jnm jnv jwm mW mG mP mK v) : wp_X7_without jth jrm jwy jhi jmf jmt jla jre jwr jga jlo jmo jli jta jpt jen jbg jfa jwt jac jng jnl jnm jnv jwm mW mG mP mK v (ps_X7_without N jth jrm jwy jhi jmf jmt jla jre jwr jga jlo jmo jli jta jpt jen jbg jfa jwt jac jng jnl jnm jnv jwm mW mG mP mK v) := by
  unfold wp_X7_without
  have hN := hp.1
  have h16 := hN.1.2.1
  refine ⟨N, hp, fun r1 th1 re1 G1 P1 K1 h1 => ⟨fun y => ?_, fun y => Or.inr (ndN h1.2 y)⟩⟩
  obtain ⟨V, hV, rfl⟩ := (of_in (by omega)).1 (ndZ h1.2 y).2
  exact ⟨N, ⟨hN, h1.1.1, hp.2.1, hp.2.2, SubN.bit hV h16⟩, fun r3 h3 => Or.inl ⟨(ndZ h1.2 y).1, V, rfl, hV, h3⟩⟩
def pr_X7_seal (N : NetM) (jth jrm jwy jhi jmf jmt jla jre jwr jga jlo jmo jli jta jpt jen jbg jfa jwt jac jng jnl jnm jnv jwm : Int32) (mW mG mP mK : Nat → Int32) (s : Int32) : Prop := NetW N mW ∧ jmf = -1 ∧ jla = -1
def ps_X7_seal (N : NetM) (jth jrm jwy jhi jmf jmt jla jre jwr jga jlo jmo jli jta jpt jen jbg jfa jwt jac jng jnl jnm jnv jwm : Int32) (mW mG mP mK : Nat → Int32) (s : Int32) (r : Int32) (jth' jre' : Int32) (mG' mP' mK' : Nat → Int32) : Prop := (jth' = 0 ∧ SubN N.n s ∧ IsSet r (SealIs N s)) ∨ (jth' = 1 ∧ ¬ SubN N.n s)
def wp_X7_seal (jth jrm jwy jhi jmf jmt jla jre jwr jga jlo jmo jli jta jpt jen jbg jfa jwt jac jng jnl jnm jnv jwm : Int32) (mW mG mP mK : Nat → Int32) (s : Int32) (Q : Int32 → Int32 → Int32 → (Nat → Int32) → (Nat → Int32) → (Nat → Int32) → Prop) : Prop :=
  ∃ (N_1 : NetM) (E_1 : Nat → Nat → Prop), (pr_X7_laysGates N_1 E_1 0 jrm jwy jhi jmf jmt jla jre jwr jga jlo jmo jli jta jpt jen jbg jfa jwt jac jng jnl jnm jnv jwm mW mG mP mK ∧ (∀ (jre_1 : Int32) (mG_1 mP_1 mK_1 : Nat → Int32), ps_X7_laysGates N_1 E_1 0 jrm jwy jhi jmf jmt jla jre jwr jga jlo jmo jli jta jpt jen jbg jfa jwt jac jng jnl jnm jnv jwm mW mG mP mK jre_1 mG_1 mP_1 mK_1 → (∀ J28 : Int32 → Prop, (∀ (t_5 : Int32), (pr_X7_throwsIf 0 jrm jwy jhi jmf jmt jla jre_1 jwr jga jlo jmo jli jta jpt jen jbg jfa jwt jac jng jnl jnm jnv jwm t_5 1 ∧ (∀ (r_6 jth_6 : Int32), ps_X7_throwsIf 0 jrm jwy jhi jmf jmt jla jre_1 jwr jga jlo jmo jli jta jpt jen jbg jfa jwt jac jng jnl jnm jnv jwm t_5 1 r_6 jth_6 → (((r_6 = 0 → (∃ (N_8 : NetM), (pr_X7_sealedBy N_8 jth_6 jrm jwy jhi jmf jmt jla jre_1 jwr jga jlo jmo jli jta jpt jen jbg jfa jwt jac jng jnl jnm jnv jwm mW s ∧ (∀ (r_8 : Int32), ps_X7_sealedBy N_8 jth_6 jrm jwy jhi jmf jmt jla jre_1 jwr jga jlo jmo jli jta jpt jen jbg jfa jwt jac jng jnl jnm jnv jwm mW s r_8 → (Q r_8 jth_6 jre_1 mG_1 mP_1 mK_1))))) ∧
 (¬ (r_6 = 0) → (Q 0 jth_6 jre_1 mG_1 mP_1 mK_1)))))) → J28 t_5) →
((s < 0 → (J28 1)) ∧
 (¬ (s < 0) → (∀ (r_11 : Int32), ps_X7_nodes 0 jrm jwy jhi jmf jmt jla jre_1 jwr jga jlo jmo jli jta jpt jen jbg jfa jwt jac jng jnl jnm jnv jwm mW r_11 → ((((s >>> (r_11 &&& 31)) = 0 → (J28 0)) ∧
 (¬ ((s >>> (r_11 &&& 31)) = 0) → (J28 1))))))))))
theorem pf_X7_seal (N : NetM) (jth jrm jwy jhi jmf jmt jla jre jwr jga jlo jmo jli jta jpt jen jbg jfa jwt jac jng jnl jnm jnv jwm : Int32) (mW mG mP mK : Nat → Int32) (s : Int32) (hp : pr_X7_seal N jth jrm jwy jhi jmf jmt jla jre jwr jga jlo jmo jli jta jpt jen jbg jfa jwt jac jng jnl jnm jnv jwm mW mG mP mK s) : wp_X7_seal jth jrm jwy jhi jmf jmt jla jre jwr jga jlo jmo jli jta jpt jen jbg jfa jwt jac jng jnl jnm jnv jwm mW mG mP mK s (ps_X7_seal N jth jrm jwy jhi jmf jmt jla jre jwr jga jlo jmo jli jta jpt jen jbg jfa jwt jac jng jnl jnm jnv jwm mW mG mP mK s) := by
  unfold wp_X7_seal
  obtain ⟨hN, rfl, rfl⟩ := hp
  have h16 := hN.1.2.1
  refine ⟨N, N.E, ⟨hN, EGa.base hN.1 _⟩, fun re G P K h J28 hJ28 => ⟨fun y => ?_, fun y r11 h11 => ?_⟩⟩
  · exact hJ28 1 ⟨Or.inr rfl, fun r6 th h6 => ⟨fun z => absurd ((thrB h6).1.symm.trans z) (by decide), fun _ => Or.inr ⟨(thrB h6).2, fun w => w.nn h16 y⟩⟩⟩
  · rw [ndW hN h11, SubN.shr h16]
    exact ⟨fun w => hJ28 0 ⟨Or.inl rfl, fun r6 th h6 => ⟨fun _ => ⟨N, ⟨hN, h.1, rfl, rfl, w⟩, fun r8 h8 => Or.inl ⟨(thrA h6).2, w, h8⟩⟩, fun z => absurd (thrA h6).1 z⟩⟩, fun w => hJ28 1 ⟨Or.inr rfl, fun r6 th h6 => ⟨fun z => absurd ((thrB h6).1.symm.trans z) (by decide), fun _ => Or.inr ⟨(thrB h6).2, w⟩⟩⟩⟩
def pr_X7_chain (N : NetM) (jth jrm jwy jhi jmf jmt jla jre jwr jga jlo jmo jli jta jpt jen jbg jfa jwt jac jng jnl jnm jnv jwm : Int32) (mW mG mP mK : Nat → Int32) (v k : Int32) : Prop := NetW N mW ∧ jmf = -1 ∧ jla = -1
def ps_X7_chain (N : NetM) (jth jrm jwy jhi jmf jmt jla jre jwr jga jlo jmo jli jta jpt jen jbg jfa jwt jac jng jnl jnm jnv jwm : Int32) (mW mG mP mK : Nat → Int32) (v k : Int32) (r : Int32) (jth' jre' : Int32) (mG' mP' mK' : Nat → Int32) : Prop := (jth' = 0 ∧ ∃ V, v = nI V ∧ V < N.n ∧ (ChainIs N V k r)) ∨ (jth' = 1 ∧ ¬ (0 ≤ v ∧ v < nI N.n))
def wp_X7_chain (jth jrm jwy jhi jmf jmt jla jre jwr jga jlo jmo jli jta jpt jen jbg jfa jwt jac jng jnl jnm jnv jwm : Int32) (mW mG mP mK : Nat → Int32) (v k : Int32) (Q : Int32 → Int32 → Int32 → (Nat → Int32) → (Nat → Int32) → (Nat → Int32) → Prop) : Prop :=
  ∃ (N_1 : NetM), (pr_X7_noNode N_1 jth jrm jwy jhi jmf jmt jla jre jwr jga jlo jmo jli jta jpt jen jbg jfa jwt jac jng jnl jnm jnv jwm mW mG mP mK v ∧ (∀ (r_1 jth_1 jre_1 : Int32) (mG_1 mP_1 mK_1 : Nat → Int32), ps_X7_noNode N_1 jth jrm jwy jhi jmf jmt jla jre jwr jga jlo jmo jli jta jpt jen jbg jfa jwt jac jng jnl jnm jnv jwm mW mG mP mK v r_1 jth_1 jre_1 mG_1 mP_1 mK_1 → (((r_1 = 0 → (∃ (N_3 : NetM) (V_3 : Nat), (pr_X7_chainOf N_3 V_3 jth_1 jrm jwy jhi jmf jmt jla jre_1 jwr jga jlo jmo jli jta jpt jen jbg jfa jwt jac jng jnl jnm jnv jwm mW mP_1 mK_1 v k ∧ (∀ (r_3 : Int32), ps_X7_chainOf N_3 V_3 jth_1 jrm jwy jhi jmf jmt jla jre_1 jwr jga jlo jmo jli jta jpt jen jbg jfa jwt jac jng jnl jnm jnv jwm mW mP_1 mK_1 v k r_3 → (Q r_3 jth_1 jre_1 mG_1 mP_1 mK_1))))) ∧
 (¬ (r_1 = 0) → (Q 0 jth_1 jre_1 mG_1 mP_1 mK_1))))))
theorem pf_X7_chain (N : NetM) (jth jrm jwy jhi jmf jmt jla jre jwr jga jlo jmo jli jta jpt jen jbg jfa jwt jac jng jnl jnm jnv jwm : Int32) (mW mG mP mK : Nat → Int32) (v k : Int32) (hp : pr_X7_chain N jth jrm jwy jhi jmf jmt jla jre jwr jga jlo jmo jli jta jpt jen jbg jfa jwt jac jng jnl jnm jnv jwm mW mG mP mK v k) : wp_X7_chain jth jrm jwy jhi jmf jmt jla jre jwr jga jlo jmo jli jta jpt jen jbg jfa jwt jac jng jnl jnm jnv jwm mW mG mP mK v k (ps_X7_chain N jth jrm jwy jhi jmf jmt jla jre jwr jga jlo jmo jli jta jpt jen jbg jfa jwt jac jng jnl jnm jnv jwm mW mG mP mK v k) := by
  unfold wp_X7_chain
  have hN := hp.1
  have h16 := hN.1.2.1
  refine ⟨N, hp, fun r1 th1 re1 G1 P1 K1 h1 => ⟨fun y => ?_, fun y => Or.inr (ndN h1.2 y)⟩⟩
  obtain ⟨V, hV, rfl⟩ := (of_in (by omega)).1 (ndZ h1.2 y).2
  exact ⟨N, V, ⟨hN, h1.1.1, h1.1.2.2.1, h1.1.2.2.2, rfl, hV⟩, fun r3 h3 => Or.inl ⟨(ndZ h1.2 y).1, V, rfl, hV, h3⟩⟩
def pr_X7_level (N : NetM) (jth jrm jwy jhi jmf jmt jla jre jwr jga jlo jmo jli jta jpt jen jbg jfa jwt jac jng jnl jnm jnv jwm : Int32) (mW mG mP mK : Nat → Int32) (v : Int32) : Prop := NetW N mW ∧ jmf = -1 ∧ jla = -1
def ps_X7_level (N : NetM) (jth jrm jwy jhi jmf jmt jla jre jwr jga jlo jmo jli jta jpt jen jbg jfa jwt jac jng jnl jnm jnv jwm : Int32) (mW mG mP mK : Nat → Int32) (v : Int32) (r : Int32) (jth' jre' : Int32) (mG' mP' mK' : Nat → Int32) : Prop := jth' = 0 ∧ IsSet r (fun n0 => Rd N.E N.root n0 ∧ nI (dep N.E N.root N.n n0) = v)
def wp_X7_level (jth jrm jwy jhi jmf jmt jla jre jwr jga jlo jmo jli jta jpt jen jbg jfa jwt jac jng jnl jnm jnv jwm : Int32) (mW mG mP mK : Nat → Int32) (v : Int32) (Q : Int32 → Int32 → Int32 → (Nat → Int32) → (Nat → Int32) → (Nat → Int32) → Prop) : Prop :=
  ∃ (N_1 : NetM) (E_1 : Nat → Nat → Prop), (pr_X7_laysGates N_1 E_1 0 jrm jwy jhi jmf jmt jla jre jwr jga jlo jmo jli jta jpt jen jbg jfa jwt jac jng jnl jnm jnv jwm mW mG mP mK ∧ (∀ (jre_1 : Int32) (mG_1 mP_1 mK_1 : Nat → Int32), ps_X7_laysGates N_1 E_1 0 jrm jwy jhi jmf jmt jla jre jwr jga jlo jmo jli jta jpt jen jbg jfa jwt jac jng jnl jnm jnv jwm mW mG mP mK jre_1 mG_1 mP_1 mK_1 → (∃ (N_2 : NetM), (pr_X7_levelOf N_2 0 jrm jwy jhi jmf jmt jla jre_1 jwr jga jlo jmo jli jta jpt jen jbg jfa jwt jac jng jnl jnm jnv jwm mW mP_1 v ∧ (∀ (r_2 : Int32), ps_X7_levelOf N_2 0 jrm jwy jhi jmf jmt jla jre_1 jwr jga jlo jmo jli jta jpt jen jbg jfa jwt jac jng jnl jnm jnv jwm mW mP_1 v r_2 → (Q r_2 0 jre_1 mG_1 mP_1 mK_1))))))
theorem pf_X7_level (N : NetM) (jth jrm jwy jhi jmf jmt jla jre jwr jga jlo jmo jli jta jpt jen jbg jfa jwt jac jng jnl jnm jnv jwm : Int32) (mW mG mP mK : Nat → Int32) (v : Int32) (hp : pr_X7_level N jth jrm jwy jhi jmf jmt jla jre jwr jga jlo jmo jli jta jpt jen jbg jfa jwt jac jng jnl jnm jnv jwm mW mG mP mK v) : wp_X7_level jth jrm jwy jhi jmf jmt jla jre jwr jga jlo jmo jli jta jpt jen jbg jfa jwt jac jng jnl jnm jnv jwm mW mG mP mK v (ps_X7_level N jth jrm jwy jhi jmf jmt jla jre jwr jga jlo jmo jli jta jpt jen jbg jfa jwt jac jng jnl jnm jnv jwm mW mG mP mK v) := by
  unfold wp_X7_level
  obtain ⟨hN, rfl, rfl⟩ := hp
  exact ⟨N, N.E, ⟨hN, EGa.base hN.1 _⟩, fun re G P K h => ⟨N, ⟨hN, h.2.2.1⟩, fun r2 h2 => ⟨rfl, h2⟩⟩⟩
def pr_X7_arc (N : NetM) (jth jrm jwy jhi jmf jmt jla jre jwr jga jlo jmo jli jta jpt jen jbg jfa jwt jac jng jnl jnm jnv jwm : Int32) (mW mG mP mK : Nat → Int32) (k j : Int32) : Prop := NetW N mW ∧ jmf = -1 ∧ jla = -1
def ps_X7_arc (N : NetM) (jth jrm jwy jhi jmf jmt jla jre jwr jga jlo jmo jli jta jpt jen jbg jfa jwt jac jng jnl jnm jnv jwm : Int32) (mW mG mP mK : Nat → Int32) (k j : Int32) (r : Int32) (jth' jre' : Int32) (mG' mP' mK' : Nat → Int32) : Prop := (jth' = 0 ∧ ∃ K, k = nI K ∧ K < N.m ∧ ∃ J, j = nI J ∧ J ≤ 4 ∧ ArcIs N K J r) ∨ (jth' = 1 ∧ ¬ (0 ≤ k ∧ k < nI N.m)) ∨ (jth' = 2 ∧ (0 ≤ k ∧ k < nI N.m) ∧ ¬ (0 ≤ j ∧ j ≤ 4))
def wp_X7_arc (jth jrm jwy jhi jmf jmt jla jre jwr jga jlo jmo jli jta jpt jen jbg jfa jwt jac jng jnl jnm jnv jwm : Int32) (mW mG mP mK : Nat → Int32) (k j : Int32) (Q : Int32 → Int32 → Int32 → (Nat → Int32) → (Nat → Int32) → (Nat → Int32) → Prop) : Prop :=
  ∃ (N_1 : NetM) (E_1 : Nat → Nat → Prop), (pr_X7_laysGates N_1 E_1 0 jrm jwy jhi jmf jmt jla jre jwr jga jlo jmo jli jta jpt jen jbg jfa jwt jac jng jnl jnm jnv jwm mW mG mP mK ∧ (∀ (jre_1 : Int32) (mG_1 mP_1 mK_1 : Nat → Int32), ps_X7_laysGates N_1 E_1 0 jrm jwy jhi jmf jmt jla jre jwr jga jlo jmo jli jta jpt jen jbg jfa jwt jac jng jnl jnm jnv jwm mW mG mP mK jre_1 mG_1 mP_1 mK_1 → (∃ (N_2 : NetM), (pr_X7_isArc N_2 0 jrm jwy jhi jmf jmt jla jre_1 jwr jga jlo jmo jli jta jpt jen jbg jfa jwt jac jng jnl jnm jnv jwm mW k ∧ (∀ (r_2 : Int32), ps_X7_isArc N_2 0 jrm jwy jhi jmf jmt jla jre_1 jwr jga jlo jmo jli jta jpt jen jbg jfa jwt jac jng jnl jnm jnv jwm mW k r_2 → (∀ J23 : Int32 → Prop, (∀ (t_4 : Int32), (pr_X7_throwsIf 0 jrm jwy jhi jmf jmt jla jre_1 jwr jga jlo jmo jli jta jpt jen jbg jfa jwt jac jng jnl jnm jnv jwm t_4 1 ∧ (∀ (r_5 jth_5 : Int32), ps_X7_throwsIf 0 jrm jwy jhi jmf jmt jla jre_1 jwr jga jlo jmo jli jta jpt jen jbg jfa jwt jac jng jnl jnm jnv jwm t_4 1 r_5 jth_5 → (((¬ r_5 = 0 → (Q 0 jth_5 jre_1 mG_1 mP_1 mK_1)) ∧
 (r_5 = 0 → (∀ (r_7 : Int32), ps_X7_in j 0 4 r_7 → (∀ J45 : Int32 → Prop, (∀ (t_9 : Int32), (pr_X7_throwsIf jth_5 jrm jwy jhi jmf jmt jla jre_1 jwr jga jlo jmo jli jta jpt jen jbg jfa jwt jac jng jnl jnm jnv jwm t_9 2 ∧ (∀ (r_10 jth_10 : Int32), ps_X7_throwsIf jth_5 jrm jwy jhi jmf jmt jla jre_1 jwr jga jlo jmo jli jta jpt jen jbg jfa jwt jac jng jnl jnm jnv jwm t_9 2 r_10 jth_10 → (((r_10 = 0 → ((j.toInt < 0 ∨ 3 < j.toInt → (∃ (N_13 : NetM) (K_13 : Nat), (pr_X7_isBridge N_13 K_13 jth_10 jrm jwy jhi jmf jmt jla jre_1 jwr jga jlo jmo jli jta jpt jen jbg jfa jwt jac jng jnl jnm jnv jwm mW k ∧ (∀ (r_13 : Int32), ps_X7_isBridge N_13 K_13 jth_10 jrm jwy jhi jmf jmt jla jre_1 jwr jga jlo jmo jli jta jpt jen jbg jfa jwt jac jng jnl jnm jnv jwm mW k r_13 → (((r_13 = 0 → (Q 0 jth_10 jre_1 mG_1 mP_1 mK_1)) ∧
 (¬ (r_13 = 0) → (Q 1 jth_10 jre_1 mG_1 mP_1 mK_1)))))))) ∧
(j.toInt = 0 → (∃ (N_15 : NetM) (K_15 : Nat), (pr_X7_fromOf N_15 K_15 jth_10 jrm jwy jhi jmf jmt jla jre_1 jwr jga jlo jmo jli jta jpt jen jbg jfa jwt jac jng jnl jnm jnv jwm mW k ∧ (∀ (r_15 : Int32), ps_X7_fromOf N_15 K_15 jth_10 jrm jwy jhi jmf jmt jla jre_1 jwr jga jlo jmo jli jta jpt jen jbg jfa jwt jac jng jnl jnm jnv jwm mW k r_15 → (Q r_15 jth_10 jre_1 mG_1 mP_1 mK_1))))) ∧
(j.toInt = 1 → (∃ (N_16 : NetM) (K_16 : Nat), (pr_X7_toOf N_16 K_16 jth_10 jrm jwy jhi jmf jmt jla jre_1 jwr jga jlo jmo jli jta jpt jen jbg jfa jwt jac jng jnl jnm jnv jwm mW k ∧ (∀ (r_16 : Int32), ps_X7_toOf N_16 K_16 jth_10 jrm jwy jhi jmf jmt jla jre_1 jwr jga jlo jmo jli jta jpt jen jbg jfa jwt jac jng jnl jnm jnv jwm mW k r_16 → (Q r_16 jth_10 jre_1 mG_1 mP_1 mK_1))))) ∧
(j.toInt = 2 → (vp_in (140 + k) 200 ∧ (Q (mW (140 + k).toNatClampNeg) jth_10 jre_1 mG_1 mP_1 mK_1))) ∧
(j.toInt = 3 → (∃ (N_18 : NetM) (K_18 : Nat), (pr_X7_kindOf N_18 K_18 jth_10 jrm jwy jhi jmf jmt jla jre_1 jwr jga jlo jmo jli jta jpt jen jbg jfa jwt jac jng jnl jnm jnv jwm mW mG_1 mK_1 k ∧ (∀ (r_18 : Int32), ps_X7_kindOf N_18 K_18 jth_10 jrm jwy jhi jmf jmt jla jre_1 jwr jga jlo jmo jli jta jpt jen jbg jfa jwt jac jng jnl jnm jnv jwm mW mG_1 mK_1 k r_18 → (Q r_18 jth_10 jre_1 mG_1 mP_1 mK_1))))))) ∧
 (¬ (r_10 = 0) → (Q 0 jth_10 jre_1 mG_1 mP_1 mK_1)))))) → J45 t_9) →
((¬ r_7 = 0 → (J45 0)) ∧
 (r_7 = 0 → (J45 1)))))))))) → J23 t_4) →
((¬ r_2 = 0 → (J23 0)) ∧
 (r_2 = 0 → (J23 1)))))))))
theorem pf_X7_arc (N : NetM) (jth jrm jwy jhi jmf jmt jla jre jwr jga jlo jmo jli jta jpt jen jbg jfa jwt jac jng jnl jnm jnv jwm : Int32) (mW mG mP mK : Nat → Int32) (k j : Int32) (hp : pr_X7_arc N jth jrm jwy jhi jmf jmt jla jre jwr jga jlo jmo jli jta jpt jen jbg jfa jwt jac jng jnl jnm jnv jwm mW mG mP mK k j) : wp_X7_arc jth jrm jwy jhi jmf jmt jla jre jwr jga jlo jmo jli jta jpt jen jbg jfa jwt jac jng jnl jnm jnv jwm mW mG mP mK k j (ps_X7_arc N jth jrm jwy jhi jmf jmt jla jre jwr jga jlo jmo jli jta jpt jen jbg jfa jwt jac jng jnl jnm jnv jwm mW mG mP mK k j) := by
  unfold wp_X7_arc
  obtain ⟨hN, rfl, rfl⟩ := hp
  have h16 := hN.1.2.1
  have h60 := hN.1.2.2.2.2.1
  refine ⟨N, N.E, ⟨hN, EGa.base hN.1 _⟩, fun re G P K h => ⟨N, hN, fun r2 h2 J23 hJ23 => ⟨fun y => hJ23 0 ⟨Or.inl rfl, fun r5 th5 h5 => ⟨fun z => absurd (thrA h5).1 z, fun _ r7 h7 J45 hJ45 => ⟨fun y7 => hJ45 0 ⟨Or.inl rfl, fun r10 th10 h10 => ⟨fun _ => ?_, fun z => absurd (thrA h10).1 z⟩⟩, fun y7 => hJ45 1 ⟨Or.inr rfl, fun r10 th10 h10 => ⟨fun z => absurd ((thrB h10).1.symm.trans z) (by decide), fun _ => Or.inr (Or.inr ⟨(thrB h10).2, of_i1 h2 y, no_i1 h7 y7⟩)⟩⟩⟩⟩⟩, fun y => hJ23 1 ⟨Or.inr rfl, fun r5 th5 h5 => ⟨fun _ => Or.inr (Or.inl ⟨(thrB h5).2, no_i1 h2 y⟩), fun z => absurd ((thrB h5).1.symm.trans z) (by decide)⟩⟩⟩⟩⟩
  obtain ⟨K', hK, rfl⟩ := (of_in (by omega)).1 (of_i1 h2 y)
  obtain ⟨J, hJ, rfl⟩ := of_le (k := 4) (by decide) (of_i1 h7 y7)
  have t0 : th10 = 0 := (thrA h10).2.trans (thrA h5).2
  have fin : ∀ r, ArcIs N K' J r → ps_X7_arc N jth jrm jwy jhi (-1) jmt (-1) jre jwr jga jlo jmo jli jta jpt jen jbg jfa jwt jac jng jnl jnm jnv jwm mW mG mP mK (nI K') (nI J) r th10 re G P K := fun r hr => Or.inl ⟨t0, K', rfl, hK, J, rfl, hJ, hr⟩
  rw [nI_toInt (by omega)]
  refine ⟨fun w => ⟨N, K', ⟨hN, h.1, rfl, rfl, rfl, hK⟩, fun r13 h13 => ⟨fun z => fin _ (Or.inr (Or.inr (Or.inr (Or.inr ⟨by omega, Or.inr ⟨rfl, IsB.neg h13 z⟩⟩)))), fun z => fin _ (Or.inr (Or.inr (Or.inr (Or.inr ⟨by omega, Or.inl ⟨rfl, IsB.pos h13 z⟩⟩))))⟩⟩, fun w => ⟨N, K', ⟨hN, rfl, hK⟩, fun r h' => fin _ (Or.inl ⟨by omega, h'⟩)⟩, fun w => ⟨N, K', ⟨hN, rfl, hK⟩, fun r h' => fin _ (Or.inr (Or.inl ⟨by omega, h'⟩))⟩, fun w => ?_, fun w => ⟨N, K', ⟨hN, h.1, h.2.1, h.2.2.2, rfl, hK⟩, fun r h' => fin _ (Or.inr (Or.inr (Or.inr (Or.inl ⟨by omega, h'⟩))))⟩⟩
  rw [show (140 : Int32) + nI K' = nI (140 + K') from nI_add 140 K', clN (by omega), (hN.2.2.2.2.2.2 K' hK).2.2]
  refine ⟨vp_in_nI (by omega) (by decide), fin _ (Or.inr (Or.inr (Or.inl ⟨by omega, ?_⟩)))⟩
  by_cases q : N.op K' = true
  · rw [if_pos q]; exact Or.inl ⟨rfl, q⟩
  · rw [if_neg q]; exact Or.inr ⟨rfl, q⟩
def pr_X7_via (N : NetM) (jth jrm jwy jhi jmf jmt jla jre jwr jga jlo jmo jli jta jpt jen jbg jfa jwt jac jng jnl jnm jnv jwm : Int32) (mW mG mP mK : Nat → Int32) (v u : Int32) : Prop := NetW N mW ∧ jmf = -1 ∧ jla = -1
def ps_X7_via (N : NetM) (jth jrm jwy jhi jmf jmt jla jre jwr jga jlo jmo jli jta jpt jen jbg jfa jwt jac jng jnl jnm jnv jwm : Int32) (mW mG mP mK : Nat → Int32) (v u : Int32) (r : Int32) (jth' jre' : Int32) (mG' mP' mK' : Nat → Int32) : Prop := (jth' = 0 ∧ ∃ V, v = nI V ∧ V < N.n ∧ ∃ U, u = nI U ∧ U < N.n ∧ (ViaIs N V U r)) ∨ (jth' = 1 ∧ ¬ ((0 ≤ v ∧ v < nI N.n) ∧ (0 ≤ u ∧ u < nI N.n)))
def wp_X7_via_L41 (jrm jwy jhi jmf jmt jla jwr jga jlo jmo jli jta jpt jen jbg jfa jwt jac jng jnl jnm jnv jwm : Int32) (mW : Nat → Int32) (v u jth_3 jre_3 : Int32) (J94 : Int32 → Prop) (ix4_38 ix3_39 : Int32) : Prop :=
  ∀ X41 : Int32 → Int32 → Prop, (∀ (x4_38 : Int32) (x3_39 : Int32), (∀ (r_41 : Int32), ps_X7_nodes jth_3 jrm jwy jhi jmf jmt jla jre_3 jwr jga jlo jmo jli jta jpt jen jbg jfa jwt jac jng jnl jnm jnv jwm mW r_41 → (((r_41 ≤ x4_38 → (J94 x3_39)) ∧
 (¬ (r_41 ≤ x4_38) → ((x4_38 = v → (X41 (x4_38 + 1) x3_39)) ∧
 (¬ (x4_38 = v) → ((x4_38 = u → (X41 (x4_38 + 1) x3_39)) ∧
 (¬ (x4_38 = u) → (∃ (N_45 : NetM) (E_45 : Nat → Nat → Prop) (A_45 B_45 : Nat → Prop), (pr_X7_reach N_45 E_45 A_45 B_45 jth_3 jrm jwy jhi jmf jmt jla jre_3 jwr jga jlo jmo jli jta jpt jen jbg jfa jwt jac jng jnl jnm jnv jwm mW (1 <<< (v &&& 31)) (1 <<< (x4_38 &&& 31)) (-1) ∧ (∀ (r_45 : Int32), ps_X7_reach N_45 E_45 A_45 B_45 jth_3 jrm jwy jhi jmf jmt jla jre_3 jwr jga jlo jmo jli jta jpt jen jbg jfa jwt jac jng jnl jnm jnv jwm mW (1 <<< (v &&& 31)) (1 <<< (x4_38 &&& 31)) (-1) r_45 → (∀ (r_46 : Int32), ps_X7_holds r_45 u r_46 → (((¬ r_46 = 0 → (X41 (x4_38 + 1) x3_39)) ∧
 (r_46 = 0 → (X41 (x4_38 + 1) (x3_39 ||| (1 <<< (x4_38 &&& 31))))))))))))))))))) → X41 x4_38 x3_39) → X41 ix4_38 ix3_39
def wp_X7_via (jth jrm jwy jhi jmf jmt jla jre jwr jga jlo jmo jli jta jpt jen jbg jfa jwt jac jng jnl jnm jnv jwm : Int32) (mW mG mP mK : Nat → Int32) (v u : Int32) (Q : Int32 → Int32 → Int32 → (Nat → Int32) → (Nat → Int32) → (Nat → Int32) → Prop) : Prop :=
  ∃ (N_1 : NetM), (pr_X7_noNode N_1 jth jrm jwy jhi jmf jmt jla jre jwr jga jlo jmo jli jta jpt jen jbg jfa jwt jac jng jnl jnm jnv jwm mW mG mP mK v ∧ (∀ (r_1 jth_1 jre_1 : Int32) (mG_1 mP_1 mK_1 : Nat → Int32), ps_X7_noNode N_1 jth jrm jwy jhi jmf jmt jla jre jwr jga jlo jmo jli jta jpt jen jbg jfa jwt jac jng jnl jnm jnv jwm mW mG mP mK v r_1 jth_1 jre_1 mG_1 mP_1 mK_1 → (((¬ r_1 = 0 → (Q 0 jth_1 jre_1 mG_1 mP_1 mK_1)) ∧
 (r_1 = 0 → (∃ (N_3 : NetM), (pr_X7_noNode N_3 jth_1 jrm jwy jhi jmf jmt jla jre_1 jwr jga jlo jmo jli jta jpt jen jbg jfa jwt jac jng jnl jnm jnv jwm mW mG_1 mP_1 mK_1 u ∧ (∀ (r_3 jth_3 jre_3 : Int32) (mG_3 mP_3 mK_3 : Nat → Int32), ps_X7_noNode N_3 jth_1 jrm jwy jhi jmf jmt jla jre_1 jwr jga jlo jmo jli jta jpt jen jbg jfa jwt jac jng jnl jnm jnv jwm mW mG_1 mP_1 mK_1 u r_3 jth_3 jre_3 mG_3 mP_3 mK_3 → (((r_3 = 0 → (∃ (N_5 : NetM) (E_5 : Nat → Nat → Prop) (A_5 B_5 : Nat → Prop), (pr_X7_reach N_5 E_5 A_5 B_5 jth_3 jrm jwy jhi jmf jmt jla jre_3 jwr jga jlo jmo jli jta jpt jen jbg jfa jwt jac jng jnl jnm jnv jwm mW (1 <<< (v &&& 31)) 0 (-1) ∧ (∀ (r_5 : Int32), ps_X7_reach N_5 E_5 A_5 B_5 jth_3 jrm jwy jhi jmf jmt jla jre_3 jwr jga jlo jmo jli jta jpt jen jbg jfa jwt jac jng jnl jnm jnv jwm mW (1 <<< (v &&& 31)) 0 (-1) r_5 → (∀ (r_6 : Int32), ps_X7_holds r_5 u r_6 → (((¬ r_6 = 0 → (∀ J94 : Int32 → Prop, (∀ (x3_36 : Int32), (Q x3_36 jth_3 jre_3 mG_3 mP_3 mK_3) → J94 x3_36) →
wp_X7_via_L41 jrm jwy jhi jmf jmt jla jwr jga jlo jmo jli jta jpt jen jbg jfa jwt jac jng jnl jnm jnv jwm mW v u jth_3 jre_3 J94 0 0)) ∧
 (r_6 = 0 → (Q (-1) jth_3 jre_3 mG_3 mP_3 mK_3))))))))) ∧
 (¬ (r_3 = 0) → (Q 0 jth_3 jre_3 mG_3 mP_3 mK_3))))))))))))
theorem pf_X7_via (N : NetM) (jth jrm jwy jhi jmf jmt jla jre jwr jga jlo jmo jli jta jpt jen jbg jfa jwt jac jng jnl jnm jnv jwm : Int32) (mW mG mP mK : Nat → Int32) (v u : Int32) (hp : pr_X7_via N jth jrm jwy jhi jmf jmt jla jre jwr jga jlo jmo jli jta jpt jen jbg jfa jwt jac jng jnl jnm jnv jwm mW mG mP mK v u) : wp_X7_via jth jrm jwy jhi jmf jmt jla jre jwr jga jlo jmo jli jta jpt jen jbg jfa jwt jac jng jnl jnm jnv jwm mW mG mP mK v u (ps_X7_via N jth jrm jwy jhi jmf jmt jla jre jwr jga jlo jmo jli jta jpt jen jbg jfa jwt jac jng jnl jnm jnv jwm mW mG mP mK v u) := by
  unfold wp_X7_via
  obtain ⟨hN, rfl, rfl⟩ := hp
  have h16 := hN.1.2.1
  refine ⟨N, ⟨hN, rfl, rfl⟩, fun r1 th1 re1 G1 P1 K1 h1 => ⟨fun y => Or.inr ⟨(ndN h1.2 y).1, fun w => (ndN h1.2 y).2 w.1⟩, fun y => ⟨N, ⟨hN, rfl, rfl⟩, fun r3 th3 re3 G3 P3 K3 h3 => ⟨fun y3 => ?_, fun y3 => Or.inr ⟨(ndN h3.2 y3).1, fun w => (ndN h3.2 y3).2 w.2⟩⟩⟩⟩⟩
  obtain ⟨V, hV, rfl⟩ := (of_in (by omega)).1 (ndZ h1.2 y).2
  obtain ⟨U, hU, rfl⟩ := (of_in (by omega)).1 (ndZ h3.2 y3).2
  have t0 := (ndZ h3.2 y3).1
  refine ⟨N, N.E, fun z => z = V, fun _ => False, ⟨hN, EGa.base hN.1 _, IsSet.bit (by omega), IsSet.zero, fun x q => by rw [q]; exact hV⟩, fun r5 h5 r6 h6 => ⟨fun y6 J94 hJ94 X hX => ?_, fun y6 => Or.inl ⟨t0, V, rfl, hV, U, rfl, hU, Or.inl ⟨hold_z h6 h5 (by omega) y6, rfl⟩⟩⟩⟩
  have hRd := hold_p h6 h5 (by omega) y6
  refine up1 N.n (fun k s => Acc (fun _ => False) k (fun j x => x = j ∧ (j ≠ V ∧ j ≠ U ∧ ¬ Rs N.E (fun z => z = V) (fun z => z = j) U)) s) (fun k s hk hI hh => hX _ _ (fun r1 h1 => ?_)) (fun s hI => hX _ _ (fun r1 h1 => ?_)) 0 0 (Nat.zero_le _) Acc.z
  · rw [ndW hN h1, leN (by omega) (by omega), eqN (by omega) (by omega), eqN (by omega) (by omega)]
    exact ⟨fun z => absurd z (by omega), fun _ => ⟨fun e => hh _ (hI.no (fun x _ w => w.2.1 e)), fun e1 => ⟨fun e => hh _ (hI.no (fun x _ w => w.2.2.1 e)), fun e2 => ⟨N, N.E, fun z => z = V, fun z => z = k, ⟨hN, EGa.base hN.1 _, IsSet.bit (by omega), IsSet.bit (by omega), fun x q => by rw [q]; exact hV⟩, fun r7 h7 r8 h8 => ⟨fun y8 => hh _ (hI.no (fun x _ w => w.2.2.2 (hold_p h8 h7 (by omega) y8))), fun y8 => hh _ (hI.hit (by omega) (fun x _ => ⟨fun w => w.1, fun w => ⟨w, e1, e2, hold_z h8 h7 (by omega) y8⟩⟩))⟩⟩⟩⟩⟩
  · rw [ndW hN h1]
    exact ⟨fun _ => hJ94 _ (Or.inl ⟨t0, V, rfl, hV, U, rfl, hU, Or.inr ⟨hRd, hI.get.congr (fun x _ => ⟨fun ⟨j, a, b, c⟩ => by subst b; exact ⟨a, c⟩, fun w => ⟨x, w.1, rfl, w.2⟩⟩)⟩⟩), fun z => absurd (Int32.le_refl _) z⟩
def pr_X7_pass (N : NetM) (jth jrm jwy jhi jmf jmt jla jre jwr jga jlo jmo jli jta jpt jen jbg jfa jwt jac jng jnl jnm jnv jwm : Int32) (mW mG mP mK mZ : Nat → Int32) (v k : Int32) : Prop := NetW N mW ∧ jmf = -1 ∧ jla = -1
def ps_X7_pass (N : NetM) (jth jrm jwy jhi jmf jmt jla jre jwr jga jlo jmo jli jta jpt jen jbg jfa jwt jac jng jnl jnm jnv jwm : Int32) (mW mG mP mK mZ : Nat → Int32) (v k : Int32) (r : Int32) (jth' jre' : Int32) (mG' mP' mK' mZ' : Nat → Int32) : Prop := (jth' = 0 ∧ ∃ V, v = nI V ∧ V < N.n ∧ (PassAt N V k r)) ∨ (jth' = 1 ∧ ¬ (0 ≤ v ∧ v < nI N.n))
def wp_X7_pass_L39 (jrm jwy jhi jmf jmt jla jwr jga jlo jmo jli jta jpt jen jbg jfa jwt jac jng jnl jnm jnv jwm : Int32) (mW : Nat → Int32) (v k jth_1 jre_1 : Int32) (J88 : Int32 → (Nat → Int32) → Prop) (ix4_41 ix3_42 : Int32) (ia_43 : Nat → Int32) : Prop :=
  ∀ X39 : Int32 → Int32 → (Nat → Int32) → Prop, (∀ (x4_41 : Int32) (x3_42 : Int32) (a_43 : Nat → Int32), (∀ (r_45 : Int32), ps_X7_arcs jth_1 jrm jwy jhi jmf jmt jla jre_1 jwr jga jlo jmo jli jta jpt jen jbg jfa jwt jac jng jnl jnm jnv jwm mW r_45 → (((r_45 ≤ x4_41 → (J88 x3_42 a_43)) ∧
 (¬ (r_45 ≤ x4_41) → (∃ (N_47 : NetM) (V_47 : Nat), (pr_X7_laysPass N_47 V_47 jth_1 jrm jwy jhi jmf jmt jla jre_1 jwr jga jlo jmo jli jta jpt jen jbg jfa jwt jac jng jnl jnm jnv jwm mW a_43 v ∧ (∀ (r_47 : Int32) (mZ_47 : Nat → Int32), ps_X7_laysPass N_47 V_47 jth_1 jrm jwy jhi jmf jmt jla jre_1 jwr jga jlo jmo jli jta jpt jen jbg jfa jwt jac jng jnl jnm jnv jwm mW a_43 v r_47 mZ_47 → (vp_in x4_41 60 ∧ ((((mZ_47 x4_41.toNatClampNeg) = 0 → (X39 (x4_41 + 1) x3_42 mZ_47)) ∧
 (¬ ((mZ_47 x4_41.toNatClampNeg) = 0) → (∃ (N_50 : NetM) (K_50 : Nat), (pr_X7_fromOf N_50 K_50 jth_1 jrm jwy jhi jmf jmt jla jre_1 jwr jga jlo jmo jli jta jpt jen jbg jfa jwt jac jng jnl jnm jnv jwm mW x4_41 ∧ (∀ (r_50 : Int32), ps_X7_fromOf N_50 K_50 jth_1 jrm jwy jhi jmf jmt jla jre_1 jwr jga jlo jmo jli jta jpt jen jbg jfa jwt jac jng jnl jnm jnv jwm mW x4_41 r_50 → (∃ (N_51 : NetM) (V_51 : Nat), (pr_X7_laysPass N_51 V_51 jth_1 jrm jwy jhi jmf jmt jla jre_1 jwr jga jlo jmo jli jta jpt jen jbg jfa jwt jac jng jnl jnm jnv jwm mW mZ_47 r_50 ∧ (∀ (r_51 : Int32) (mZ_51 : Nat → Int32), ps_X7_laysPass N_51 V_51 jth_1 jrm jwy jhi jmf jmt jla jre_1 jwr jga jlo jmo jli jta jpt jen jbg jfa jwt jac jng jnl jnm jnv jwm mW mZ_47 r_50 r_51 mZ_51 → (((¬ r_51 = k → (X39 (x4_41 + 1) x3_42 mZ_51)) ∧
 (r_51 = k → (X39 (x4_41 + 1) x4_41 mZ_51))))))))))))))))))))) → X39 x4_41 x3_42 a_43) → X39 ix4_41 ix3_42 ia_43
def wp_X7_pass (jth jrm jwy jhi jmf jmt jla jre jwr jga jlo jmo jli jta jpt jen jbg jfa jwt jac jng jnl jnm jnv jwm : Int32) (mW mG mP mK mZ : Nat → Int32) (v k : Int32) (Q : Int32 → Int32 → Int32 → (Nat → Int32) → (Nat → Int32) → (Nat → Int32) → (Nat → Int32) → Prop) : Prop :=
  ∃ (N_1 : NetM), (pr_X7_noNode N_1 jth jrm jwy jhi jmf jmt jla jre jwr jga jlo jmo jli jta jpt jen jbg jfa jwt jac jng jnl jnm jnv jwm mW mG mP mK v ∧ (∀ (r_1 jth_1 jre_1 : Int32) (mG_1 mP_1 mK_1 : Nat → Int32), ps_X7_noNode N_1 jth jrm jwy jhi jmf jmt jla jre jwr jga jlo jmo jli jta jpt jen jbg jfa jwt jac jng jnl jnm jnv jwm mW mG mP mK v r_1 jth_1 jre_1 mG_1 mP_1 mK_1 → (((r_1 = 0 → (∀ (r_3 : Int32), ps_X7_holds jre_1 v r_3 → (((¬ r_3 = 0 → ((¬ k = (-1) → (∀ J88 : Int32 → (Nat → Int32) → Prop, (∀ (x3_38 : Int32) (a_39 : Nat → Int32), (Q x3_38 jth_1 jre_1 mG_1 mP_1 mK_1 a_39) → J88 x3_38 a_39) →
wp_X7_pass_L39 jrm jwy jhi jmf jmt jla jwr jga jlo jmo jli jta jpt jen jbg jfa jwt jac jng jnl jnm jnv jwm mW v k jth_1 jre_1 J88 0 (-1) mZ)) ∧
 (k = (-1) → (∃ (N_53 : NetM) (V_53 : Nat), (pr_X7_laysPass N_53 V_53 jth_1 jrm jwy jhi jmf jmt jla jre_1 jwr jga jlo jmo jli jta jpt jen jbg jfa jwt jac jng jnl jnm jnv jwm mW mZ v ∧ (∀ (r_53 : Int32) (mZ_53 : Nat → Int32), ps_X7_laysPass N_53 V_53 jth_1 jrm jwy jhi jmf jmt jla jre_1 jwr jga jlo jmo jli jta jpt jen jbg jfa jwt jac jng jnl jnm jnv jwm mW mZ v r_53 mZ_53 → (Q r_53 jth_1 jre_1 mG_1 mP_1 mK_1 mZ_53))))))) ∧
 (r_3 = 0 → (Q (-1) jth_1 jre_1 mG_1 mP_1 mK_1 mZ)))))) ∧
 (¬ (r_1 = 0) → (Q 0 jth_1 jre_1 mG_1 mP_1 mK_1 mZ))))))
theorem pf_X7_pass (N : NetM) (jth jrm jwy jhi jmf jmt jla jre jwr jga jlo jmo jli jta jpt jen jbg jfa jwt jac jng jnl jnm jnv jwm : Int32) (mW mG mP mK mZ : Nat → Int32) (v k : Int32) (hp : pr_X7_pass N jth jrm jwy jhi jmf jmt jla jre jwr jga jlo jmo jli jta jpt jen jbg jfa jwt jac jng jnl jnm jnv jwm mW mG mP mK mZ v k) : wp_X7_pass jth jrm jwy jhi jmf jmt jla jre jwr jga jlo jmo jli jta jpt jen jbg jfa jwt jac jng jnl jnm jnv jwm mW mG mP mK mZ v k (ps_X7_pass N jth jrm jwy jhi jmf jmt jla jre jwr jga jlo jmo jli jta jpt jen jbg jfa jwt jac jng jnl jnm jnv jwm mW mG mP mK mZ v k) := by
  unfold wp_X7_pass
  obtain ⟨hN, rfl, rfl⟩ := hp
  have h16 := hN.1.2.1
  have h60 := hN.1.2.2.2.2.1
  refine ⟨N, ⟨hN, rfl, rfl⟩, fun r1 th1 re1 G1 P1 K1 h1 => ⟨fun y r3 h3 => ?_, fun y => Or.inr (ndN h1.2 y)⟩⟩
  obtain ⟨V, hV, rfl⟩ := (of_in (by omega)).1 (ndZ h1.2 y).2
  have t0 := (ndZ h1.2 y).1
  have hr := h1.1.1
  have good : ∀ r mZ', PassAt N V k r → ps_X7_pass N jth jrm jwy jhi (-1) jmt (-1) jre jwr jga jlo jmo jli jta jpt jen jbg jfa jwt jac jng jnl jnm jnv jwm mW mG mP mK mZ (nI V) k r th1 re1 G1 P1 K1 mZ' := fun r mZ' hr => Or.inl ⟨t0, V, rfl, hV, hr⟩
  -- a pass in the words of either side
  have pw : ∀ a v, a < N.m → Rd N.E N.root v → (PassW N a v ↔ PassIs N a v) := fun a v ha hv => by
    constructor
    · rintro ⟨p1, p2, p3⟩
      refine ⟨p1, ?_, p3⟩
      apply Classical.byContradiction
      intro q
      apply p3
      exact Rs.ind (X := fun x => Rd (N.Eb a) N.root x) (fun z s w => Rs.base s w) (fun x z hx ih e w => Rs.step ih (by
        obtain ⟨j, j1, j2, j3, j4⟩ := e
        refine ⟨j, j1, fun e2 => ?_, j2, j3, j4⟩
        subst e2
        exact q (by rw [j3]; exact hx)) w) p2
    · rintro ⟨p1, p2, p3⟩; exact ⟨p1, hv, p3⟩
  have pc' : ∀ v, Rd N.E N.root v → cnt N.m (fun a => PassW N a v) = cnt N.m (fun a => PassIs N a v) := fun v hv => cnt_congr (fun a ha => pw a v ha hv)
  refine ⟨fun y3 => ?_, fun y3 => good _ _ (Or.inl ⟨hold_z h3 hr (by omega) y3, rfl⟩)⟩
  have hRd := hold_p h3 hr (by omega) y3
  refine ⟨fun nk J88 hJ88 X hX => ?_, fun ek => ⟨N, V, ⟨hN, hr, rfl, rfl, rfl, hV⟩, fun r5 Z h5 => good _ _ (Or.inr (Or.inl ⟨hRd, ek, by rw [h5.1, pc' V hRd]⟩))⟩⟩
  refine up2 N.m (fun j (b : Int32) (_ : Nat → Int32) => (b = -1 ∧ ∀ a, a < j → PassIs N a V → ¬ k = nI (cnt N.m (fun b => PassIs N b (N.fr a)))) ∨ ∃ a, a < N.m ∧ b = nI a ∧ PassIs N a V ∧ k = nI (cnt N.m (fun b => PassIs N b (N.fr a)))) (fun j b Z hj hI hh => hX _ _ _ (fun r5 h5 => ?_)) (fun b Z hI => hX _ _ _ (fun r5 h5 => ?_)) 0 (-1) mZ (Nat.zero_le _) (Or.inl ⟨rfl, fun a ha => absurd ha (by omega)⟩)
  · rw [mnW hN h5, leN (by omega) (by omega)]
    have harc := hN.1.2.2.2.2.2.1 j hj
    have no : ∀ Z', ¬ (PassIs N j V ∧ k = nI (cnt N.m (fun b => PassIs N b (N.fr j)))) → X (nI j + 1) b Z' := fun Z' q => hh _ _ (by
      rcases hI with ⟨e1, e2⟩ | e
      · refine Or.inl ⟨e1, fun a ha w1 w2 => ?_⟩
        by_cases e : a = j
        · subst e; exact q ⟨w1, w2⟩
        · exact e2 a (by omega) w1 w2
      · exact Or.inr e)
    refine ⟨fun z => absurd z (by omega), fun _ => ⟨N, V, ⟨hN, hr, rfl, rfl, rfl, hV⟩, fun r6 Z6 h6 => ⟨vp_in_nI (by omega) (by decide), ?_⟩⟩⟩
    rw [clN (by omega)]
    have hb := h6.2 j hj
    refine ⟨fun z => no _ (fun w => IsB.neg hb z ((pw j V hj hRd).2 w.1)), fun z => ⟨N, j, ⟨hN, rfl, hj⟩, fun r7 h7 => ?_⟩⟩
    have hps := (pw j V hj hRd).1 (IsB.pos hb z)
    have h7 : r7 = nI (N.fr j) := h7
    subst h7
    refine ⟨N, N.fr j, ⟨hN, hr, rfl, rfl, rfl, harc.1⟩, fun r8 Z8 h8 => ?_⟩
    have e8 : r8 = nI (cnt N.m (fun b => PassIs N b (N.fr j))) := by rw [h8.1, pc' _ hps.2.1]
    rw [e8]
    exact ⟨fun w => no _ (fun q => w q.2.symm), fun w => hh _ _ (Or.inr ⟨j, hj, rfl, hps, w.symm⟩)⟩
  · rw [mnW hN h5]
    refine ⟨fun _ => hJ88 _ _ (good _ _ (Or.inr (Or.inr ⟨hRd, nk, ?_⟩))), fun z => absurd (Int32.le_refl _) z⟩
    rcases hI with ⟨e1, e2⟩ | ⟨a, e1, e2, e3, e4⟩
    · exact Or.inr ⟨fun a ha w => e2 a ha w, e1⟩
    · exact Or.inl ⟨a, e1, e3, e4, e2⟩
def pr_X7_row (N : NetM) (jth jrm jwy jhi jmf jmt jla jre jwr jga jlo jmo jli jta jpt jen jbg jfa jwt jac jng jnl jnm jnv jwm : Int32) (mW mG mP mK : Nat → Int32) (k : Int32) : Prop := NetW N mW ∧ jmf = -1 ∧ jla = -1
def ps_X7_row (N : NetM) (jth jrm jwy jhi jmf jmt jla jre jwr jga jlo jmo jli jta jpt jen jbg jfa jwt jac jng jnl jnm jnv jwm : Int32) (mW mG mP mK : Nat → Int32) (k : Int32) (r : Int32) (jth' jre' : Int32) (mG' mP' mK' : Nat → Int32) : Prop := jth' = 0 ∧ RowOf N k r
def wp_X7_row_L22 (jrm jwy jhi jmf jmt jla jwr jga jlo jmo jli jta jpt jen jbg jfa jwt jac jng jnl jnm jnv jwm : Int32) (mW : Nat → Int32) (jre_1 x3_138 : Int32) (J60 J72 : Int32 → Prop) (ix4_174 ix2_175 : Int32) : Prop :=
  ∀ X22 : Int32 → Int32 → Prop, (∀ (x4_174 : Int32) (x2_175 : Int32), (∀ (r_177 : Int32), ps_X7_nodes 0 jrm jwy jhi jmf jmt jla jre_1 jwr jga jlo jmo jli jta jpt jen jbg jfa jwt jac jng jnl jnm jnv jwm mW r_177 → (((r_177 ≤ x4_174 → (J72 x2_175)) ∧
 (¬ (r_177 ≤ x4_174) → (∀ (r_179 : Int32), ps_X7_holds jre_1 x4_174 r_179 → (((r_179 = 0 → (X22 (x4_174 + 1) x2_175)) ∧
 (¬ (r_179 = 0) → (∃ (N_181 : NetM) (V_181 : Nat), (pr_X7_nearOf N_181 V_181 0 jrm jwy jhi jmf jmt jla jre_1 jwr jga jlo jmo jli jta jpt jen jbg jfa jwt jac jng jnl jnm jnv jwm mW x4_174 ∧ (∀ (r_181 : Int32), ps_X7_nearOf N_181 V_181 0 jrm jwy jhi jmf jmt jla jre_1 jwr jga jlo jmo jli jta jpt jen jbg jfa jwt jac jng jnl jnm jnv jwm mW x4_174 r_181 → (((r_181 = x3_138 → ((¬ x2_175 = 0 → (X22 (x4_174 + 1) (x2_175 + (-1)))) ∧
 (x2_175 = 0 → (J60 x4_174)))) ∧
 (¬ (r_181 = x3_138) → (X22 (x4_174 + 1) x2_175))))))))))))))) → X22 x4_174 x2_175) → X22 ix4_174 ix2_175
def wp_X7_row_L13 (jrm jwy jhi jmf jmt jla jwr jga jlo jmo jli jta jpt jen jbg jfa jwt jac jng jnl jnm jnv jwm : Int32) (mW : Nat → Int32) (Q : Int32 → Int32 → Int32 → (Nat → Int32) → (Nat → Int32) → (Nat → Int32) → Prop) (jre_1 : Int32) (mG_1 mP_1 mK_1 : Nat → Int32) (J78 : Prop) (ix3_138 ix2_139 : Int32) : Prop :=
  ∀ X13 : Int32 → Int32 → Prop, (∀ (x3_138 : Int32) (x2_139 : Int32), (((16 ≤ x3_138 → (J78)) ∧
 (¬ (16 ≤ x3_138) → (∀ J60 : Int32 → Prop, (∀ (x4_170 : Int32), (Q x4_170 0 jre_1 mG_1 mP_1 mK_1) → J60 x4_170) →
∀ J72 : Int32 → Prop, (∀ (x2_171 : Int32), (X13 (x3_138 + 1) x2_171) → J72 x2_171) →
wp_X7_row_L22 jrm jwy jhi jmf jmt jla jwr jga jlo jmo jli jta jpt jen jbg jfa jwt jac jng jnl jnm jnv jwm mW jre_1 x3_138 J60 J72 0 x2_139)))) → X13 x3_138 x2_139) → X13 ix3_138 ix2_139
def wp_X7_row (jth jrm jwy jhi jmf jmt jla jre jwr jga jlo jmo jli jta jpt jen jbg jfa jwt jac jng jnl jnm jnv jwm : Int32) (mW mG mP mK : Nat → Int32) (k : Int32) (Q : Int32 → Int32 → Int32 → (Nat → Int32) → (Nat → Int32) → (Nat → Int32) → Prop) : Prop :=
  ∃ (N_1 : NetM) (E_1 : Nat → Nat → Prop), (pr_X7_laysGates N_1 E_1 0 jrm jwy jhi jmf jmt jla jre jwr jga jlo jmo jli jta jpt jen jbg jfa jwt jac jng jnl jnm jnv jwm mW mG mP mK ∧ (∀ (jre_1 : Int32) (mG_1 mP_1 mK_1 : Nat → Int32), ps_X7_laysGates N_1 E_1 0 jrm jwy jhi jmf jmt jla jre jwr jga jlo jmo jli jta jpt jen jbg jfa jwt jac jng jnl jnm jnv jwm mW mG mP mK jre_1 mG_1 mP_1 mK_1 → (∀ J78 : Prop, ((Q (-1) 0 jre_1 mG_1 mP_1 mK_1) → J78) →
wp_X7_row_L13 jrm jwy jhi jmf jmt jla jwr jga jlo jmo jli jta jpt jen jbg jfa jwt jac jng jnl jnm jnv jwm mW Q jre_1 mG_1 mP_1 mK_1 J78 0 k)))
theorem pf_X7_row (N : NetM) (jth jrm jwy jhi jmf jmt jla jre jwr jga jlo jmo jli jta jpt jen jbg jfa jwt jac jng jnl jnm jnv jwm : Int32) (mW mG mP mK : Nat → Int32) (k : Int32) (hp : pr_X7_row N jth jrm jwy jhi jmf jmt jla jre jwr jga jlo jmo jli jta jpt jen jbg jfa jwt jac jng jnl jnm jnv jwm mW mG mP mK k) : wp_X7_row jth jrm jwy jhi jmf jmt jla jre jwr jga jlo jmo jli jta jpt jen jbg jfa jwt jac jng jnl jnm jnv jwm mW mG mP mK k (ps_X7_row N jth jrm jwy jhi jmf jmt jla jre jwr jga jlo jmo jli jta jpt jen jbg jfa jwt jac jng jnl jnm jnv jwm mW mG mP mK k) := by
  unfold wp_X7_row
  obtain ⟨hN, rfl, rfl⟩ := hp
  have h16 := hN.1.2.1
  refine ⟨N, N.E, ⟨hN, EGa.base hN.1 _⟩, fun re G P K h J78 hJ78 X hX => ?_⟩
  have hr := h.1
  -- so many stand ahead of node x at distance d
  have cs : ∀ d x, cnt N.n (RowB N d x) + (@ite _ (NearD N x d) (Classical.propDecidable _) 1 0) = cnt N.n (RowB N d x) + (@ite _ (NearD N x d) (Classical.propDecidable _) 1 0) := fun _ _ => rfl
  have step : ∀ d x, x < N.n → NearD N x d → cnt N.n (RowB N d (x + 1)) = cnt N.n (RowB N d x) + 1 := fun d x hx hd => cnt_add hx (fun ⟨e, e1, e2⟩ => by
    have := e1.uniq hd
    omega) (fun y _ => ⟨fun ⟨e, e1, e2⟩ => by
    by_cases q : e < d ∨ (e = d ∧ y < x)
    · exact Or.inl ⟨e, e1, q⟩
    · exact Or.inr (by omega), fun w => w.elim (fun ⟨e, e1, e2⟩ => ⟨e, e1, by omega⟩) (fun e => by subst e; exact ⟨d, hd, by omega⟩)⟩)
  have stay : ∀ d x, ¬ NearD N x d → cnt N.n (RowB N d (x + 1)) = cnt N.n (RowB N d x) := fun d x hd => cnt_congr (fun y _ => ⟨fun ⟨e, e1, e2⟩ => ⟨e, e1, by
    rcases e2 with q | ⟨q1, q2⟩
    · exact Or.inl q
    · refine Or.inr ⟨q1, ?_⟩
      by_cases w : y = x
      · subst w; subst q1; exact absurd e1 hd
      · omega⟩, fun ⟨e, e1, e2⟩ => ⟨e, e1, by omega⟩⟩)
  have turn : ∀ d, cnt N.n (RowB N (d + 1) 0) = cnt N.n (RowB N d N.n) := fun d => cnt_congr (fun y hy => ⟨fun ⟨e, e1, e2⟩ => ⟨e, e1, by omega⟩, fun ⟨e, e1, e2⟩ => ⟨e, e1, by omega⟩⟩)
  have c0 : cnt N.n (RowB N 0 0) = 0 := cnt_0 (fun y _ ⟨e, e1, e2⟩ => by omega)
  have cl : ∀ d x, cnt N.n (RowB N d x) ≤ N.n := fun d x => cnt_le _ _
  have mi : ∀ a : Nat, k - nI a + (-1) = k - nI (a + 1) := fun a => by
    rw [← nI_1, ← Int32.sub_sub]
    exact (Int32.sub_eq_add_neg (k - nI a) 1).symm
  have z0 : k - nI 0 = k := Int32.sub_zero k
  refine up1 16 (fun d (l : Int32) => l = k - nI (cnt N.n (RowB N d 0)) ∧ ∀ y e, y < N.n → NearD N y e → e < d → ¬ k = nI (cnt N.n (RowB N e y))) (fun d l hd hI hh => hX _ _ ⟨fun q => absurd q (by rw [n16, leN (by omega) (by omega)]; omega), fun _ J60 hJ60 J72 hJ72 X2 hX2 => ?_⟩) (fun l hI => hX _ _ ⟨fun _ => hJ78 ⟨rfl, Or.inr ⟨fun y e hy he => hI.2 y e hy he ?_, rfl⟩⟩, fun q => absurd (Int32.le_refl _) q⟩) 0 k (Nat.zero_le _) ⟨by rw [c0, z0], fun y e _ _ q => absurd q (by omega)⟩
  · refine up1 N.n (fun x (l : Int32) => l = k - nI (cnt N.n (RowB N d x)) ∧ ∀ y e, y < N.n → NearD N y e → (e < d ∨ (e = d ∧ y < x)) → ¬ k = nI (cnt N.n (RowB N e y))) (fun x l hx hI2 hh2 => hX2 _ _ (fun r1 h1 => ?_)) (fun l hI2 => hX2 _ _ (fun r1 h1 => ?_)) 0 l (Nat.zero_le _) ⟨hI.1, fun y e hy he q => hI.2 y e hy he (by omega)⟩
    · rw [ndW hN h1, leN (by omega) (by omega)]
      have no : ¬ NearD N x d → X2 (nI x + 1) l := fun q => hh2 _ ⟨by rw [stay d x q]; exact hI2.1, fun y e hy he w => hI2.2 y e hy he (by
        rcases w with w | ⟨w1, w2⟩
        · exact Or.inl w
        · refine Or.inr ⟨w1, ?_⟩
          by_cases e2 : y = x
          · subst e2; subst w1; exact absurd he q
          · omega)⟩
      refine ⟨fun q => absurd q (by omega), fun _ r2 h2 => ⟨fun y => no (fun w => hold_z h2 hr (by omega) y (Lv.rd _ _ w.1)), fun y => ⟨N, x, ⟨hN, rfl, hx⟩, fun r3 h3 => ?_⟩⟩⟩
      have h3 : NearIs N.E N.root x r3 := h3
      rw [h3.at (by omega)]
      refine ⟨fun hn => ⟨fun nz => hh2 _ ⟨by rw [hI2.1, mi, step d x hx hn], fun z e hz he w => ?_⟩, fun ez => hJ60 _ ⟨rfl, Or.inl ⟨x, d, hx, hn, ?_, rfl⟩⟩⟩, fun nn => no nn⟩
      · rcases w with w | ⟨w1, w2⟩
        · exact hI2.2 z e hz he (Or.inl w)
        · by_cases e2 : z = x
          · subst e2; subst w1
            intro q
            apply nz
            rw [hI2.1, ← q, Int32.sub_self]
          · exact hI2.2 z e hz he (Or.inr ⟨w1, by omega⟩)
      · have := hI2.1.symm.trans ez
        exact (Int32.sub_add_cancel k (nI (cnt N.n (RowB N d x)))).symm.trans (by rw [this, Int32.zero_add])
    · rw [ndW hN h1]
      exact ⟨fun _ => hJ72 _ (hh _ ⟨by rw [hI2.1, turn], fun y e hy he q => hI2.2 y e hy he (by omega)⟩), fun q => absurd (Int32.le_refl _) q⟩
  · have hlv := Lv.few hN.1.2.2.1 (fun a b e => (NetM.E_lt hN.1 e).2) he.1
    obtain ⟨k', k1, k2⟩ := hlv
    have : ¬ k' < e := fun q => he.2 k' q k2
    omega
def pr_X7_common (N : NetM) (jth jrm jwy jhi jmf jmt jla jre jwr jga jlo jmo jli jta jpt jen jbg jfa jwt jac jng jnl jnm jnv jwm : Int32) (mW mG mP mK : Nat → Int32) (v u : Int32) : Prop := NetW N mW ∧ jmf = -1 ∧ jla = -1
def ps_X7_common (N : NetM) (jth jrm jwy jhi jmf jmt jla jre jwr jga jlo jmo jli jta jpt jen jbg jfa jwt jac jng jnl jnm jnv jwm : Int32) (mW mG mP mK : Nat → Int32) (v u : Int32) (r : Int32) (jth' jre' : Int32) (mG' mP' mK' : Nat → Int32) : Prop := (jth' = 0 ∧ ∃ V, v = nI V ∧ V < N.n ∧ ∃ U, u = nI U ∧ U < N.n ∧ (CommonIs N V U r)) ∨ (jth' = 1 ∧ ¬ ((0 ≤ v ∧ v < nI N.n) ∧ (0 ≤ u ∧ u < nI N.n)))
def wp_X7_common_L79 (jrm jwy jhi jmf jmt jla jwr jga jlo jmo jli jta jpt jen jbg jfa jwt jac jng jnl jnm jnv jwm : Int32) (mW : Nat → Int32) (v u jth_59 jre_59 : Int32) (mG_59 mP_59 : Nat → Int32) (J130 : Int32 → Prop) (ix5_96 ix4_97 : Int32) : Prop :=
  ∀ X79 : Int32 → Int32 → Prop, (∀ (x5_96 : Int32) (x4_97 : Int32), (∀ (r_99 : Int32), ps_X7_nodes jth_59 jrm jwy jhi jmf jmt jla jre_59 jwr jga jlo jmo jli jta jpt jen jbg jfa jwt jac jng jnl jnm jnv jwm mW r_99 → (((r_99 ≤ x5_96 → (J130 x4_97)) ∧
 (¬ (r_99 ≤ x5_96) → (∀ (r_101 : Int32), ps_X7_holds (((mG_59 v.toNatClampNeg) ||| (1 <<< (v &&& 31))) &&& ((mG_59 u.toNatClampNeg) ||| (1 <<< (u &&& 31)))) x5_96 r_101 → (((r_101 = 0 → (X79 (x5_96 + 1) x4_97)) ∧
 (¬ (r_101 = 0) → ((x4_97 = (-1) → (X79 (x5_96 + 1) x5_96)) ∧
 (¬ (x4_97 = (-1)) → (vp_in x5_96 16 ∧ (vp_in x4_97 16 ∧ ((((mP_59 x5_96.toNatClampNeg) ≤ (mP_59 x4_97.toNatClampNeg) → (X79 (x5_96 + 1) x4_97)) ∧
 (¬ ((mP_59 x5_96.toNatClampNeg) ≤ (mP_59 x4_97.toNatClampNeg)) → (X79 (x5_96 + 1) x5_96)))))))))))))))) → X79 x5_96 x4_97) → X79 ix5_96 ix4_97
def wp_X7_common (jth jrm jwy jhi jmf jmt jla jre jwr jga jlo jmo jli jta jpt jen jbg jfa jwt jac jng jnl jnm jnv jwm : Int32) (mW mG mP mK : Nat → Int32) (v u : Int32) (Q : Int32 → Int32 → Int32 → (Nat → Int32) → (Nat → Int32) → (Nat → Int32) → Prop) : Prop :=
  ∃ (N_1 : NetM), (pr_X7_noNode N_1 jth jrm jwy jhi jmf jmt jla jre jwr jga jlo jmo jli jta jpt jen jbg jfa jwt jac jng jnl jnm jnv jwm mW mG mP mK v ∧ (∀ (r_1 jth_1 jre_1 : Int32) (mG_1 mP_1 mK_1 : Nat → Int32), ps_X7_noNode N_1 jth jrm jwy jhi jmf jmt jla jre jwr jga jlo jmo jli jta jpt jen jbg jfa jwt jac jng jnl jnm jnv jwm mW mG mP mK v r_1 jth_1 jre_1 mG_1 mP_1 mK_1 → (∀ J38 : Int32 → Int32 → (Nat → Int32) → (Nat → Int32) → (Nat → Int32) → Prop, (∀ (thrown_51 : Int32) (reached_52 : Int32) (a_53 : Nat → Int32) (a_54 : Nat → Int32) (a_55 : Nat → Int32), (((thrown_51 ≤ 0 → (Q (-1) thrown_51 reached_52 a_53 a_54 a_55)) ∧
 (¬ (thrown_51 ≤ 0) → (Q 0 thrown_51 reached_52 a_53 a_54 a_55)))) → J38 thrown_51 reached_52 a_53 a_54 a_55) →
((¬ r_1 = 0 → (J38 jth_1 jre_1 mG_1 mP_1 mK_1)) ∧
 (r_1 = 0 → (∃ (N_59 : NetM), (pr_X7_noNode N_59 jth_1 jrm jwy jhi jmf jmt jla jre_1 jwr jga jlo jmo jli jta jpt jen jbg jfa jwt jac jng jnl jnm jnv jwm mW mG_1 mP_1 mK_1 u ∧ (∀ (r_59 jth_59 jre_59 : Int32) (mG_59 mP_59 mK_59 : Nat → Int32), ps_X7_noNode N_59 jth_1 jrm jwy jhi jmf jmt jla jre_1 jwr jga jlo jmo jli jta jpt jen jbg jfa jwt jac jng jnl jnm jnv jwm mW mG_1 mP_1 mK_1 u r_59 jth_59 jre_59 mG_59 mP_59 mK_59 → (((¬ r_59 = 0 → (J38 jth_59 jre_59 mG_59 mP_59 mK_59)) ∧
 (r_59 = 0 → (∀ (r_61 : Int32), ps_X7_holds jre_59 v r_61 → (((r_61 = 0 → (J38 jth_59 jre_59 mG_59 mP_59 mK_59)) ∧
 (¬ (r_61 = 0) → (∀ (r_63 : Int32), ps_X7_holds jre_59 u r_63 → (((¬ r_63 = 0 → (vp_in v 16 ∧ (vp_in u 16 ∧ (∀ J130 : Int32 → Prop, (∀ (x4_94 : Int32), (Q x4_94 jth_59 jre_59 mG_59 mP_59 mK_59) → J130 x4_94) →
wp_X7_common_L79 jrm jwy jhi jmf jmt jla jwr jga jlo jmo jli jta jpt jen jbg jfa jwt jac jng jnl jnm jnv jwm mW v u jth_59 jre_59 mG_59 mP_59 J130 0 (-1))))) ∧
 (r_63 = 0 → (J38 jth_59 jre_59 mG_59 mP_59 mK_59))))))))))))))))))))
theorem pf_X7_common (N : NetM) (jth jrm jwy jhi jmf jmt jla jre jwr jga jlo jmo jli jta jpt jen jbg jfa jwt jac jng jnl jnm jnv jwm : Int32) (mW mG mP mK : Nat → Int32) (v u : Int32) (hp : pr_X7_common N jth jrm jwy jhi jmf jmt jla jre jwr jga jlo jmo jli jta jpt jen jbg jfa jwt jac jng jnl jnm jnv jwm mW mG mP mK v u) : wp_X7_common jth jrm jwy jhi jmf jmt jla jre jwr jga jlo jmo jli jta jpt jen jbg jfa jwt jac jng jnl jnm jnv jwm mW mG mP mK v u (ps_X7_common N jth jrm jwy jhi jmf jmt jla jre jwr jga jlo jmo jli jta jpt jen jbg jfa jwt jac jng jnl jnm jnv jwm mW mG mP mK v u) := by
  unfold wp_X7_common
  obtain ⟨hN, rfl, rfl⟩ := hp
  have h16 := hN.1.2.1
  refine ⟨N, ⟨hN, rfl, rfl⟩, fun r1 th1 re1 G1 P1 K1 h1 J38 hJ38 => ⟨fun y => hJ38 _ _ _ _ _ ⟨fun w => ?_, fun w => Or.inr ⟨(ndN h1.2 y).1, fun q => (ndN h1.2 y).2 q.1⟩⟩, fun y => ⟨N, ⟨hN, rfl, rfl⟩, fun r3 th3 re3 G3 P3 K3 h3 => ⟨fun y3 => hJ38 _ _ _ _ _ ⟨fun w => ?_, fun w => Or.inr ⟨(ndN h3.2 y3).1, fun q => (ndN h3.2 y3).2 q.2⟩⟩, fun y3 => ?_⟩⟩⟩⟩
  · rw [(ndN h1.2 y).1] at w; exact absurd w (by decide)
  · rw [(ndN h3.2 y3).1] at w; exact absurd w (by decide)
  obtain ⟨V, hV, rfl⟩ := (of_in (by omega)).1 (ndZ h1.2 y).2
  obtain ⟨U, hU, rfl⟩ := (of_in (by omega)).1 (ndZ h3.2 y3).2
  have t0 := (ndZ h3.2 y3).1
  obtain ⟨hr, hG, hP, hK⟩ := h3.1
  have hlt : ∀ x, Rd N.E N.root x → x < N.n := fun x hx => NetM.Rd_lt hN.1 hx
  have out : ¬ (Rd N.E N.root V ∧ Rd N.E N.root U) → J38 th3 re3 G3 P3 K3 := fun q => hJ38 _ _ _ _ _ ⟨fun _ => Or.inl ⟨t0, V, rfl, hV, U, rfl, hU, Or.inl ⟨q, rfl⟩⟩, fun w => absurd (by rw [t0]; decide) w⟩
  refine fun r4 h4 => ⟨fun z => out (fun w => hold_z h4 hr (by omega) z w.1), fun z r5 h5 => ⟨fun z5 => ⟨vp_in_nI (by omega) (by decide), vp_in_nI (by omega) (by decide), fun J130 hJ130 X hX => ?_⟩, fun z5 => out (fun w => hold_z h5 hr (by omega) z5 w.2)⟩⟩
  have hRV := hold_p h4 hr (by omega) z
  have hRU := hold_p h5 hr (by omega) z5
  rw [clN (by omega), clN (by omega)] at hX
  have own : ∀ W, W < N.n → Rd N.E N.root W → IsSet ((G3 W) ||| ((1 : Int32) <<< (nI W &&& 31))) (fun x => Dm N.E N.root x W) := fun W hW hRW => ((hG W (by omega)).or (IsSet.bit (by omega))).congr (fun x _ => ⟨fun w => w.elim (fun w => w.2) (fun w => by subst w; exact Dm.refl hRW), fun w => ((Dm.split hRW).1 w).elim Or.inr Or.inl⟩)
  have both := (own V hV hRV).and (own U hU hRU)
  refine up1 N.n (fun k (b : Int32) => (b = -1 ∧ ∀ j, j < k → ¬ (Dm N.E N.root j V ∧ Dm N.E N.root j U)) ∨ ∃ g, b = nI g ∧ g < N.n ∧ (Dm N.E N.root g V ∧ Dm N.E N.root g U) ∧ ∀ j, j < k → Dm N.E N.root j V ∧ Dm N.E N.root j U → dep N.E N.root N.n j ≤ dep N.E N.root N.n g) (fun k b hk hI hh => hX _ _ (fun r6 h6 => ?_)) (fun b hI => hX _ _ (fun r6 h6 => ?_)) 0 (-1) (Nat.zero_le _) (Or.inl ⟨rfl, fun j hj => absurd hj (by omega)⟩)
  · rw [ndW hN h6, leN (by omega) (by omega)]
    refine ⟨fun q => absurd q (by omega), fun _ r7 h7 => ⟨fun y7 => hh _ ?_, fun y7 => ⟨fun e => hh _ ?_, fun ne => ?_⟩⟩⟩
    · have nb := hold_z h7 both (by omega) y7
      rcases hI with ⟨e1, e2⟩ | ⟨g, e1, e2, e3, e4⟩
      · refine Or.inl ⟨e1, fun j hj => ?_⟩
        by_cases e : j = k
        · subst e; exact nb
        · exact e2 j (by omega)
      · refine Or.inr ⟨g, e1, e2, e3, fun j hj w => ?_⟩
        by_cases e : j = k
        · subst e; exact absurd w nb
        · exact e4 j (by omega) w
    · have yb := hold_p h7 both (by omega) y7
      rcases hI with ⟨e1, e2⟩ | ⟨g, e1, e2, e3, e4⟩
      · refine Or.inr ⟨k, rfl, hk, yb, fun j hj w => ?_⟩
        by_cases e : j = k
        · subst e; exact Nat.le_refl _
        · exact absurd w (e2 j (by omega))
      · exact absurd (e1.symm.trans e) (nI_m1 (by omega))
    · have yb := hold_p h7 both (by omega) y7
      rcases hI with ⟨e1, e2⟩ | ⟨g, e1, e2, e3, e4⟩
      · exact absurd e1 ne
      · subst e1
        have d1 := dep_n hlt yb.1.Rg
        have d2 := dep_n hlt e3.1.Rg
        rw [clN (by omega), clN (by omega), (hP k (by omega)).1 yb.1.Rg, (hP g (by omega)).1 e3.1.Rg, leN (by omega) (by omega)]
        refine ⟨vp_in_nI (by omega) (by decide), vp_in_nI (by omega) (by decide), fun le => hh _ (Or.inr ⟨g, rfl, e2, e3, fun j hj w => ?_⟩), fun nl => hh _ (Or.inr ⟨k, rfl, hk, yb, fun j hj w => ?_⟩)⟩
        · by_cases e : j = k
          · subst e; exact le
          · exact e4 j (by omega) w
        · by_cases e : j = k
          · subst e; exact Nat.le_refl _
          · have := e4 j (by omega) w
            omega
  · rw [ndW hN h6]
    refine ⟨fun _ => hJ130 _ (Or.inl ⟨t0, V, rfl, hV, U, rfl, hU, Or.inr ⟨hRV, hRU, ?_⟩⟩), fun q => absurd (Int32.le_refl _) q⟩
    rcases hI with ⟨e1, e2⟩ | ⟨g, e1, e2, e3, e4⟩
    · exact absurd ⟨Dm.root hRV, Dm.root hRU⟩ (e2 N.root hN.1.2.2.1)
    · exact ⟨g, e1, e3.1, e3.2, fun w w1 w2 => Dm.of_dep hlt w1 e3.1 (e4 w (hlt w w1.Rg) ⟨w1, w2⟩)⟩
def pr_X7_worst (N : NetM) (jth jrm jwy jhi jmf jmt jla jre jwr jga jlo jmo jli jta jpt jen jbg jfa jwt jac jng jnl jnm jnv jwm : Int32) (mW mG mP mK : Nat → Int32) (j : Int32) : Prop := NetW N mW ∧ jmf = -1 ∧ jla = -1
def ps_X7_worst (N : NetM) (jth jrm jwy jhi jmf jmt jla jre jwr jga jlo jmo jli jta jpt jen jbg jfa jwt jac jng jnl jnm jnv jwm : Int32) (mW mG mP mK : Nat → Int32) (j : Int32) (r : Int32) (jth' jre' : Int32) (mG' mP' mK' : Nat → Int32) : Prop := (jth' = 0 ∧ ∃ J, j = nI J ∧ J ≤ 1 ∧ WorstIs N J r) ∨ (jth' = 1 ∧ ¬ (0 ≤ j ∧ j ≤ 1))
def wp_X7_worst_L40 (jrm jwy jhi jmf jmt jla jwr jga jlo jmo jli jta jpt jen jbg jfa jwt jac jng jnl jnm jnv jwm : Int32) (mW : Nat → Int32) (jre_1 jth_5 : Int32) (J102 : Int32 → Int32 → Prop) (ix4_56 ix3_57 ix2_58 : Int32) : Prop :=
  ∀ X40 : Int32 → Int32 → Int32 → Prop, (∀ (x4_56 : Int32) (x3_57 : Int32) (x2_58 : Int32), (∀ (r_60 : Int32), ps_X7_arcs jth_5 jrm jwy jhi jmf jmt jla jre_1 jwr jga jlo jmo jli jta jpt jen jbg jfa jwt jac jng jnl jnm jnv jwm mW r_60 → (((r_60 ≤ x4_56 → (J102 x3_57 x2_58)) ∧
 (¬ (r_60 ≤ x4_56) → (∃ (N_62 : NetM) (K_62 : Nat), (pr_X7_isOpen N_62 K_62 jth_5 jrm jwy jhi jmf jmt jla jre_1 jwr jga jlo jmo jli jta jpt jen jbg jfa jwt jac jng jnl jnm jnv jwm mW x4_56 ∧ (∀ (r_62 : Int32), ps_X7_isOpen N_62 K_62 jth_5 jrm jwy jhi jmf jmt jla jre_1 jwr jga jlo jmo jli jta jpt jen jbg jfa jwt jac jng jnl jnm jnv jwm mW x4_56 r_62 → (∀ J79 : Int32 → Prop, (∀ (t_66 : Int32), (((x3_57 < t_66 → (X40 (x4_56 + 1) t_66 x4_56)) ∧
 (¬ (x3_57 < t_66) → (X40 (x4_56 + 1) x3_57 x2_58)))) → J79 t_66) →
((r_62 = 0 → (J79 0)) ∧
 (¬ (r_62 = 0) → (∃ (N_70 : NetM) (E_70 : Nat → Nat → Prop) (B_70 : Nat → Prop), (pr_X7_reachedBut N_70 E_70 B_70 jth_5 jrm jwy jhi jmf jmt jla jre_1 jwr jga jlo jmo jli jta jpt jen jbg jfa jwt jac jng jnl jnm jnv jwm mW 0 x4_56 ∧ (∀ (r_70 : Int32), ps_X7_reachedBut N_70 E_70 B_70 jth_5 jrm jwy jhi jmf jmt jla jre_1 jwr jga jlo jmo jli jta jpt jen jbg jfa jwt jac jng jnl jnm jnv jwm mW 0 x4_56 r_70 → (∀ (r_71 : Int32), ps_X7_bits (jre_1 &&& (r_70 ^^^ (-1))) r_71 → (J79 r_71))))))))))))))) → X40 x4_56 x3_57 x2_58) → X40 ix4_56 ix3_57 ix2_58
def wp_X7_worst (jth jrm jwy jhi jmf jmt jla jre jwr jga jlo jmo jli jta jpt jen jbg jfa jwt jac jng jnl jnm jnv jwm : Int32) (mW mG mP mK : Nat → Int32) (j : Int32) (Q : Int32 → Int32 → Int32 → (Nat → Int32) → (Nat → Int32) → (Nat → Int32) → Prop) : Prop :=
  ∃ (N_1 : NetM) (E_1 : Nat → Nat → Prop), (pr_X7_laysGates N_1 E_1 0 jrm jwy jhi jmf jmt jla jre jwr jga jlo jmo jli jta jpt jen jbg jfa jwt jac jng jnl jnm jnv jwm mW mG mP mK ∧ (∀ (jre_1 : Int32) (mG_1 mP_1 mK_1 : Nat → Int32), ps_X7_laysGates N_1 E_1 0 jrm jwy jhi jmf jmt jla jre jwr jga jlo jmo jli jta jpt jen jbg jfa jwt jac jng jnl jnm jnv jwm mW mG mP mK jre_1 mG_1 mP_1 mK_1 → (∀ (r_2 : Int32), ps_X7_in j 0 1 r_2 → (∀ J24 : Int32 → Prop, (∀ (t_4 : Int32), (pr_X7_throwsIf 0 jrm jwy jhi jmf jmt jla jre_1 jwr jga jlo jmo jli jta jpt jen jbg jfa jwt jac jng jnl jnm jnv jwm t_4 1 ∧ (∀ (r_5 jth_5 : Int32), ps_X7_throwsIf 0 jrm jwy jhi jmf jmt jla jre_1 jwr jga jlo jmo jli jta jpt jen jbg jfa jwt jac jng jnl jnm jnv jwm t_4 1 r_5 jth_5 → (((r_5 = 0 → (∀ J102 : Int32 → Int32 → Prop, (∀ (x3_52 : Int32) (x2_53 : Int32), (((¬ j = 0 → (Q x3_52 jth_5 jre_1 mG_1 mP_1 mK_1)) ∧
 (j = 0 → (Q x2_53 jth_5 jre_1 mG_1 mP_1 mK_1)))) → J102 x3_52 x2_53) →
wp_X7_worst_L40 jrm jwy jhi jmf jmt jla jwr jga jlo jmo jli jta jpt jen jbg jfa jwt jac jng jnl jnm jnv jwm mW jre_1 jth_5 J102 0 0 (-1))) ∧
 (¬ (r_5 = 0) → (Q 0 jth_5 jre_1 mG_1 mP_1 mK_1)))))) → J24 t_4) →
((¬ r_2 = 0 → (J24 0)) ∧
 (r_2 = 0 → (J24 1)))))))
theorem pf_X7_worst (N : NetM) (jth jrm jwy jhi jmf jmt jla jre jwr jga jlo jmo jli jta jpt jen jbg jfa jwt jac jng jnl jnm jnv jwm : Int32) (mW mG mP mK : Nat → Int32) (j : Int32) (hp : pr_X7_worst N jth jrm jwy jhi jmf jmt jla jre jwr jga jlo jmo jli jta jpt jen jbg jfa jwt jac jng jnl jnm jnv jwm mW mG mP mK j) : wp_X7_worst jth jrm jwy jhi jmf jmt jla jre jwr jga jlo jmo jli jta jpt jen jbg jfa jwt jac jng jnl jnm jnv jwm mW mG mP mK j (ps_X7_worst N jth jrm jwy jhi jmf jmt jla jre jwr jga jlo jmo jli jta jpt jen jbg jfa jwt jac jng jnl jnm jnv jwm mW mG mP mK j) := by
  unfold wp_X7_worst
  obtain ⟨hN, rfl, rfl⟩ := hp
  have h16 := hN.1.2.1
  have h60 := hN.1.2.2.2.2.1
  refine ⟨N, N.E, ⟨hN, EGa.base hN.1 _⟩, fun re G P K h r2 h2 J24 hJ24 => ⟨fun y => hJ24 0 ⟨Or.inl rfl, fun r5 th5 h5 => ⟨fun _ J102 hJ102 X hX => ?_, fun z => absurd (thrA h5).1 z⟩⟩, fun y => hJ24 1 ⟨Or.inr rfl, fun r5 th5 h5 => ⟨fun z => absurd ((thrB h5).1.symm.trans z) (by decide), fun _ => Or.inr ⟨(thrB h5).2, no_i1 h2 y⟩⟩⟩⟩⟩
  obtain ⟨J, hJ, rfl⟩ := of_le (k := 1) (by decide) (of_i1 h2 y)
  refine up2 N.m (fun k (mo fo : Int32) => FstMax k (fun _ => True) (fun k => nI (lossN N k)) fo mo) (fun k mo fo hk hI hh => hX _ _ _ (fun r6 h6 => ?_)) (fun mo fo hI => hX _ _ _ (fun r6 h6 => ?_)) 0 0 (-1) (Nat.zero_le _) FstMax.zero
  · rw [mnW hN h6, leN (by omega) (by omega)]
    refine ⟨fun q => absurd q (by omega), fun _ => ⟨N, k, ⟨hN, rfl, hk⟩, fun r7 h7 J79 hJ79 => ?_⟩⟩
    have put : ∀ t, t = nI (lossN N k) → J79 t := fun t ht => hJ79 t (by
      subst ht
      exact ⟨fun w => hh _ _ (hI.gt trivial w), fun w => hh _ _ (hI.le w)⟩)
    refine ⟨fun z => put 0 ?_, fun z => ⟨N, N.Eb k, fun _ => False, ⟨hN, EGa.but hN.1 hk _, IsSet.zero⟩, fun r8 h8 r9 h9 => put r9 ?_⟩⟩
    · unfold lossN; rw [if_neg (no_i1 h7 z)]; rfl
    · have h9 : r9 = nI (pc (re &&& (r8 ^^^ (-1)))) := h9
      rw [h9, pc_set (h.1.andNot h8)]
      unfold lossN
      rw [if_pos (of_i1 h7 z)]
      rfl
  · rw [mnW hN h6]
    refine ⟨fun _ => hJ102 _ _ ⟨fun w => Or.inl ⟨(thrA h5).2, J, rfl, hJ, fo, mo, hI, Or.inr ⟨?_, rfl⟩⟩, fun w => Or.inl ⟨(thrA h5).2, J, rfl, hJ, fo, mo, hI, Or.inl ⟨?_, rfl⟩⟩⟩, fun q => absurd (Int32.le_refl _) q⟩
    · have : ¬ J = 0 := fun e => w (by rw [e]; rfl)
      omega
    · exact (eqN (b := 0) (by omega) (by omega)).mp w
def pr_X7_fall (N : NetM) (jth jrm jwy jhi jmf jmt jla jre jwr jga jlo jmo jli jta jpt jen jbg jfa jwt jac jng jnl jnm jnv jwm : Int32) (mW mG mP mK mQ mR : Nat → Int32) (k j : Int32) : Prop := NetW N mW ∧ jmf = -1 ∧ jla = -1
def ps_X7_fall (N : NetM) (jth jrm jwy jhi jmf jmt jla jre jwr jga jlo jmo jli jta jpt jen jbg jfa jwt jac jng jnl jnm jnv jwm : Int32) (mW mG mP mK mQ mR : Nat → Int32) (k j : Int32) (r : Int32) (jth' jmf' jla' jre' jwr' jng' jnl' jnm' jnv' : Int32) (mG' mP' mK' mQ' mR' : Nat → Int32) : Prop := jmf' = -1 ∧ jla' = -1 ∧ ((jth' = 0 ∧ ∃ K, k = nI K ∧ K < N.m ∧ N.op K = true ∧ ∃ J, j = nI J ∧ J ≤ 2 ∧ FallIs N K J r) ∨ (jth' = 1 ∧ ¬ (0 ≤ k ∧ k < nI N.m)) ∨ (jth' = 2 ∧ (0 ≤ k ∧ k < nI N.m) ∧ ¬ (0 ≤ j ∧ j ≤ 2)) ∨ (jth' = 3 ∧ (0 ≤ k ∧ k < nI N.m) ∧ (0 ≤ j ∧ j ≤ 2) ∧ ∃ K, k = nI K ∧ K < N.m ∧ N.op K = false))
def wp_X7_fall (jth jrm jwy jhi jmf jmt jla jre jwr jga jlo jmo jli jta jpt jen jbg jfa jwt jac jng jnl jnm jnv jwm : Int32) (mW mG mP mK mQ mR : Nat → Int32) (k j : Int32) (Q : Int32 → Int32 → Int32 → Int32 → Int32 → Int32 → Int32 → Int32 → Int32 → Int32 → (Nat → Int32) → (Nat → Int32) → (Nat → Int32) → (Nat → Int32) → (Nat → Int32) → Prop) : Prop :=
  ∃ (N_1 : NetM), (pr_X7_isArc N_1 0 jrm jwy jhi jmf jmt jla jre jwr jga jlo jmo jli jta jpt jen jbg jfa jwt jac jng jnl jnm jnv jwm mW k ∧ (∀ (r_1 : Int32), ps_X7_isArc N_1 0 jrm jwy jhi jmf jmt jla jre jwr jga jlo jmo jli jta jpt jen jbg jfa jwt jac jng jnl jnm jnv jwm mW k r_1 → (∀ J19 : Int32 → Prop, (∀ (t_3 : Int32), (pr_X7_throwsIf 0 jrm jwy jhi jmf jmt jla jre jwr jga jlo jmo jli jta jpt jen jbg jfa jwt jac jng jnl jnm jnv jwm t_3 1 ∧ (∀ (r_4 jth_4 : Int32), ps_X7_throwsIf 0 jrm jwy jhi jmf jmt jla jre jwr jga jlo jmo jli jta jpt jen jbg jfa jwt jac jng jnl jnm jnv jwm t_3 1 r_4 jth_4 → (((¬ r_4 = 0 → (Q 0 jth_4 jmf jla jre jwr jng jnl jnm jnv mG mP mK mQ mR)) ∧
 (r_4 = 0 → (∀ (r_6 : Int32), ps_X7_in j 0 2 r_6 → (∀ J41 : Int32 → Prop, (∀ (t_8 : Int32), (pr_X7_throwsIf jth_4 jrm jwy jhi jmf jmt jla jre jwr jga jlo jmo jli jta jpt jen jbg jfa jwt jac jng jnl jnm jnv jwm t_8 2 ∧ (∀ (r_9 jth_9 : Int32), ps_X7_throwsIf jth_4 jrm jwy jhi jmf jmt jla jre jwr jga jlo jmo jli jta jpt jen jbg jfa jwt jac jng jnl jnm jnv jwm t_8 2 r_9 jth_9 → (((¬ r_9 = 0 → (Q 0 jth_9 jmf jla jre jwr jng jnl jnm jnv mG mP mK mQ mR)) ∧
 (r_9 = 0 → (∃ (N_11 : NetM) (K_11 : Nat), (pr_X7_isOpen N_11 K_11 jth_9 jrm jwy jhi jmf jmt jla jre jwr jga jlo jmo jli jta jpt jen jbg jfa jwt jac jng jnl jnm jnv jwm mW k ∧ (∀ (r_11 : Int32), ps_X7_isOpen N_11 K_11 jth_9 jrm jwy jhi jmf jmt jla jre jwr jga jlo jmo jli jta jpt jen jbg jfa jwt jac jng jnl jnm jnv jwm mW k r_11 → (∀ J62 : Int32 → Prop, (∀ (t_13 : Int32), (pr_X7_throwsIf jth_9 jrm jwy jhi jmf jmt jla jre jwr jga jlo jmo jli jta jpt jen jbg jfa jwt jac jng jnl jnm jnv jwm t_13 3 ∧ (∀ (r_14 jth_14 : Int32), ps_X7_throwsIf jth_9 jrm jwy jhi jmf jmt jla jre jwr jga jlo jmo jli jta jpt jen jbg jfa jwt jac jng jnl jnm jnv jwm t_13 3 r_14 jth_14 → (((r_14 = 0 → (∃ (N_16 : NetM) (K_16 : Nat), (pr_X7_triesWithout N_16 K_16 jth_14 jrm jwy jhi jmf jmt jla jre jwr jga jlo jmo jli jta jpt jen jbg jfa jwt jac jng jnl jnm jnv jwm mW mG mP mK mQ mR k ∧ (∀ (jmf_16 jla_16 jre_16 jwr_16 jng_16 jnl_16 jnm_16 jnv_16 : Int32) (mG_16 mP_16 mK_16 mQ_16 mR_16 : Nat → Int32), ps_X7_triesWithout N_16 K_16 jth_14 jrm jwy jhi jmf jmt jla jre jwr jga jlo jmo jli jta jpt jen jbg jfa jwt jac jng jnl jnm jnv jwm mW mG mP mK mQ mR k jmf_16 jla_16 jre_16 jwr_16 jng_16 jnl_16 jnm_16 jnv_16 mG_16 mP_16 mK_16 mQ_16 mR_16 → (((¬ j = 0 → ((¬ j = 1 → (Q jnv_16 jth_14 jmf_16 jla_16 jre_16 jwr_16 jng_16 jnl_16 jnm_16 jnv_16 mG_16 mP_16 mK_16 mQ_16 mR_16)) ∧
 (j = 1 → (Q jnm_16 jth_14 jmf_16 jla_16 jre_16 jwr_16 jng_16 jnl_16 jnm_16 jnv_16 mG_16 mP_16 mK_16 mQ_16 mR_16)))) ∧
 (j = 0 → (Q jnl_16 jth_14 jmf_16 jla_16 jre_16 jwr_16 jng_16 jnl_16 jnm_16 jnv_16 mG_16 mP_16 mK_16 mQ_16 mR_16)))))))) ∧
 (¬ (r_14 = 0) → (Q 0 jth_14 jmf jla jre jwr jng jnl jnm jnv mG mP mK mQ mR)))))) → J62 t_13) →
((¬ r_11 = 0 → (J62 0)) ∧
 (r_11 = 0 → (J62 1)))))))))))) → J41 t_8) →
((¬ r_6 = 0 → (J41 0)) ∧
 (r_6 = 0 → (J41 1)))))))))) → J19 t_3) →
((¬ r_1 = 0 → (J19 0)) ∧
 (r_1 = 0 → (J19 1))))))
theorem pf_X7_fall (N : NetM) (jth jrm jwy jhi jmf jmt jla jre jwr jga jlo jmo jli jta jpt jen jbg jfa jwt jac jng jnl jnm jnv jwm : Int32) (mW mG mP mK mQ mR : Nat → Int32) (k j : Int32) (hp : pr_X7_fall N jth jrm jwy jhi jmf jmt jla jre jwr jga jlo jmo jli jta jpt jen jbg jfa jwt jac jng jnl jnm jnv jwm mW mG mP mK mQ mR k j) : wp_X7_fall jth jrm jwy jhi jmf jmt jla jre jwr jga jlo jmo jli jta jpt jen jbg jfa jwt jac jng jnl jnm jnv jwm mW mG mP mK mQ mR k j (ps_X7_fall N jth jrm jwy jhi jmf jmt jla jre jwr jga jlo jmo jli jta jpt jen jbg jfa jwt jac jng jnl jnm jnv jwm mW mG mP mK mQ mR k j) := by
  unfold wp_X7_fall
  obtain ⟨hN, rfl, rfl⟩ := hp
  have h16 := hN.1.2.1
  have h60 := hN.1.2.2.2.2.1
  refine ⟨N, hN, fun r2 h2 J19 hJ19 => ⟨fun y => hJ19 0 ⟨Or.inl rfl, fun r4 th4 h4 => ⟨fun z => absurd (thrA h4).1 z, fun _ r6 h6 J41 hJ41 => ⟨fun y6 => hJ41 0 ⟨Or.inl rfl, fun r9 th9 h9 => ⟨fun z => absurd (thrA h9).1 z, fun _ => ?_⟩⟩, fun y6 => hJ41 1 ⟨Or.inr rfl, fun r9 th9 h9 => ⟨fun _ => ⟨rfl, rfl, Or.inr (Or.inr (Or.inl ⟨(thrB h9).2, of_i1 h2 y, no_i1 h6 y6⟩))⟩, fun z => absurd ((thrB h9).1.symm.trans z) (by decide)⟩⟩⟩⟩⟩, fun y => hJ19 1 ⟨Or.inr rfl, fun r4 th4 h4 => ⟨fun _ => ⟨rfl, rfl, Or.inr (Or.inl ⟨(thrB h4).2, no_i1 h2 y⟩)⟩, fun z => absurd ((thrB h4).1.symm.trans z) (by decide)⟩⟩⟩⟩
  obtain ⟨K', hK, rfl⟩ := (of_in (by omega)).1 (of_i1 h2 y)
  obtain ⟨J, hJ, rfl⟩ := of_le (k := 2) (by decide) (of_i1 h6 y6)
  refine ⟨N, K', ⟨hN, rfl, hK⟩, fun r11 h11 J62 hJ62 => ⟨fun yo => hJ62 0 ⟨Or.inl rfl, fun r14 th14 h14 => ⟨fun _ => ⟨N, K', ⟨hN, rfl, rfl, rfl, hK⟩, fun mf la re wr ng nl nm nv G P K Q1 R1 h => ?_⟩, fun z => absurd (thrA h14).1 z⟩⟩, fun yo => hJ62 1 ⟨Or.inr rfl, fun r14 th14 h14 => ⟨fun z => absurd ((thrB h14).1.symm.trans z) (by decide), fun _ => ⟨rfl, rfl, Or.inr (Or.inr (Or.inr ⟨(thrB h14).2, of_i1 h2 y, of_i1 h6 y6, K', rfl, hK, by have := no_i1 h11 yo; simpa using this⟩))⟩⟩⟩⟩⟩
  obtain ⟨q1, q2, q3, q4, q5, q6⟩ := h
  have t0 : th14 = 0 := (thrA h14).2.trans ((thrA h9).2.trans (thrA h4).2)
  have fin : ∀ r, FallIs N K' J r → ps_X7_fall N jth jrm jwy jhi (-1) jmt (-1) jre jwr jga jlo jmo jli jta jpt jen jbg jfa jwt jac jng jnl jnm jnv jwm mW mG mP mK mQ mR (nI K') (nI J) r th14 mf la re wr ng nl nm nv G P K Q1 R1 := fun r hr => ⟨q1, q2, Or.inl ⟨t0, K', rfl, hK, of_i1 h11 yo, J, rfl, hJ, hr⟩⟩
  refine ⟨fun a => ⟨fun b => fin _ (Or.inr (Or.inr ⟨?_, q6⟩)), fun b => fin _ (Or.inr (Or.inl ⟨(eqN (b := 1) (by omega) (by omega)).mp b, q5⟩))⟩, fun a => fin _ (Or.inl ⟨(eqN (b := 0) (by omega) (by omega)).mp a, q4⟩)⟩
  have n0 : ¬ J = 0 := fun e => a (by rw [e]; rfl)
  have n1 : ¬ J = 1 := fun e => b (by rw [e]; rfl)
  omega
def pr_X7_would (N : NetM) (jth jrm jwy jhi jmf jmt jla jre jwr jga jlo jmo jli jta jpt jen jbg jfa jwt jac jng jnl jnm jnv jwm : Int32) (mW mG mP mK mQ mR : Nat → Int32) (v u j : Int32) : Prop := NetW N mW ∧ jmf = -1 ∧ jla = -1
def ps_X7_would (N : NetM) (jth jrm jwy jhi jmf jmt jla jre jwr jga jlo jmo jli jta jpt jen jbg jfa jwt jac jng jnl jnm jnv jwm : Int32) (mW mG mP mK mQ mR : Nat → Int32) (v u j : Int32) (r : Int32) (jth' jmf' jmt' jla' jre' jwr' jng' jnl' jnm' jnv' : Int32) (mG' mP' mK' mQ' mR' : Nat → Int32) : Prop := jmf' = -1 ∧ jla' = -1 ∧ ((jth' = 0 ∧ ∃ V, v = nI V ∧ V < N.n ∧ ∃ U, u = nI U ∧ U < N.n ∧ (∃ J, j = nI J ∧ J ≤ 2 ∧ WouldIs N V U J r)) ∨ (jth' = 1 ∧ ¬ ((0 ≤ v ∧ v < nI N.n) ∧ (0 ≤ u ∧ u < nI N.n))) ∨ (jth' = 2 ∧ ((0 ≤ v ∧ v < nI N.n) ∧ (0 ≤ u ∧ u < nI N.n)) ∧ ¬ (0 ≤ j ∧ j ≤ 2)))
def wp_X7_would (jth jrm jwy jhi jmf jmt jla jre jwr jga jlo jmo jli jta jpt jen jbg jfa jwt jac jng jnl jnm jnv jwm : Int32) (mW mG mP mK mQ mR : Nat → Int32) (v u j : Int32) (Q : Int32 → Int32 → Int32 → Int32 → Int32 → Int32 → Int32 → Int32 → Int32 → Int32 → Int32 → (Nat → Int32) → (Nat → Int32) → (Nat → Int32) → (Nat → Int32) → (Nat → Int32) → Prop) : Prop :=
  ∃ (N_1 : NetM), (pr_X7_noNode N_1 jth jrm jwy jhi jmf jmt jla jre jwr jga jlo jmo jli jta jpt jen jbg jfa jwt jac jng jnl jnm jnv jwm mW mG mP mK v ∧ (∀ (r_1 jth_1 jre_1 : Int32) (mG_1 mP_1 mK_1 : Nat → Int32), ps_X7_noNode N_1 jth jrm jwy jhi jmf jmt jla jre jwr jga jlo jmo jli jta jpt jen jbg jfa jwt jac jng jnl jnm jnv jwm mW mG mP mK v r_1 jth_1 jre_1 mG_1 mP_1 mK_1 → (((¬ r_1 = 0 → (Q 0 jth_1 jmf jmt jla jre_1 jwr jng jnl jnm jnv mG_1 mP_1 mK_1 mQ mR)) ∧
 (r_1 = 0 → (∃ (N_3 : NetM), (pr_X7_noNode N_3 jth_1 jrm jwy jhi jmf jmt jla jre_1 jwr jga jlo jmo jli jta jpt jen jbg jfa jwt jac jng jnl jnm jnv jwm mW mG_1 mP_1 mK_1 u ∧ (∀ (r_3 jth_3 jre_3 : Int32) (mG_3 mP_3 mK_3 : Nat → Int32), ps_X7_noNode N_3 jth_1 jrm jwy jhi jmf jmt jla jre_1 jwr jga jlo jmo jli jta jpt jen jbg jfa jwt jac jng jnl jnm jnv jwm mW mG_1 mP_1 mK_1 u r_3 jth_3 jre_3 mG_3 mP_3 mK_3 → (((¬ r_3 = 0 → (Q 0 jth_3 jmf jmt jla jre_3 jwr jng jnl jnm jnv mG_3 mP_3 mK_3 mQ mR)) ∧
 (r_3 = 0 → (∀ (r_5 : Int32), ps_X7_in j 0 2 r_5 → (∀ J31 : Int32 → Prop, (∀ (t_7 : Int32), (pr_X7_throwsIf jth_3 jrm jwy jhi jmf jmt jla jre_3 jwr jga jlo jmo jli jta jpt jen jbg jfa jwt jac jng jnl jnm jnv jwm t_7 2 ∧ (∀ (r_8 jth_8 : Int32), ps_X7_throwsIf jth_3 jrm jwy jhi jmf jmt jla jre_3 jwr jga jlo jmo jli jta jpt jen jbg jfa jwt jac jng jnl jnm jnv jwm t_7 2 r_8 jth_8 → (((r_8 = 0 → (∃ (N_10 : NetM) (V_10 U_10 : Nat), (pr_X7_tries N_10 V_10 U_10 jth_8 jrm jwy jhi jmf jmt jla jre_3 jwr jga jlo jmo jli jta jpt jen jbg jfa jwt jac jng jnl jnm jnv jwm mW mG_3 mP_3 mK_3 mQ mR v u ∧ (∀ (jmf_10 jmt_10 jla_10 jre_10 jwr_10 jng_10 jnl_10 jnm_10 jnv_10 : Int32) (mG_10 mP_10 mK_10 mQ_10 mR_10 : Nat → Int32), ps_X7_tries N_10 V_10 U_10 jth_8 jrm jwy jhi jmf jmt jla jre_3 jwr jga jlo jmo jli jta jpt jen jbg jfa jwt jac jng jnl jnm jnv jwm mW mG_3 mP_3 mK_3 mQ mR v u jmf_10 jmt_10 jla_10 jre_10 jwr_10 jng_10 jnl_10 jnm_10 jnv_10 mG_10 mP_10 mK_10 mQ_10 mR_10 → (((¬ j = 0 → ((¬ j = 1 → (Q jnv_10 jth_8 jmf_10 jmt_10 jla_10 jre_10 jwr_10 jng_10 jnl_10 jnm_10 jnv_10 mG_10 mP_10 mK_10 mQ_10 mR_10)) ∧
 (j = 1 → (Q jnm_10 jth_8 jmf_10 jmt_10 jla_10 jre_10 jwr_10 jng_10 jnl_10 jnm_10 jnv_10 mG_10 mP_10 mK_10 mQ_10 mR_10)))) ∧
 (j = 0 → (Q jng_10 jth_8 jmf_10 jmt_10 jla_10 jre_10 jwr_10 jng_10 jnl_10 jnm_10 jnv_10 mG_10 mP_10 mK_10 mQ_10 mR_10)))))))) ∧
 (¬ (r_8 = 0) → (Q 0 jth_8 jmf jmt jla jre_3 jwr jng jnl jnm jnv mG_3 mP_3 mK_3 mQ mR)))))) → J31 t_7) →
((¬ r_5 = 0 → (J31 0)) ∧
 (r_5 = 0 → (J31 1))))))))))))))))
theorem pf_X7_would (N : NetM) (jth jrm jwy jhi jmf jmt jla jre jwr jga jlo jmo jli jta jpt jen jbg jfa jwt jac jng jnl jnm jnv jwm : Int32) (mW mG mP mK mQ mR : Nat → Int32) (v u j : Int32) (hp : pr_X7_would N jth jrm jwy jhi jmf jmt jla jre jwr jga jlo jmo jli jta jpt jen jbg jfa jwt jac jng jnl jnm jnv jwm mW mG mP mK mQ mR v u j) : wp_X7_would jth jrm jwy jhi jmf jmt jla jre jwr jga jlo jmo jli jta jpt jen jbg jfa jwt jac jng jnl jnm jnv jwm mW mG mP mK mQ mR v u j (ps_X7_would N jth jrm jwy jhi jmf jmt jla jre jwr jga jlo jmo jli jta jpt jen jbg jfa jwt jac jng jnl jnm jnv jwm mW mG mP mK mQ mR v u j) := by
  unfold wp_X7_would
  obtain ⟨hN, rfl, rfl⟩ := hp
  have h16 := hN.1.2.1
  refine ⟨N, ⟨hN, rfl, rfl⟩, fun r1 th1 re1 G1 P1 K1 h1 => ⟨fun y => ⟨rfl, rfl, Or.inr (Or.inl ⟨(ndN h1.2 y).1, fun w => (ndN h1.2 y).2 w.1⟩)⟩, fun y => ⟨N, ⟨hN, rfl, rfl⟩, fun r3 th3 re3 G3 P3 K3 h3 => ⟨fun y3 => ⟨rfl, rfl, Or.inr (Or.inl ⟨(ndN h3.2 y3).1, fun w => (ndN h3.2 y3).2 w.2⟩)⟩, fun y3 r5 h5 J31 hJ31 => ⟨fun y5 => hJ31 0 ⟨Or.inl rfl, fun r8 th8 h8 => ⟨fun _ => ?_, fun z => absurd (thrA h8).1 z⟩⟩, fun y5 => hJ31 1 ⟨Or.inr rfl, fun r8 th8 h8 => ⟨fun z => absurd ((thrB h8).1.symm.trans z) (by decide), fun _ => ⟨rfl, rfl, Or.inr (Or.inr ⟨(thrB h8).2, ⟨(ndZ h1.2 y).2, (ndZ h3.2 y3).2⟩, no_i1 h5 y5⟩)⟩⟩⟩⟩⟩⟩⟩⟩
  obtain ⟨V, hV, rfl⟩ := (of_in (by omega)).1 (ndZ h1.2 y).2
  obtain ⟨U, hU, rfl⟩ := (of_in (by omega)).1 (ndZ h3.2 y3).2
  obtain ⟨J, hJ, rfl⟩ := of_le (k := 2) (by decide) (of_i1 h5 y5)
  have t0 : th8 = 0 := (thrA h8).2.trans (ndZ h3.2 y3).1
  refine ⟨N, V, U, ⟨hN, rfl, rfl, rfl, hV, rfl, hU⟩, fun mf mt la re wr ng nl nm nv G P K Q1 R1 h => ?_⟩
  obtain ⟨q1, q2, q3, q4, q5, q6⟩ := h
  have fin : ∀ r, WouldIs N V U J r → ps_X7_would N jth jrm jwy jhi (-1) jmt (-1) jre jwr jga jlo jmo jli jta jpt jen jbg jfa jwt jac jng jnl jnm jnv jwm mW mG mP mK mQ mR (nI V) (nI U) (nI J) r th8 mf mt la re wr ng nl nm nv G P K Q1 R1 := fun r hr => ⟨q1, q2, Or.inl ⟨t0, V, rfl, hV, U, rfl, hU, J, rfl, hJ, hr⟩⟩
  refine ⟨fun a => ⟨fun b => fin _ (Or.inr (Or.inr ⟨?_, q6⟩)), fun b => fin _ (Or.inr (Or.inl ⟨(eqN (b := 1) (by omega) (by omega)).mp b, q5⟩))⟩, fun a => fin _ (Or.inl ⟨(eqN (b := 0) (by omega) (by omega)).mp a, q3⟩)⟩
  have n0 : ¬ J = 0 := fun e => a (by rw [e]; rfl)
  have n1 : ¬ J = 1 := fun e => b (by rw [e]; rfl)
  omega
def pr_X7_best (N : NetM) (jth jrm jwy jhi jmf jmt jla jre jwr jga jlo jmo jli jta jpt jen jbg jfa jwt jac jng jnl jnm jnv jwm : Int32) (mW mG mP mK mQ mR : Nat → Int32) (j : Int32) : Prop := NetW N mW ∧ jmf = -1 ∧ jla = -1
def ps_X7_best (N : NetM) (jth jrm jwy jhi jmf jmt jla jre jwr jga jlo jmo jli jta jpt jen jbg jfa jwt jac jng jnl jnm jnv jwm : Int32) (mW mG mP mK mQ mR : Nat → Int32) (j : Int32) (r : Int32) (jth' jmf' jmt' jla' jre' jwr' jng' jnl' jnm' jnv' : Int32) (mG' mP' mK' mQ' mR' : Nat → Int32) : Prop := jmf' = -1 ∧ jla' = -1 ∧ ((jth' = 0 ∧ ∃ J, j = nI J ∧ J ≤ 2 ∧ BestIs N J r) ∨ (jth' = 1 ∧ ¬ (0 ≤ j ∧ j ≤ 2)))
def wp_X7_best_L51 (jrm jwy jhi jga jlo jmo jli jta jpt jen jbg jfa jwt jac jwm : Int32) (mW : Nat → Int32) (jth_4 x5_347 : Int32) (J98 : Int32 → Int32 → Int32 → Int32 → Int32 → Int32 → Int32 → Int32 → Int32 → Int32 → Int32 → Int32 → (Nat → Int32) → (Nat → Int32) → (Nat → Int32) → (Nat → Int32) → (Nat → Int32) → Prop) (ix6_437 ix4_438 ix3_439 ix2_440 imoreFrom_441 imoreTo_442 ilessArc_443 ireached_444 iwasReached_445 inewGained_446 inewLost_447 inewMoved_448 inewLift_449 : Int32) (ia_450 ia_451 ia_452 ia_453 ia_454 : Nat → Int32) : Prop :=
  ∀ X51 : Int32 → Int32 → Int32 → Int32 → Int32 → Int32 → Int32 → Int32 → Int32 → Int32 → Int32 → Int32 → Int32 → (Nat → Int32) → (Nat → Int32) → (Nat → Int32) → (Nat → Int32) → (Nat → Int32) → Prop, (∀ (x6_437 : Int32) (x4_438 : Int32) (x3_439 : Int32) (x2_440 : Int32) (moreFrom_441 : Int32) (moreTo_442 : Int32) (lessArc_443 : Int32) (reached_444 : Int32) (wasReached_445 : Int32) (newGained_446 : Int32) (newLost_447 : Int32) (newMoved_448 : Int32) (newLift_449 : Int32) (a_450 : Nat → Int32) (a_451 : Nat → Int32) (a_452 : Nat → Int32) (a_453 : Nat → Int32) (a_454 : Nat → Int32), (∀ (r_456 : Int32), ps_X7_nodes jth_4 jrm jwy jhi moreFrom_441 moreTo_442 lessArc_443 reached_444 wasReached_445 jga jlo jmo jli jta jpt jen jbg jfa jwt jac newGained_446 newLost_447 newMoved_448 newLift_449 jwm mW r_456 → (((r_456 ≤ x6_437 → (J98 x4_438 x3_439 x2_440 moreFrom_441 moreTo_442 lessArc_443 reached_444 wasReached_445 newGained_446 newLost_447 newMoved_448 newLift_449 a_450 a_451 a_452 a_453 a_454)) ∧
 (¬ (r_456 ≤ x6_437) → (∃ (N_458 : NetM) (V_458 U_458 : Nat), (pr_X7_tries N_458 V_458 U_458 jth_4 jrm jwy jhi moreFrom_441 moreTo_442 lessArc_443 reached_444 wasReached_445 jga jlo jmo jli jta jpt jen jbg jfa jwt jac newGained_446 newLost_447 newMoved_448 newLift_449 jwm mW a_450 a_451 a_452 a_453 a_454 x5_347 x6_437 ∧ (∀ (jmf_458 jmt_458 jla_458 jre_458 jwr_458 jng_458 jnl_458 jnm_458 jnv_458 : Int32) (mG_458 mP_458 mK_458 mQ_458 mR_458 : Nat → Int32), ps_X7_tries N_458 V_458 U_458 jth_4 jrm jwy jhi moreFrom_441 moreTo_442 lessArc_443 reached_444 wasReached_445 jga jlo jmo jli jta jpt jen jbg jfa jwt jac newGained_446 newLost_447 newMoved_448 newLift_449 jwm mW a_450 a_451 a_452 a_453 a_454 x5_347 x6_437 jmf_458 jmt_458 jla_458 jre_458 jwr_458 jng_458 jnl_458 jnm_458 jnv_458 mG_458 mP_458 mK_458 mQ_458 mR_458 → (((x4_438 < jnv_458 → (X51 (x6_437 + 1) jnv_458 x6_437 x5_347 jmf_458 jmt_458 jla_458 jre_458 jwr_458 jng_458 jnl_458 jnm_458 jnv_458 mG_458 mP_458 mK_458 mQ_458 mR_458)) ∧
 (¬ (x4_438 < jnv_458) → (X51 (x6_437 + 1) x4_438 x3_439 x2_440 jmf_458 jmt_458 jla_458 jre_458 jwr_458 jng_458 jnl_458 jnm_458 jnv_458 mG_458 mP_458 mK_458 mQ_458 mR_458))))))))))) → X51 x6_437 x4_438 x3_439 x2_440 moreFrom_441 moreTo_442 lessArc_443 reached_444 wasReached_445 newGained_446 newLost_447 newMoved_448 newLift_449 a_450 a_451 a_452 a_453 a_454) → X51 ix6_437 ix4_438 ix3_439 ix2_440 imoreFrom_441 imoreTo_442 ilessArc_443 ireached_444 iwasReached_445 inewGained_446 inewLost_447 inewMoved_448 inewLift_449 ia_450 ia_451 ia_452 ia_453 ia_454
def wp_X7_best_L39 (jrm jwy jhi jga jlo jmo jli jta jpt jen jbg jfa jwt jac jwm : Int32) (mW : Nat → Int32) (jth_4 : Int32) (J104 : Int32 → Int32 → Int32 → Int32 → Int32 → Int32 → Int32 → Int32 → Int32 → Int32 → Int32 → Int32 → (Nat → Int32) → (Nat → Int32) → (Nat → Int32) → (Nat → Int32) → (Nat → Int32) → Prop) (ix5_347 ix4_348 ix3_349 ix2_350 imoreFrom_351 imoreTo_352 ilessArc_353 ireached_354 iwasReached_355 inewGained_356 inewLost_357 inewMoved_358 inewLift_359 : Int32) (ia_360 ia_361 ia_362 ia_363 ia_364 : Nat → Int32) : Prop :=
  ∀ X39 : Int32 → Int32 → Int32 → Int32 → Int32 → Int32 → Int32 → Int32 → Int32 → Int32 → Int32 → Int32 → Int32 → (Nat → Int32) → (Nat → Int32) → (Nat → Int32) → (Nat → Int32) → (Nat → Int32) → Prop, (∀ (x5_347 : Int32) (x4_348 : Int32) (x3_349 : Int32) (x2_350 : Int32) (moreFrom_351 : Int32) (moreTo_352 : Int32) (lessArc_353 : Int32) (reached_354 : Int32) (wasReached_355 : Int32) (newGained_356 : Int32) (newLost_357 : Int32) (newMoved_358 : Int32) (newLift_359 : Int32) (a_360 : Nat → Int32) (a_361 : Nat → Int32) (a_362 : Nat → Int32) (a_363 : Nat → Int32) (a_364 : Nat → Int32), (∀ (r_366 : Int32), ps_X7_nodes jth_4 jrm jwy jhi moreFrom_351 moreTo_352 lessArc_353 reached_354 wasReached_355 jga jlo jmo jli jta jpt jen jbg jfa jwt jac newGained_356 newLost_357 newMoved_358 newLift_359 jwm mW r_366 → (((r_366 ≤ x5_347 → (J104 x4_348 x3_349 x2_350 moreFrom_351 moreTo_352 lessArc_353 reached_354 wasReached_355 newGained_356 newLost_357 newMoved_358 newLift_359 a_360 a_361 a_362 a_363 a_364)) ∧
 (¬ (r_366 ≤ x5_347) → (∀ J98 : Int32 → Int32 → Int32 → Int32 → Int32 → Int32 → Int32 → Int32 → Int32 → Int32 → Int32 → Int32 → (Nat → Int32) → (Nat → Int32) → (Nat → Int32) → (Nat → Int32) → (Nat → Int32) → Prop, (∀ (x4_419 : Int32) (x3_420 : Int32) (x2_421 : Int32) (moreFrom_422 : Int32) (moreTo_423 : Int32) (lessArc_424 : Int32) (reached_425 : Int32) (wasReached_426 : Int32) (newGained_427 : Int32) (newLost_428 : Int32) (newMoved_429 : Int32) (newLift_430 : Int32) (a_431 : Nat → Int32) (a_432 : Nat → Int32) (a_433 : Nat → Int32) (a_434 : Nat → Int32) (a_435 : Nat → Int32), (X39 (x5_347 + 1) x4_419 x3_420 x2_421 moreFrom_422 moreTo_423 lessArc_424 reached_425 wasReached_426 newGained_427 newLost_428 newMoved_429 newLift_430 a_431 a_432 a_433 a_434 a_435) → J98 x4_419 x3_420 x2_421 moreFrom_422 moreTo_423 lessArc_424 reached_425 wasReached_426 newGained_427 newLost_428 newMoved_429 newLift_430 a_431 a_432 a_433 a_434 a_435) →
wp_X7_best_L51 jrm jwy jhi jga jlo jmo jli jta jpt jen jbg jfa jwt jac jwm mW jth_4 x5_347 J98 0 x4_348 x3_349 x2_350 moreFrom_351 moreTo_352 lessArc_353 reached_354 wasReached_355 newGained_356 newLost_357 newMoved_358 newLift_359 a_360 a_361 a_362 a_363 a_364))))) → X39 x5_347 x4_348 x3_349 x2_350 moreFrom_351 moreTo_352 lessArc_353 reached_354 wasReached_355 newGained_356 newLost_357 newMoved_358 newLift_359 a_360 a_361 a_362 a_363 a_364) → X39 ix5_347 ix4_348 ix3_349 ix2_350 imoreFrom_351 imoreTo_352 ilessArc_353 ireached_354 iwasReached_355 inewGained_356 inewLost_357 inewMoved_358 inewLift_359 ia_360 ia_361 ia_362 ia_363 ia_364
def wp_X7_best (jth jrm jwy jhi jmf jmt jla jre jwr jga jlo jmo jli jta jpt jen jbg jfa jwt jac jng jnl jnm jnv jwm : Int32) (mW mG mP mK mQ mR : Nat → Int32) (j : Int32) (Q : Int32 → Int32 → Int32 → Int32 → Int32 → Int32 → Int32 → Int32 → Int32 → Int32 → Int32 → (Nat → Int32) → (Nat → Int32) → (Nat → Int32) → (Nat → Int32) → (Nat → Int32) → Prop) : Prop :=
  ∀ (r_1 : Int32), ps_X7_in j 0 2 r_1 → (∀ J20 : Int32 → Prop, (∀ (t_3 : Int32), (pr_X7_throwsIf 0 jrm jwy jhi jmf jmt jla jre jwr jga jlo jmo jli jta jpt jen jbg jfa jwt jac jng jnl jnm jnv jwm t_3 1 ∧ (∀ (r_4 jth_4 : Int32), ps_X7_throwsIf 0 jrm jwy jhi jmf jmt jla jre jwr jga jlo jmo jli jta jpt jen jbg jfa jwt jac jng jnl jnm jnv jwm t_3 1 r_4 jth_4 → (((r_4 = 0 → (∀ J104 : Int32 → Int32 → Int32 → Int32 → Int32 → Int32 → Int32 → Int32 → Int32 → Int32 → Int32 → Int32 → (Nat → Int32) → (Nat → Int32) → (Nat → Int32) → (Nat → Int32) → (Nat → Int32) → Prop, (∀ (x4_327 : Int32) (x3_328 : Int32) (x2_329 : Int32) (moreFrom_330 : Int32) (moreTo_331 : Int32) (lessArc_332 : Int32) (reached_333 : Int32) (wasReached_334 : Int32) (newGained_335 : Int32) (newLost_336 : Int32) (newMoved_337 : Int32) (newLift_338 : Int32) (a_339 : Nat → Int32) (a_340 : Nat → Int32) (a_341 : Nat → Int32) (a_342 : Nat → Int32) (a_343 : Nat → Int32), (((¬ j = 0 → ((¬ j = 1 → (Q x4_327 jth_4 moreFrom_330 moreTo_331 lessArc_332 reached_333 wasReached_334 newGained_335 newLost_336 newMoved_337 newLift_338 a_339 a_340 a_341 a_342 a_343)) ∧
 (j = 1 → (Q x3_328 jth_4 moreFrom_330 moreTo_331 lessArc_332 reached_333 wasReached_334 newGained_335 newLost_336 newMoved_337 newLift_338 a_339 a_340 a_341 a_342 a_343)))) ∧
 (j = 0 → (Q x2_329 jth_4 moreFrom_330 moreTo_331 lessArc_332 reached_333 wasReached_334 newGained_335 newLost_336 newMoved_337 newLift_338 a_339 a_340 a_341 a_342 a_343)))) → J104 x4_327 x3_328 x2_329 moreFrom_330 moreTo_331 lessArc_332 reached_333 wasReached_334 newGained_335 newLost_336 newMoved_337 newLift_338 a_339 a_340 a_341 a_342 a_343) →
wp_X7_best_L39 jrm jwy jhi jga jlo jmo jli jta jpt jen jbg jfa jwt jac jwm mW jth_4 J104 0 0 (-1) (-1) jmf jmt jla jre jwr jng jnl jnm jnv mG mP mK mQ mR)) ∧
 (¬ (r_4 = 0) → (Q 0 jth_4 jmf jmt jla jre jwr jng jnl jnm jnv mG mP mK mQ mR)))))) → J20 t_3) →
((¬ r_1 = 0 → (J20 0)) ∧
 (r_1 = 0 → (J20 1))))
theorem pf_X7_best (N : NetM) (jth jrm jwy jhi jmf jmt jla jre jwr jga jlo jmo jli jta jpt jen jbg jfa jwt jac jng jnl jnm jnv jwm : Int32) (mW mG mP mK mQ mR : Nat → Int32) (j : Int32) (hp : pr_X7_best N jth jrm jwy jhi jmf jmt jla jre jwr jga jlo jmo jli jta jpt jen jbg jfa jwt jac jng jnl jnm jnv jwm mW mG mP mK mQ mR j) : wp_X7_best jth jrm jwy jhi jmf jmt jla jre jwr jga jlo jmo jli jta jpt jen jbg jfa jwt jac jng jnl jnm jnv jwm mW mG mP mK mQ mR j (ps_X7_best N jth jrm jwy jhi jmf jmt jla jre jwr jga jlo jmo jli jta jpt jen jbg jfa jwt jac jng jnl jnm jnv jwm mW mG mP mK mQ mR j) := by
  unfold wp_X7_best
  obtain ⟨hN, rfl, rfl⟩ := hp
  have h16 := hN.1.2.1
  intro r1 h1 J20 hJ20
  refine ⟨fun y => hJ20 0 ⟨Or.inl rfl, fun r4 th4 h4 => ⟨fun _ => ?_, fun z => absurd (thrA h4).1 z⟩⟩, fun y => hJ20 1 ⟨Or.inr rfl, fun r4 th4 h4 => ⟨fun z => absurd ((thrB h4).1.symm.trans z) (by decide), fun _ => ⟨rfl, rfl, Or.inr ⟨(thrB h4).2, no_i1 h1 y⟩⟩⟩⟩⟩
  obtain ⟨J, hJ, rfl⟩ := of_le (k := 2) (by decide) (of_i1 h1 y)
  have t0 := (thrA h4).2
  intro J104 hJ104 X hX
  refine up1 (X := (fun k (p : Int32 × Int32 × Int32 × Int32 × Int32 × Int32 × Int32 × Int32 × Int32 × Int32 × Int32 × Int32 × (Nat → Int32) × (Nat → Int32) × (Nat → Int32) × (Nat → Int32) × (Nat → Int32)) => X k p.1 p.2.1 p.2.2.1 p.2.2.2.1 p.2.2.2.2.1 p.2.2.2.2.2.1 p.2.2.2.2.2.2.1 p.2.2.2.2.2.2.2.1 p.2.2.2.2.2.2.2.2.1 p.2.2.2.2.2.2.2.2.2.1 p.2.2.2.2.2.2.2.2.2.2.1 p.2.2.2.2.2.2.2.2.2.2.2.1 p.2.2.2.2.2.2.2.2.2.2.2.2.1 p.2.2.2.2.2.2.2.2.2.2.2.2.2.1 p.2.2.2.2.2.2.2.2.2.2.2.2.2.2.1 p.2.2.2.2.2.2.2.2.2.2.2.2.2.2.2.1 p.2.2.2.2.2.2.2.2.2.2.2.2.2.2.2.2)) N.n (fun k p => ∃ fo, FstMax (16 * k + 0) (fun k => k % 16 < N.n) (insV N) fo p.1 ∧ ((fo = -1 ∧ p.2.2.1 = -1 ∧ p.2.1 = -1) ∨ ∃ K, K < 16 * N.n ∧ fo = nI K ∧ p.2.2.1 = nI (K / 16) ∧ p.2.1 = nI (K % 16)) ∧ p.2.2.2.1 = -1 ∧ p.2.2.2.2.2.1 = -1) (fun a p ha hI hh => hX _ _ _ _ _ _ _ _ _ _ _ _ _ _ _ _ _ _ (fun r5 h5 => ?_)) (fun p hI => hX _ _ _ _ _ _ _ _ _ _ _ _ _ _ _ _ _ _ (fun r5 h5 => ?_)) 0 (0, -1, -1, -1, jmt, -1, jre, jwr, jng, jnl, jnm, jnv, mG, mP, mK, mQ, mR) (Nat.zero_le _) ⟨-1, FstMax.zero, Or.inl ⟨rfl, rfl, rfl⟩, rfl, rfl⟩
  · rw [ndW hN h5, leN (by omega) (by omega)]
    refine ⟨fun z => absurd z (by omega), fun _ J98 hJ98 X2 hX2 => ?_⟩
    refine up1 (X := (fun k (p : Int32 × Int32 × Int32 × Int32 × Int32 × Int32 × Int32 × Int32 × Int32 × Int32 × Int32 × Int32 × (Nat → Int32) × (Nat → Int32) × (Nat → Int32) × (Nat → Int32) × (Nat → Int32)) => X2 k p.1 p.2.1 p.2.2.1 p.2.2.2.1 p.2.2.2.2.1 p.2.2.2.2.2.1 p.2.2.2.2.2.2.1 p.2.2.2.2.2.2.2.1 p.2.2.2.2.2.2.2.2.1 p.2.2.2.2.2.2.2.2.2.1 p.2.2.2.2.2.2.2.2.2.2.1 p.2.2.2.2.2.2.2.2.2.2.2.1 p.2.2.2.2.2.2.2.2.2.2.2.2.1 p.2.2.2.2.2.2.2.2.2.2.2.2.2.1 p.2.2.2.2.2.2.2.2.2.2.2.2.2.2.1 p.2.2.2.2.2.2.2.2.2.2.2.2.2.2.2.1 p.2.2.2.2.2.2.2.2.2.2.2.2.2.2.2.2)) N.n (fun k p => ∃ fo, FstMax (16 * a + k) (fun k => k % 16 < N.n) (insV N) fo p.1 ∧ ((fo = -1 ∧ p.2.2.1 = -1 ∧ p.2.1 = -1) ∨ ∃ K, K < 16 * N.n ∧ fo = nI K ∧ p.2.2.1 = nI (K / 16) ∧ p.2.1 = nI (K % 16)) ∧ p.2.2.2.1 = -1 ∧ p.2.2.2.2.2.1 = -1) (fun b p hb hI2 hh2 => hX2 _ _ _ _ _ _ _ _ _ _ _ _ _ _ _ _ _ _ (fun r6 h6 => ?_)) (fun p hI2 => hX2 _ _ _ _ _ _ _ _ _ _ _ _ _ _ _ _ _ _ (fun r6 h6 => ?_)) 0 p (Nat.zero_le _) hI
    · rw [ndW hN h6, leN (by omega) (by omega)]
      obtain ⟨fo, f1, f2, f3, f4⟩ := hI2
      refine ⟨fun z => absurd z (by omega), fun _ => ⟨N, a, b, ⟨hN, f3, f4, rfl, ha, rfl, hb⟩, fun mf mt la re wr ng nl nm nv G P K Q1 R1 h => ?_⟩⟩
      obtain ⟨q1, q2, q3, q4, q5, q6⟩ := h
      have hd : (16 * a + b) / 16 = a := by omega
      have hm : (16 * a + b) % 16 = b := by omega
      have hv : nv = insV N (16 * a + b) := by rw [q6]; unfold insV; rw [hd, hm]
      refine ⟨fun lt => hh2 (nv, nI b, nI a, mf, mt, la, re, wr, ng, nl, nm, nv, G, P, K, Q1, R1) ⟨nI (16 * a + b), ?_, Or.inr ⟨16 * a + b, by omega, rfl, by rw [hd], by rw [hm]⟩, q1, q2⟩, fun nl' => hh2 (p.1, p.2.1, p.2.2.1, mf, mt, la, re, wr, ng, nl, nm, nv, G, P, K, Q1, R1) ⟨fo, ?_, f2, q1, q2⟩⟩
      · show FstMax (16 * a + (b + 1)) _ _ _ nv
        rw [hv]
        rw [hv] at lt
        exact f1.gt (by rw [hm]; exact hb) lt
      · rw [hv] at nl'
        exact f1.le nl'
    · rw [ndW hN h6]
      refine ⟨fun _ => hJ98 _ _ _ _ _ _ _ _ _ _ _ _ _ _ _ _ _ (hh (_, _, _, _, _, _, _, _, _, _, _, _, _, _, _, _, _) ?_), fun z => absurd (Int32.le_refl _) z⟩
      obtain ⟨fo, f1, f2⟩ := hI2
      refine ⟨fo, ?_, f2⟩
      have sk : ∀ d, N.n + d ≤ 16 → FstMax (16 * a + (N.n + d)) (fun k => k % 16 < N.n) (insV N) fo p.1 := by
        intro d
        induction d with
        | zero => exact fun _ => f1
        | succ d ih => intro hd; exact (ih (by omega)).skip (by show ¬ (16 * a + (N.n + d)) % 16 < N.n; omega)
      have := sk (16 - N.n) (by omega)
      rw [show 16 * a + (N.n + (16 - N.n)) = 16 * (a + 1) + 0 by omega] at this
      exact this
  · rw [ndW hN h5]
    obtain ⟨fo, f1, f2, f3, f4⟩ := hI
    have fin : ∀ r, ((J = 2 ∧ r = p.1) ∨ (J < 2 ∧ fo = -1 ∧ r = -1) ∨ ∃ K, K < 16 * N.n ∧ fo = nI K ∧ ((J = 0 ∧ r = nI (K / 16)) ∨ (J = 1 ∧ r = nI (K % 16)))) → BestIs N J r := fun r hr => ⟨fo, p.1, f1, hr⟩
    refine ⟨fun _ => hJ104 _ _ _ _ _ _ _ _ _ _ _ _ _ _ _ _ _ ⟨fun a => ⟨fun b => ⟨f3, f4, Or.inl ⟨t0, J, rfl, hJ, fin _ (Or.inl ⟨?_, rfl⟩)⟩⟩, fun b => ⟨f3, f4, Or.inl ⟨t0, J, rfl, hJ, fin _ ?_⟩⟩⟩, fun a => ⟨f3, f4, Or.inl ⟨t0, J, rfl, hJ, fin _ ?_⟩⟩⟩, fun z => absurd (Int32.le_refl _) z⟩
    · have n0 : ¬ J = 0 := fun e => a (by rw [e]; rfl)
      have n1 : ¬ J = 1 := fun e => b (by rw [e]; rfl)
      omega
    · have e1 : J = 1 := (eqN (b := 1) (by omega) (by omega)).mp b
      rcases f2 with ⟨g1, g2, g3⟩ | ⟨K, g1, g2, g3, g4⟩
      · exact Or.inr (Or.inl ⟨by omega, g1, g3⟩)
      · exact Or.inr (Or.inr ⟨K, g1, g2, Or.inr ⟨e1, g4⟩⟩)
    · have e0 : J = 0 := (eqN (b := 0) (by omega) (by omega)).mp a
      rcases f2 with ⟨g1, g2, g3⟩ | ⟨K, g1, g2, g3, g4⟩
      · exact Or.inr (Or.inl ⟨by omega, g1, g2⟩)
      · exact Or.inr (Or.inr ⟨K, g1, g2, Or.inl ⟨e0, g3⟩⟩)
def pr_X7_node (N : NetM) (jth jrm jwy jhi jmf jmt jla jre jwr jga jlo jmo jli jta jpt jen jbg jfa jwt jac jng jnl jnm jnv jwm : Int32) (mW mG mP mK mS mF mC : Nat → Int32) (v j : Int32) : Prop := NetW N mW ∧ jmf = -1 ∧ jla = -1
def ps_X7_node (N : NetM) (jth jrm jwy jhi jmf jmt jla jre jwr jga jlo jmo jli jta jpt jen jbg jfa jwt jac jng jnl jnm jnv jwm : Int32) (mW mG mP mK mS mF mC : Nat → Int32) (v j : Int32) (r : Int32) (jth' jre' : Int32) (mG' mP' mK' mS' mF' mC' : Nat → Int32) : Prop := (jth' = 0 ∧ ∃ V, v = nI V ∧ V < N.n ∧ (∃ J, j = nI J ∧ J ≤ 21 ∧ NodeIs N V r J)) ∨ (jth' = 1 ∧ ¬ (0 ≤ v ∧ v < nI N.n)) ∨ (jth' = 2 ∧ (0 ≤ v ∧ v < nI N.n) ∧ ¬ (0 ≤ j ∧ j ≤ 21))
def wp_X7_node (jth jrm jwy jhi jmf jmt jla jre jwr jga jlo jmo jli jta jpt jen jbg jfa jwt jac jng jnl jnm jnv jwm : Int32) (mW mG mP mK mS mF mC : Nat → Int32) (v j : Int32) (Q : Int32 → Int32 → Int32 → (Nat → Int32) → (Nat → Int32) → (Nat → Int32) → (Nat → Int32) → (Nat → Int32) → (Nat → Int32) → Prop) : Prop :=
  ∃ (N_1 : NetM), (pr_X7_noNode N_1 jth jrm jwy jhi jmf jmt jla jre jwr jga jlo jmo jli jta jpt jen jbg jfa jwt jac jng jnl jnm jnv jwm mW mG mP mK v ∧ (∀ (r_1 jth_1 jre_1 : Int32) (mG_1 mP_1 mK_1 : Nat → Int32), ps_X7_noNode N_1 jth jrm jwy jhi jmf jmt jla jre jwr jga jlo jmo jli jta jpt jen jbg jfa jwt jac jng jnl jnm jnv jwm mW mG mP mK v r_1 jth_1 jre_1 mG_1 mP_1 mK_1 → (((¬ r_1 = 0 → (Q 0 jth_1 jre_1 mG_1 mP_1 mK_1 mS mF mC)) ∧
 (r_1 = 0 → (∀ (r_3 : Int32), ps_X7_in j 0 21 r_3 → (∀ J24 : Int32 → Prop, (∀ (t_5 : Int32), (pr_X7_throwsIf jth_1 jrm jwy jhi jmf jmt jla jre_1 jwr jga jlo jmo jli jta jpt jen jbg jfa jwt jac jng jnl jnm jnv jwm t_5 2 ∧ (∀ (r_6 jth_6 : Int32), ps_X7_throwsIf jth_1 jrm jwy jhi jmf jmt jla jre_1 jwr jga jlo jmo jli jta jpt jen jbg jfa jwt jac jng jnl jnm jnv jwm t_5 2 r_6 jth_6 → (((r_6 = 0 → (∀ (r_8 : Int32), ps_X7_holds jre_1 v r_8 → (((j.toInt < 0 ∨ 20 < j.toInt → (∃ (N_10 : NetM) (V_10 : Nat), (pr_X7_tiedTo N_10 V_10 jth_6 jrm jwy jhi jmf jmt jla jre_1 jwr jga jlo jmo jli jta jpt jen jbg jfa jwt jac jng jnl jnm jnv jwm mW v ∧ (∀ (r_10 : Int32), ps_X7_tiedTo N_10 V_10 jth_6 jrm jwy jhi jmf jmt jla jre_1 jwr jga jlo jmo jli jta jpt jen jbg jfa jwt jac jng jnl jnm jnv jwm mW v r_10 → (Q r_10 jth_6 jre_1 mG_1 mP_1 mK_1 mS mF mC))))) ∧
(j.toInt = 0 → ((r_8 = 0 → (Q 0 jth_6 jre_1 mG_1 mP_1 mK_1 mS mF mC)) ∧
 (¬ (r_8 = 0) → (Q 1 jth_6 jre_1 mG_1 mP_1 mK_1 mS mF mC)))) ∧
(j.toInt = 1 → (vp_in v 16 ∧ (Q (mK_1 v.toNatClampNeg) jth_6 jre_1 mG_1 mP_1 mK_1 mS mF mC))) ∧
(j.toInt = 2 → (vp_in v 16 ∧ (Q (mP_1 v.toNatClampNeg) jth_6 jre_1 mG_1 mP_1 mK_1 mS mF mC))) ∧
(j.toInt = 3 → (vp_in v 16 ∧ (Q (mG_1 v.toNatClampNeg) jth_6 jre_1 mG_1 mP_1 mK_1 mS mF mC))) ∧
(j.toInt = 4 → (∃ (N_15 : NetM) (V_15 : Nat), (pr_X7_keptBy N_15 V_15 jth_6 jrm jwy jhi jmf jmt jla jre_1 jwr jga jlo jmo jli jta jpt jen jbg jfa jwt jac jng jnl jnm jnv jwm mW mG_1 v ∧ (∀ (r_15 : Int32), ps_X7_keptBy N_15 V_15 jth_6 jrm jwy jhi jmf jmt jla jre_1 jwr jga jlo jmo jli jta jpt jen jbg jfa jwt jac jng jnl jnm jnv jwm mW mG_1 v r_15 → (Q r_15 jth_6 jre_1 mG_1 mP_1 mK_1 mS mF mC))))) ∧
(j.toInt = 5 → (∃ (N_16 : NetM) (V_16 : Nat), (pr_X7_ownOf N_16 V_16 jth_6 jrm jwy jhi jmf jmt jla jre_1 jwr jga jlo jmo jli jta jpt jen jbg jfa jwt jac jng jnl jnm jnv jwm mW mK_1 v ∧ (∀ (r_16 : Int32), ps_X7_ownOf N_16 V_16 jth_6 jrm jwy jhi jmf jmt jla jre_1 jwr jga jlo jmo jli jta jpt jen jbg jfa jwt jac jng jnl jnm jnv jwm mW mK_1 v r_16 → (Q r_16 jth_6 jre_1 mG_1 mP_1 mK_1 mS mF mC))))) ∧
(j.toInt = 6 → (∃ (N_17 : NetM) (V_17 : Nat), (pr_X7_edgeOf N_17 V_17 jth_6 jrm jwy jhi jmf jmt jla jre_1 jwr jga jlo jmo jli jta jpt jen jbg jfa jwt jac jng jnl jnm jnv jwm mW mG_1 v ∧ (∀ (r_17 : Int32), ps_X7_edgeOf N_17 V_17 jth_6 jrm jwy jhi jmf jmt jla jre_1 jwr jga jlo jmo jli jta jpt jen jbg jfa jwt jac jng jnl jnm jnv jwm mW mG_1 v r_17 → (Q r_17 jth_6 jre_1 mG_1 mP_1 mK_1 mS mF mC))))) ∧
(j.toInt = 7 → (∃ (N_18 : NetM) (V_18 : Nat), (pr_X7_bodyOf N_18 V_18 jth_6 jrm jwy jhi jmf jmt jla jre_1 jwr jga jlo jmo jli jta jpt jen jbg jfa jwt jac jng jnl jnm jnv jwm mW mG_1 v ∧ (∀ (r_18 : Int32), ps_X7_bodyOf N_18 V_18 jth_6 jrm jwy jhi jmf jmt jla jre_1 jwr jga jlo jmo jli jta jpt jen jbg jfa jwt jac jng jnl jnm jnv jwm mW mG_1 v r_18 → (Q r_18 jth_6 jre_1 mG_1 mP_1 mK_1 mS mF mC))))) ∧
(j.toInt = 8 → (∃ (N_19 : NetM) (V_19 : Nat), (pr_X7_nestOf N_19 V_19 jth_6 jrm jwy jhi jmf jmt jla jre_1 jwr jga jlo jmo jli jta jpt jen jbg jfa jwt jac jng jnl jnm jnv jwm mW mG_1 v ∧ (∀ (r_19 : Int32), ps_X7_nestOf N_19 V_19 jth_6 jrm jwy jhi jmf jmt jla jre_1 jwr jga jlo jmo jli jta jpt jen jbg jfa jwt jac jng jnl jnm jnv jwm mW mG_1 v r_19 → (Q r_19 jth_6 jre_1 mG_1 mP_1 mK_1 mS mF mC))))) ∧
(j.toInt = 9 → (∃ (N_20 : NetM) (V_20 : Nat), (pr_X7_nearOf N_20 V_20 jth_6 jrm jwy jhi jmf jmt jla jre_1 jwr jga jlo jmo jli jta jpt jen jbg jfa jwt jac jng jnl jnm jnv jwm mW v ∧ (∀ (r_20 : Int32), ps_X7_nearOf N_20 V_20 jth_6 jrm jwy jhi jmf jmt jla jre_1 jwr jga jlo jmo jli jta jpt jen jbg jfa jwt jac jng jnl jnm jnv jwm mW v r_20 → (Q r_20 jth_6 jre_1 mG_1 mP_1 mK_1 mS mF mC))))) ∧
(j.toInt = 10 → (∃ (N_21 : NetM) (V_21 : Nat), (pr_X7_outKeeperOf N_21 V_21 jth_6 jrm jwy jhi jmf jmt jla jre_1 jwr jga jlo jmo jli jta jpt jen jbg jfa jwt jac jng jnl jnm jnv jwm mW v ∧ (∀ (r_21 : Int32), ps_X7_outKeeperOf N_21 V_21 jth_6 jrm jwy jhi jmf jmt jla jre_1 jwr jga jlo jmo jli jta jpt jen jbg jfa jwt jac jng jnl jnm jnv jwm mW v r_21 → (Q r_21 jth_6 jre_1 mG_1 mP_1 mK_1 mS mF mC))))) ∧
(j.toInt = 11 → (∃ (N_22 : NetM) (V_22 : Nat), (pr_X7_outGatesOf N_22 V_22 jth_6 jrm jwy jhi jmf jmt jla jre_1 jwr jga jlo jmo jli jta jpt jen jbg jfa jwt jac jng jnl jnm jnv jwm mW v ∧ (∀ (r_22 : Int32), ps_X7_outGatesOf N_22 V_22 jth_6 jrm jwy jhi jmf jmt jla jre_1 jwr jga jlo jmo jli jta jpt jen jbg jfa jwt jac jng jnl jnm jnv jwm mW v r_22 → (Q r_22 jth_6 jre_1 mG_1 mP_1 mK_1 mS mF mC))))) ∧
(j.toInt = 12 → (∃ (N_23 : NetM) (V_23 : Nat), (pr_X7_hardOf N_23 V_23 jth_6 jrm jwy jhi jmf jmt jla jre_1 jwr jga jlo jmo jli jta jpt jen jbg jfa jwt jac jng jnl jnm jnv jwm mW mF mC v ∧ (∀ (r_23 : Int32) (mF_23 mC_23 : Nat → Int32), ps_X7_hardOf N_23 V_23 jth_6 jrm jwy jhi jmf jmt jla jre_1 jwr jga jlo jmo jli jta jpt jen jbg jfa jwt jac jng jnl jnm jnv jwm mW mF mC v r_23 mF_23 mC_23 → (Q r_23 jth_6 jre_1 mG_1 mP_1 mK_1 mS mF_23 mC_23))))) ∧
(j.toInt = 13 → (∃ (N_24 : NetM) (V_24 : Nat), (pr_X7_wallOf N_24 V_24 jth_6 jrm jwy jhi jmf jmt jla jre_1 jwr jga jlo jmo jli jta jpt jen jbg jfa jwt jac jng jnl jnm jnv jwm mW v ∧ (∀ (r_24 : Int32), ps_X7_wallOf N_24 V_24 jth_6 jrm jwy jhi jmf jmt jla jre_1 jwr jga jlo jmo jli jta jpt jen jbg jfa jwt jac jng jnl jnm jnv jwm mW v r_24 → (Q r_24 jth_6 jre_1 mG_1 mP_1 mK_1 mS mF mC))))) ∧
(j.toInt = 14 → (vp_in (4 + v) 200 ∧ (Q (mW (4 + v).toNatClampNeg) jth_6 jre_1 mG_1 mP_1 mK_1 mS mF mC))) ∧
(j.toInt = 15 → ((r_8 = 0 → (Q (-1) jth_6 jre_1 mG_1 mP_1 mK_1 mS mF mC)) ∧
 (¬ (r_8 = 0) → (∃ (N_27 : NetM) (V_27 : Nat), (pr_X7_feeOf N_27 V_27 jth_6 jrm jwy jhi jmf jmt jla jre_1 jwr jga jlo jmo jli jta jpt jen jbg jfa jwt jac jng jnl jnm jnv jwm mW mG_1 v ∧ (∀ (r_27 : Int32), ps_X7_feeOf N_27 V_27 jth_6 jrm jwy jhi jmf jmt jla jre_1 jwr jga jlo jmo jli jta jpt jen jbg jfa jwt jac jng jnl jnm jnv jwm mW mG_1 v r_27 → (Q r_27 jth_6 jre_1 mG_1 mP_1 mK_1 mS mF mC))))))) ∧
(j.toInt = 16 → (∃ (N_28 : NetM) (V_28 : Nat), (pr_X7_fareOf N_28 V_28 jth_6 jrm jwy jhi jmf jmt jla jre_1 jwr jga jlo jmo jli jta jpt jen jbg jfa jwt jac jng jnl jnm jnv jwm mW mS v ∧ (∀ (r_28 : Int32) (mS_28 : Nat → Int32), ps_X7_fareOf N_28 V_28 jth_6 jrm jwy jhi jmf jmt jla jre_1 jwr jga jlo jmo jli jta jpt jen jbg jfa jwt jac jng jnl jnm jnv jwm mW mS v r_28 mS_28 → (Q r_28 jth_6 jre_1 mG_1 mP_1 mK_1 mS_28 mF mC))))) ∧
(j.toInt = 17 → (∃ (N_29 : NetM) (V_29 : Nat), (pr_X7_controls N_29 V_29 jth_6 jrm jwy jhi jmf jmt jla jre_1 jwr jga jlo jmo jli jta jpt jen jbg jfa jwt jac jng jnl jnm jnv jwm mW v ∧ (∀ (r_29 : Int32), ps_X7_controls N_29 V_29 jth_6 jrm jwy jhi jmf jmt jla jre_1 jwr jga jlo jmo jli jta jpt jen jbg jfa jwt jac jng jnl jnm jnv jwm mW v r_29 → (Q r_29 jth_6 jre_1 mG_1 mP_1 mK_1 mS mF mC))))) ∧
(j.toInt = 18 → (∃ (N_30 : NetM) (V_30 : Nat), (pr_X7_ringOf N_30 V_30 jth_6 jrm jwy jhi jmf jmt jla jre_1 jwr jga jlo jmo jli jta jpt jen jbg jfa jwt jac jng jnl jnm jnv jwm mW v ∧ (∀ (r_30 : Int32), ps_X7_ringOf N_30 V_30 jth_6 jrm jwy jhi jmf jmt jla jre_1 jwr jga jlo jmo jli jta jpt jen jbg jfa jwt jac jng jnl jnm jnv jwm mW v r_30 → (Q r_30 jth_6 jre_1 mG_1 mP_1 mK_1 mS mF mC))))) ∧
(j.toInt = 19 → (∃ (N_31 : NetM) (V_31 : Nat), (pr_X7_innerOf 3 N_31 V_31 jth_6 jrm jwy jhi jmf jmt jla jre_1 jwr jga jlo jmo jli jta jpt jen jbg jfa jwt jac jng jnl jnm jnv jwm mW mG_1 v 0 ∧ (∀ (r_31 : Int32), ps_X7_innerOf N_31 V_31 jth_6 jrm jwy jhi jmf jmt jla jre_1 jwr jga jlo jmo jli jta jpt jen jbg jfa jwt jac jng jnl jnm jnv jwm mW mG_1 v 0 r_31 → (Q r_31 jth_6 jre_1 mG_1 mP_1 mK_1 mS mF mC))))) ∧
(j.toInt = 20 → (∃ (N_32 : NetM) (V_32 : Nat), (pr_X7_innerOf 3 N_32 V_32 jth_6 jrm jwy jhi jmf jmt jla jre_1 jwr jga jlo jmo jli jta jpt jen jbg jfa jwt jac jng jnl jnm jnv jwm mW mG_1 v 1 ∧ (∀ (r_32 : Int32), ps_X7_innerOf N_32 V_32 jth_6 jrm jwy jhi jmf jmt jla jre_1 jwr jga jlo jmo jli jta jpt jen jbg jfa jwt jac jng jnl jnm jnv jwm mW mG_1 v 1 r_32 → (Q r_32 jth_6 jre_1 mG_1 mP_1 mK_1 mS mF mC))))))))) ∧
 (¬ (r_6 = 0) → (Q 0 jth_6 jre_1 mG_1 mP_1 mK_1 mS mF mC)))))) → J24 t_5) →
((¬ r_3 = 0 → (J24 0)) ∧
 (r_3 = 0 → (J24 1))))))))))
theorem pf_X7_node (N : NetM) (jth jrm jwy jhi jmf jmt jla jre jwr jga jlo jmo jli jta jpt jen jbg jfa jwt jac jng jnl jnm jnv jwm : Int32) (mW mG mP mK mS mF mC : Nat → Int32) (v j : Int32) (hp : pr_X7_node N jth jrm jwy jhi jmf jmt jla jre jwr jga jlo jmo jli jta jpt jen jbg jfa jwt jac jng jnl jnm jnv jwm mW mG mP mK mS mF mC v j) : wp_X7_node jth jrm jwy jhi jmf jmt jla jre jwr jga jlo jmo jli jta jpt jen jbg jfa jwt jac jng jnl jnm jnv jwm mW mG mP mK mS mF mC v j (ps_X7_node N jth jrm jwy jhi jmf jmt jla jre jwr jga jlo jmo jli jta jpt jen jbg jfa jwt jac jng jnl jnm jnv jwm mW mG mP mK mS mF mC v j) := by
  unfold wp_X7_node
  obtain ⟨hN, rfl, rfl⟩ := hp
  have h16 := hN.1.2.1
  refine ⟨N, ⟨hN, rfl, rfl⟩, fun r1 th1 re1 G1 P1 K1 h1 => ⟨fun y => Or.inr (Or.inl (ndN h1.2 y)), fun y r3 h3 J24 hJ24 => ⟨fun y3 => hJ24 0 ⟨Or.inl rfl, fun r6 th6 h6 => ⟨fun _ r8 h8 => ?_, fun z => absurd (thrA h6).1 z⟩⟩, fun y3 => hJ24 1 ⟨Or.inr rfl, fun r6 th6 h6 => ⟨fun z => absurd ((thrB h6).1.symm.trans z) (by decide), fun _ => Or.inr (Or.inr ⟨(thrB h6).2, (ndZ h1.2 y).2, no_i1 h3 y3⟩)⟩⟩⟩⟩⟩
  obtain ⟨V, hV, rfl⟩ := (of_in (by omega)).1 (ndZ h1.2 y).2
  obtain ⟨J, hJ, rfl⟩ := of_le (k := 21) (by decide) (of_i1 h3 y3)
  have t0 : th6 = 0 := (thrA h6).2.trans (ndZ h1.2 y).1
  obtain ⟨hr, hG, hP, hK⟩ := h1.1
  have fin : ∀ (c : Nat) r S F C, J = c → NodeIs N V r c → ps_X7_node N jth jrm jwy jhi (-1) jmt (-1) jre jwr jga jlo jmo jli jta jpt jen jbg jfa jwt jac jng jnl jnm jnv jwm mW mG mP mK mS mF mC (nI V) (nI J) r th6 re1 G1 P1 K1 S F C := fun c r S F C e hr => Or.inl ⟨t0, V, rfl, hV, J, rfl, hJ, by rw [e]; exact hr⟩
  rw [nI_toInt (by omega)]
  refine ⟨fun w => ⟨N, V, ⟨hN, hr, rfl, rfl, rfl, hV⟩, fun r h => fin 21 _ _ _ _ (by omega) h⟩, fun w => ⟨fun z => fin 0 _ _ _ _ (by omega) (Or.inr ⟨rfl, hold_z h8 hr (by omega) z⟩), fun z => fin 0 _ _ _ _ (by omega) (Or.inl ⟨rfl, hold_p h8 hr (by omega) z⟩)⟩, fun w => ⟨vp_in_nI (by omega) (by decide), fin 1 _ _ _ _ (by omega) (by rw [clN (by omega)]; exact hK V (by omega))⟩, fun w => ⟨vp_in_nI (by omega) (by decide), fin 2 _ _ _ _ (by omega) (by rw [clN (by omega)]; exact (Classical.em (Rd N.E N.root V)).elim (fun q => Or.inr ⟨q, (hP V (by omega)).1 q⟩) (fun q => Or.inl ⟨q, (hP V (by omega)).2 q⟩))⟩, fun w => ⟨vp_in_nI (by omega) (by decide), fin 3 _ _ _ _ (by omega) (by rw [clN (by omega)]; exact hG V (by omega))⟩, fun w => ⟨N, V, ⟨hN, hG, rfl, hV⟩, fun r h => fin 4 _ _ _ _ (by omega) h⟩, fun w => ⟨N, V, ⟨hN, hK, rfl, hV⟩, fun r h => fin 5 _ _ _ _ (by omega) h⟩, fun w => ⟨N, V, ⟨hN, hr, hG, rfl, hV⟩, fun r h => fin 6 _ _ _ _ (by omega) h⟩, fun w => ⟨N, V, ⟨hN, hr, hG, rfl, hV⟩, fun r h => fin 7 _ _ _ _ (by omega) h⟩, fun w => ⟨N, V, ⟨hN, hr, hG, rfl, hV⟩, fun r h => fin 8 _ _ _ _ (by omega) h⟩, fun w => ⟨N, V, ⟨hN, rfl, hV⟩, fun r h => fin 9 _ _ _ _ (by omega) h⟩, fun w => ⟨N, V, ⟨hN, hr, rfl, hV⟩, fun r h => fin 10 _ _ _ _ (by omega) h⟩, fun w => ⟨N, V, ⟨hN, hr, rfl, hV⟩, fun r h => fin 11 _ _ _ _ (by omega) h⟩, fun w => ⟨N, V, ⟨hN, rfl, hV⟩, fun r F C h => fin 12 _ _ _ _ (by omega) h⟩, fun w => ⟨N, V, ⟨hN, rfl, rfl, rfl, hV⟩, fun r h => fin 13 _ _ _ _ (by omega) h⟩, fun w => ?_, fun w => ⟨fun z => fin 15 _ _ _ _ (by omega) (Or.inl ⟨hold_z h8 hr (by omega) z, rfl⟩), fun z => ⟨N, V, ⟨hN, hr, hG, rfl, hV, hold_p h8 hr (by omega) z⟩, fun r h => fin 15 _ _ _ _ (by omega) (Or.inr ⟨hold_p h8 hr (by omega) z, h⟩)⟩⟩, fun w => ⟨N, V, ⟨hN, rfl, hV⟩, fun r S h => fin 16 _ _ _ _ (by omega) h⟩, fun w => ⟨N, V, ⟨hN, hr, rfl, hV⟩, fun r h => fin 17 _ _ _ _ (by omega) h⟩, fun w => ⟨N, V, ⟨hN, hr, rfl, rfl, rfl, hV⟩, fun r h => fin 18 _ _ _ _ (by omega) h⟩, fun w => ⟨N, V, ⟨hN, hr, hG, rfl, hV, Or.inl ⟨rfl, by omega⟩⟩, fun r h => fin 19 _ _ _ _ (by omega) (h.elim (fun q => q.2) (fun q => absurd q.1 (by decide)))⟩, fun w => ⟨N, V, ⟨hN, hr, hG, rfl, hV, Or.inr ⟨rfl, by omega⟩⟩, fun r h => fin 20 _ _ _ _ (by omega) (h.elim (fun q => absurd q.1 (by decide)) (fun q => q.2))⟩⟩
  rw [show (4 : Int32) + nI V = nI (4 + V) from nI_add 4 V, clN (by omega), hN.2.2.2.2.2.1 V (by omega)]
  exact ⟨vp_in_nI (by omega) (by decide), fin 14 _ _ _ _ (by omega) rfl⟩
def pr_X7_count (N : NetM) (jth jrm jwy jhi jmf jmt jla jre jwr jga jlo jmo jli jta jpt jen jbg jfa jwt jac jng jnl jnm jnv jwm : Int32) (mW mG mP mK mQ mR : Nat → Int32) (j : Int32) : Prop := NetW N mW ∧ jmf = -1 ∧ jla = -1
def ps_X7_count (N : NetM) (jth jrm jwy jhi jmf jmt jla jre jwr jga jlo jmo jli jta jpt jen jbg jfa jwt jac jng jnl jnm jnv jwm : Int32) (mW mG mP mK mQ mR : Nat → Int32) (j : Int32) (r : Int32) (jth' jmf' jla' jre' jwr' jng' jnl' jnm' jnv' : Int32) (mG' mP' mK' mQ' mR' : Nat → Int32) : Prop := jth' = 0 ∧ jmf' = -1 ∧ jla' = -1 ∧ CountIs N jrm j r
def wp_X7_count (jth jrm jwy jhi jmf jmt jla jre jwr jga jlo jmo jli jta jpt jen jbg jfa jwt jac jng jnl jnm jnv jwm : Int32) (mW mG mP mK mQ mR : Nat → Int32) (j : Int32) (Q : Int32 → Int32 → Int32 → Int32 → Int32 → Int32 → Int32 → Int32 → Int32 → Int32 → (Nat → Int32) → (Nat → Int32) → (Nat → Int32) → (Nat → Int32) → (Nat → Int32) → Prop) : Prop :=
  ∃ (N_1 : NetM) (E_1 : Nat → Nat → Prop), (pr_X7_laysGates N_1 E_1 0 jrm jwy jhi jmf jmt jla jre jwr jga jlo jmo jli jta jpt jen jbg jfa jwt jac jng jnl jnm jnv jwm mW mG mP mK ∧ (∀ (jre_1 : Int32) (mG_1 mP_1 mK_1 : Nat → Int32), ps_X7_laysGates N_1 E_1 0 jrm jwy jhi jmf jmt jla jre jwr jga jlo jmo jli jta jpt jen jbg jfa jwt jac jng jnl jnm jnv jwm mW mG mP mK jre_1 mG_1 mP_1 mK_1 → (((j.toInt < 0 ∨ 18 < j.toInt → (Q (-1) 0 jmf jla jre_1 jwr jng jnl jnm jnv mG_1 mP_1 mK_1 mQ mR)) ∧
(j.toInt = 0 → (∀ (r_3 : Int32), ps_X7_nodes 0 jrm jwy jhi jmf jmt jla jre_1 jwr jga jlo jmo jli jta jpt jen jbg jfa jwt jac jng jnl jnm jnv jwm mW r_3 → (Q r_3 0 jmf jla jre_1 jwr jng jnl jnm jnv mG_1 mP_1 mK_1 mQ mR))) ∧
(j.toInt = 1 → (∀ (r_4 : Int32), ps_X7_root 0 jrm jwy jhi jmf jmt jla jre_1 jwr jga jlo jmo jli jta jpt jen jbg jfa jwt jac jng jnl jnm jnv jwm mW r_4 → (Q r_4 0 jmf jla jre_1 jwr jng jnl jnm jnv mG_1 mP_1 mK_1 mQ mR))) ∧
(j.toInt = 2 → (Q (mW (2 : Int32).toNatClampNeg) 0 jmf jla jre_1 jwr jng jnl jnm jnv mG_1 mP_1 mK_1 mQ mR)) ∧
(j.toInt = 3 → (∀ (r_5 : Int32), ps_X7_arcs 0 jrm jwy jhi jmf jmt jla jre_1 jwr jga jlo jmo jli jta jpt jen jbg jfa jwt jac jng jnl jnm jnv jwm mW r_5 → (Q r_5 0 jmf jla jre_1 jwr jng jnl jnm jnv mG_1 mP_1 mK_1 mQ mR))) ∧
(j.toInt = 4 → (∃ (N_6 : NetM), (pr_X7_openOnes N_6 0 jrm jwy jhi jmf jmt jla jre_1 jwr jga jlo jmo jli jta jpt jen jbg jfa jwt jac jng jnl jnm jnv jwm mW ∧ (∀ (r_6 : Int32), ps_X7_openOnes N_6 0 jrm jwy jhi jmf jmt jla jre_1 jwr jga jlo jmo jli jta jpt jen jbg jfa jwt jac jng jnl jnm jnv jwm mW r_6 → (Q r_6 0 jmf jla jre_1 jwr jng jnl jnm jnv mG_1 mP_1 mK_1 mQ mR))))) ∧
(j.toInt = 5 → (Q jre_1 0 jmf jla jre_1 jwr jng jnl jnm jnv mG_1 mP_1 mK_1 mQ mR)) ∧
(j.toInt = 6 → (∃ (N_7 : NetM), (pr_X7_depths N_7 0 jrm jwy jhi jmf jmt jla jre_1 jwr jga jlo jmo jli jta jpt jen jbg jfa jwt jac jng jnl jnm jnv jwm mW mP_1 0 ∧ (∀ (r_7 : Int32), ps_X7_depths N_7 0 jrm jwy jhi jmf jmt jla jre_1 jwr jga jlo jmo jli jta jpt jen jbg jfa jwt jac jng jnl jnm jnv jwm mW mP_1 0 r_7 → (Q r_7 0 jmf jla jre_1 jwr jng jnl jnm jnv mG_1 mP_1 mK_1 mQ mR))))) ∧
(j.toInt = 7 → (∃ (N_8 : NetM), (pr_X7_heads N_8 0 jrm jwy jhi jmf jmt jla jre_1 jwr jga jlo jmo jli jta jpt jen jbg jfa jwt jac jng jnl jnm jnv jwm mW mG_1 ∧ (∀ (r_8 : Int32), ps_X7_heads N_8 0 jrm jwy jhi jmf jmt jla jre_1 jwr jga jlo jmo jli jta jpt jen jbg jfa jwt jac jng jnl jnm jnv jwm mW mG_1 r_8 → (Q r_8 0 jmf jla jre_1 jwr jng jnl jnm jnv mG_1 mP_1 mK_1 mQ mR))))) ∧
(j.toInt = 8 → (∃ (N_9 : NetM), (pr_X7_manyArcs N_9 0 jrm jwy jhi jmf jmt jla jre_1 jwr jga jlo jmo jli jta jpt jen jbg jfa jwt jac jng jnl jnm jnv jwm mW mG_1 1 ∧ (∀ (r_9 : Int32), ps_X7_manyArcs N_9 0 jrm jwy jhi jmf jmt jla jre_1 jwr jga jlo jmo jli jta jpt jen jbg jfa jwt jac jng jnl jnm jnv jwm mW mG_1 1 r_9 → (Q r_9 0 jmf jla jre_1 jwr jng jnl jnm jnv mG_1 mP_1 mK_1 mQ mR))))) ∧
(j.toInt = 9 → (∃ (N_10 : NetM), (pr_X7_manyArcs N_10 0 jrm jwy jhi jmf jmt jla jre_1 jwr jga jlo jmo jli jta jpt jen jbg jfa jwt jac jng jnl jnm jnv jwm mW mG_1 0 ∧ (∀ (r_10 : Int32), ps_X7_manyArcs N_10 0 jrm jwy jhi jmf jmt jla jre_1 jwr jga jlo jmo jli jta jpt jen jbg jfa jwt jac jng jnl jnm jnv jwm mW mG_1 0 r_10 → (Q r_10 0 jmf jla jre_1 jwr jng jnl jnm jnv mG_1 mP_1 mK_1 mQ mR))))) ∧
(j.toInt = 10 → (∃ (N_11 : NetM), (pr_X7_isSound N_11 0 jrm jwy jhi jmf jmt jla jre_1 jwr jga jlo jmo jli jta jpt jen jbg jfa jwt jac jng jnl jnm jnv jwm mW mG_1 ∧ (∀ (r_11 : Int32), ps_X7_isSound N_11 0 jrm jwy jhi jmf jmt jla jre_1 jwr jga jlo jmo jli jta jpt jen jbg jfa jwt jac jng jnl jnm jnv jwm mW mG_1 r_11 → (((r_11 = 0 → (Q 0 0 jmf jla jre_1 jwr jng jnl jnm jnv mG_1 mP_1 mK_1 mQ mR)) ∧
 (¬ (r_11 = 0) → (Q 1 0 jmf jla jre_1 jwr jng jnl jnm jnv mG_1 mP_1 mK_1 mQ mR)))))))) ∧
(j.toInt = 11 → (∃ (N_13 : NetM), (pr_X7_depths N_13 0 jrm jwy jhi jmf jmt jla jre_1 jwr jga jlo jmo jli jta jpt jen jbg jfa jwt jac jng jnl jnm jnv jwm mW mP_1 1 ∧ (∀ (r_13 : Int32), ps_X7_depths N_13 0 jrm jwy jhi jmf jmt jla jre_1 jwr jga jlo jmo jli jta jpt jen jbg jfa jwt jac jng jnl jnm jnv jwm mW mP_1 1 r_13 → (Q r_13 0 jmf jla jre_1 jwr jng jnl jnm jnv mG_1 mP_1 mK_1 mQ mR))))) ∧
(j.toInt = 12 → (∃ (N_14 : NetM), (pr_X7_leaves N_14 0 jrm jwy jhi jmf jmt jla jre_1 jwr jga jlo jmo jli jta jpt jen jbg jfa jwt jac jng jnl jnm jnv jwm mW mG_1 ∧ (∀ (r_14 : Int32), ps_X7_leaves N_14 0 jrm jwy jhi jmf jmt jla jre_1 jwr jga jlo jmo jli jta jpt jen jbg jfa jwt jac jng jnl jnm jnv jwm mW mG_1 r_14 → (Q r_14 0 jmf jla jre_1 jwr jng jnl jnm jnv mG_1 mP_1 mK_1 mQ mR))))) ∧
(j.toInt = 13 → (∃ (N_15 : NetM), (pr_X7_mostNest N_15 0 jrm jwy jhi jmf jmt jla jre_1 jwr jga jlo jmo jli jta jpt jen jbg jfa jwt jac jng jnl jnm jnv jwm mW mG_1 ∧ (∀ (r_15 : Int32), ps_X7_mostNest N_15 0 jrm jwy jhi jmf jmt jla jre_1 jwr jga jlo jmo jli jta jpt jen jbg jfa jwt jac jng jnl jnm jnv jwm mW mG_1 r_15 → (Q r_15 0 jmf jla jre_1 jwr jng jnl jnm jnv mG_1 mP_1 mK_1 mQ mR))))) ∧
(j.toInt = 14 → (Q jrm 0 jmf jla jre_1 jwr jng jnl jnm jnv mG_1 mP_1 mK_1 mQ mR)) ∧
(j.toInt = 15 → (∃ (N_16 : NetM), (pr_X7_spans N_16 0 jrm jwy jhi jmf jmt jla jre_1 jwr jga jlo jmo jli jta jpt jen jbg jfa jwt jac jng jnl jnm jnv jwm mW mG_1 ∧ (∀ (r_16 : Int32), ps_X7_spans N_16 0 jrm jwy jhi jmf jmt jla jre_1 jwr jga jlo jmo jli jta jpt jen jbg jfa jwt jac jng jnl jnm jnv jwm mW mG_1 r_16 → (Q r_16 0 jmf jla jre_1 jwr jng jnl jnm jnv mG_1 mP_1 mK_1 mQ mR))))) ∧
(j.toInt = 16 → (∃ (N_17 : NetM), (pr_X7_rings N_17 0 jrm jwy jhi jmf jmt jla jre_1 jwr jga jlo jmo jli jta jpt jen jbg jfa jwt jac jng jnl jnm jnv jwm mW ∧ (∀ (r_17 : Int32), ps_X7_rings N_17 0 jrm jwy jhi jmf jmt jla jre_1 jwr jga jlo jmo jli jta jpt jen jbg jfa jwt jac jng jnl jnm jnv jwm mW r_17 → (Q r_17 0 jmf jla jre_1 jwr jng jnl jnm jnv mG_1 mP_1 mK_1 mQ mR))))) ∧
(j.toInt = 17 → (∃ (N_18 : NetM), (pr_X7_tolls N_18 0 jrm jwy jhi jmf jmt jla jre_1 jwr jga jlo jmo jli jta jpt jen jbg jfa jwt jac jng jnl jnm jnv jwm mW ∧ (∀ (r_18 : Int32), ps_X7_tolls N_18 0 jrm jwy jhi jmf jmt jla jre_1 jwr jga jlo jmo jli jta jpt jen jbg jfa jwt jac jng jnl jnm jnv jwm mW r_18 → (Q r_18 0 jmf jla jre_1 jwr jng jnl jnm jnv mG_1 mP_1 mK_1 mQ mR))))) ∧
(j.toInt = 18 → (∃ (N_19 : NetM), (pr_X7_spareOnes N_19 0 jrm jwy jhi jmf jmt jla jre_1 jwr jga jlo jmo jli jta jpt jen jbg jfa jwt jac jng jnl jnm jnv jwm mW mG_1 mP_1 mK_1 mQ mR ∧ (∀ (r_19 jmf_19 jla_19 jre_19 jwr_19 jng_19 jnl_19 jnm_19 jnv_19 : Int32) (mG_19 mP_19 mK_19 mQ_19 mR_19 : Nat → Int32), ps_X7_spareOnes N_19 0 jrm jwy jhi jmf jmt jla jre_1 jwr jga jlo jmo jli jta jpt jen jbg jfa jwt jac jng jnl jnm jnv jwm mW mG_1 mP_1 mK_1 mQ mR r_19 jmf_19 jla_19 jre_19 jwr_19 jng_19 jnl_19 jnm_19 jnv_19 mG_19 mP_19 mK_19 mQ_19 mR_19 → (Q r_19 0 jmf_19 jla_19 jre_19 jwr_19 jng_19 jnl_19 jnm_19 jnv_19 mG_19 mP_19 mK_19 mQ_19 mR_19)))))))))
theorem pf_X7_count (N : NetM) (jth jrm jwy jhi jmf jmt jla jre jwr jga jlo jmo jli jta jpt jen jbg jfa jwt jac jng jnl jnm jnv jwm : Int32) (mW mG mP mK mQ mR : Nat → Int32) (j : Int32) (hp : pr_X7_count N jth jrm jwy jhi jmf jmt jla jre jwr jga jlo jmo jli jta jpt jen jbg jfa jwt jac jng jnl jnm jnv jwm mW mG mP mK mQ mR j) : wp_X7_count jth jrm jwy jhi jmf jmt jla jre jwr jga jlo jmo jli jta jpt jen jbg jfa jwt jac jng jnl jnm jnv jwm mW mG mP mK mQ mR j (ps_X7_count N jth jrm jwy jhi jmf jmt jla jre jwr jga jlo jmo jli jta jpt jen jbg jfa jwt jac jng jnl jnm jnv jwm mW mG mP mK mQ mR j) := by
  unfold wp_X7_count
  obtain ⟨hN, rfl, rfl⟩ := hp
  refine ⟨N, N.E, ⟨hN, EGa.base hN.1 _⟩, fun re G P K h => ?_⟩
  obtain ⟨hr, hG, hP, hK⟩ := h
  refine ⟨fun w => ⟨rfl, rfl, rfl, Or.inr ⟨fun q => ?_, rfl⟩⟩, fun w r h1 => ⟨rfl, rfl, rfl, Or.inl ⟨0, of_toI (c := 0) (by decide) w, by decide, ndW hN h1⟩⟩, fun w r h1 => ⟨rfl, rfl, rfl, Or.inl ⟨1, of_toI (c := 1) (by decide) w, by decide, rtW hN h1⟩⟩, fun w => ⟨rfl, rfl, rfl, Or.inl ⟨2, of_toI (c := 2) (by decide) w, by decide, exW hN⟩⟩, fun w r h1 => ⟨rfl, rfl, rfl, Or.inl ⟨3, of_toI (c := 3) (by decide) w, by decide, mnW hN h1⟩⟩, fun w => ⟨N, hN, fun r h1 => ⟨rfl, rfl, rfl, Or.inl ⟨4, of_toI (c := 4) (by decide) w, by decide, h1⟩⟩⟩, fun w => ⟨rfl, rfl, rfl, Or.inl ⟨5, of_toI (c := 5) (by decide) w, by decide, hr⟩⟩, fun w => ⟨N, ⟨hN, hP⟩, fun r h1 => ⟨rfl, rfl, rfl, Or.inl ⟨6, of_toI (c := 6) (by decide) w, by decide, h1⟩⟩⟩, fun w => ⟨N, ⟨hN, hr, hG⟩, fun r h1 => ⟨rfl, rfl, rfl, Or.inl ⟨7, of_toI (c := 7) (by decide) w, by decide, h1⟩⟩⟩, fun w => ⟨N, ⟨hN, hr, hG, rfl, rfl⟩, fun r h1 => ⟨rfl, rfl, rfl, Or.inl ⟨8, of_toI (c := 8) (by decide) w, by decide, h1⟩⟩⟩, fun w => ⟨N, ⟨hN, hr, hG, rfl, rfl⟩, fun r h1 => ⟨rfl, rfl, rfl, Or.inl ⟨9, of_toI (c := 9) (by decide) w, by decide, h1⟩⟩⟩, fun w => ⟨N, ⟨hN, hr, hG⟩, fun r h1 => ⟨fun z => ⟨rfl, rfl, rfl, Or.inl ⟨10, of_toI (c := 10) (by decide) w, by decide, Or.inr ⟨rfl, IsB.neg h1 z⟩⟩⟩, fun z => ⟨rfl, rfl, rfl, Or.inl ⟨10, of_toI (c := 10) (by decide) w, by decide, Or.inl ⟨rfl, IsB.pos h1 z⟩⟩⟩⟩⟩, fun w => ⟨N, ⟨hN, hP⟩, fun r h1 => ⟨rfl, rfl, rfl, Or.inl ⟨11, of_toI (c := 11) (by decide) w, by decide, h1⟩⟩⟩, fun w => ⟨N, ⟨hN, hr, hG⟩, fun r h1 => ⟨rfl, rfl, rfl, Or.inl ⟨12, of_toI (c := 12) (by decide) w, by decide, h1⟩⟩⟩, fun w => ⟨N, ⟨hN, hr, hG⟩, fun r h1 => ⟨rfl, rfl, rfl, Or.inl ⟨13, of_toI (c := 13) (by decide) w, by decide, h1⟩⟩⟩, fun w => ⟨rfl, rfl, rfl, Or.inl ⟨14, of_toI (c := 14) (by decide) w, by decide, rfl⟩⟩, fun w => ⟨N, ⟨hN, hr, hG⟩, fun r h1 => ⟨rfl, rfl, rfl, Or.inl ⟨15, of_toI (c := 15) (by decide) w, by decide, h1⟩⟩⟩, fun w => ⟨N, ⟨hN, hr, rfl, rfl⟩, fun r h1 => ⟨rfl, rfl, rfl, Or.inl ⟨16, of_toI (c := 16) (by decide) w, by decide, h1⟩⟩⟩, fun w => ⟨N, ⟨hN, hr⟩, fun r h1 => ⟨rfl, rfl, rfl, Or.inl ⟨17, of_toI (c := 17) (by decide) w, by decide, h1⟩⟩⟩, fun w => ⟨N, ⟨hN, rfl, rfl⟩, fun r mf la re2 wr ng nl nm nv G2 P2 K2 Q2 R2 h1 => ⟨rfl, h1.1, h1.2.1, Or.inl ⟨18, of_toI (c := 18) (by decide) w, by decide, h1.2.2⟩⟩⟩⟩
  obtain ⟨J, hJ, rfl⟩ := of_le (k := 18) (by decide) q
  rw [nI_toInt (by omega)] at w
  omega
