/-! arcs, bodies, counts of the model (own work) -/
theorem kind2 {N : NetM} {k : Nat} : KindIs N k 2 ↔ N.op k = true ∧ Rd N.E N.root (N.fr k) ∧ Dm N.E N.root (N.to k) (N.fr k) := by
  constructor
  · rintro (⟨-, q⟩ | ⟨-, -, q⟩ | ⟨h1, h2, h3, -⟩ | ⟨-, -, -, -, q⟩ | ⟨-, -, -, -, q⟩)
    · exact absurd q (by decide)
    · exact absurd q (by decide)
    · exact ⟨h1, h2, h3⟩
    · exact absurd q (by decide)
    · exact absurd q (by decide)
  · rintro ⟨h1, h2, h3⟩
    exact Or.inr (Or.inr (Or.inl ⟨h1, h2, h3, rfl⟩))
/-- in a finite set each of which has one ahead of it lies a set each of which has one behind it -/
theorem turnC (R : Nat → Nat → Prop) : ∀ n (S : Nat → Prop), cnt 16 S ≤ n → (∀ x, S x → x < 16) → (∀ x, S x → ∃ y, S y ∧ R y x) → (∃ x, S x) → ∃ L : Nat → Prop, (∀ x, L x → S x ∧ ∃ y, L y ∧ R x y) ∧ ∃ x, L x := by
  intro n
  induction n with
  | zero =>
    intro S hc h16 _ ⟨x, hx⟩
    have := cnt_pos (n := 16) (h16 x hx) hx
    omega
  | succ n ih =>
    intro S hc h16 hp hx
    by_cases q : ∀ x, S x → ∃ y, S y ∧ R x y
    · exact ⟨S, fun x hx => ⟨hx, q x hx⟩, hx⟩
    · obtain ⟨x, hq⟩ := Classical.not_forall.1 q
      obtain ⟨hS, hno⟩ := Classical.not_imp.1 hq
      have hl : cnt 16 (fun z => S z ∧ z ≠ x) < cnt 16 S := cnt_lt (h16 x hS) (fun k _ w => w.1) (fun w => w.2 rfl) hS
      obtain ⟨L, h1, h2⟩ := ih (fun z => S z ∧ z ≠ x) (by omega) (fun z w => h16 z w.1) (fun z w => by
        obtain ⟨y, y1, y2⟩ := hp z w.1
        exact ⟨y, ⟨y1, fun e => by subst e; exact hno ⟨z, w.1, y2⟩⟩, y2⟩) (by
        obtain ⟨y, y1, y2⟩ := hp x hS
        exact ⟨y, y1, fun e => by subst e; exact hno ⟨y, y1, y2⟩⟩)
      exact ⟨L, fun z w => ⟨(h1 z w).1.1, (h1 z w).2⟩, h2⟩
/-- arcs that are not back -/
def Fwd (N : NetM) (u x : Nat) : Prop := N.E u x ∧ ¬ Dm N.E N.root x u
theorem fwd_arc {N : NetM} {u x : Nat} (hu : Rd N.E N.root u) : Fwd N u x ↔ ∃ k, k < N.m ∧ N.op k = true ∧ ¬ (N.op k = true ∧ Rd N.E N.root (N.fr k) ∧ Dm N.E N.root (N.to k) (N.fr k)) ∧ N.fr k = u ∧ x = N.to k := by
  constructor
  · rintro ⟨⟨k, h1, h2, rfl, rfl⟩, h3⟩
    exact ⟨k, h1, h2, fun w => h3 w.2.2, rfl, rfl⟩
  · rintro ⟨k, h1, h2, h3, rfl, rfl⟩
    exact ⟨⟨k, h1, h2, rfl, rfl⟩, fun w => h3 ⟨h2, hu, w⟩⟩
theorem DepR.mx {E : Nat → Nat → Prop} {r n : Nat} {P : Nat → Int32} (h : DepR E r n P) (hn : ∀ x, Rd E r x → x < n) (h16 : n ≤ 16) {x v : Nat} (hx : x < 16) (hv : v < 2 ^ 30) : ((if nI v < P x then P x else nI v) = nI (max v (@ite _ (Rd E r x) (Classical.propDecidable _) (dep E r n x) 0))) ∧ (if 0 < P x then P x else 0) = nI (@ite _ (Rd E r x) (Classical.propDecidable _) (dep E r n x) 0) := by
  by_cases q : Rd E r x
  · have hd := dep_n hn q
    rw [(h x hx).1 q, if_pos q]
    refine ⟨nI_max (by omega) (by omega), ?_⟩
    rw [show (0 : Int32) = nI 0 from rfl, nI_max (by omega) (by omega), Nat.zero_max]
  · rw [(h x hx).2 q, if_neg q, if_neg (fun z => ?_), if_neg (by decide), Nat.max_zero]
    · exact ⟨rfl, rfl⟩
    · have := Int32.lt_iff_toInt_lt.1 z
      rw [nI_toInt (by omega)] at this
      have e : (-1 : Int32).toInt = -1 := by decide
      omega
/-! mod4: contracts, pure predicates (printed by gen.py) -/
def pr_X7_kindOf (N : NetM) (K : Nat) (jth jrm jwy jhi jmf jmt jla jre jwr jga jlo jmo jli jta jpt jen jbg jfa jwt jac jng jnl jnm jnv jwm : Int32) (mW mG mK : Nat → Int32) (k : Int32) : Prop := NetW N mW ∧ IsSet jre (Rd N.E N.root) ∧ (∀ x, x < 16 → IsSet (mG x) (fun z => Pd N.E N.root z x)) ∧ KepR N.E N.root mK ∧ k = nI K ∧ K < N.m
def ps_X7_kindOf (N : NetM) (K : Nat) (jth jrm jwy jhi jmf jmt jla jre jwr jga jlo jmo jli jta jpt jen jbg jfa jwt jac jng jnl jnm jnv jwm : Int32) (mW mG mK : Nat → Int32) (k : Int32) (r : Int32)  : Prop := KindIs N K r
def wp_X7_kindOf (jth jrm jwy jhi jmf jmt jla jre jwr jga jlo jmo jli jta jpt jen jbg jfa jwt jac jng jnl jnm jnv jwm : Int32) (mW mG mK : Nat → Int32) (k : Int32) (Q : Int32 → Prop) : Prop :=
  ∃ (N_1 : NetM) (K_1 : Nat), (pr_X7_isOpen N_1 K_1 jth jrm jwy jhi jmf jmt jla jre jwr jga jlo jmo jli jta jpt jen jbg jfa jwt jac jng jnl jnm jnv jwm mW k ∧ (∀ (r_1 : Int32), ps_X7_isOpen N_1 K_1 jth jrm jwy jhi jmf jmt jla jre jwr jga jlo jmo jli jta jpt jen jbg jfa jwt jac jng jnl jnm jnv jwm mW k r_1 → (((¬ r_1 = 0 → (∃ (N_3 : NetM) (K_3 : Nat), (pr_X7_fromOf N_3 K_3 jth jrm jwy jhi jmf jmt jla jre jwr jga jlo jmo jli jta jpt jen jbg jfa jwt jac jng jnl jnm jnv jwm mW k ∧ (∀ (r_3 : Int32), ps_X7_fromOf N_3 K_3 jth jrm jwy jhi jmf jmt jla jre jwr jga jlo jmo jli jta jpt jen jbg jfa jwt jac jng jnl jnm jnv jwm mW k r_3 → (∀ (r_4 : Int32), ps_X7_holds jre r_3 r_4 → (((¬ r_4 = 0 → (∃ (N_6 : NetM) (K_6 : Nat), (pr_X7_isBack N_6 K_6 jth jrm jwy jhi jmf jmt jla jre jwr jga jlo jmo jli jta jpt jen jbg jfa jwt jac jng jnl jnm jnv jwm mW mG k ∧ (∀ (r_6 : Int32), ps_X7_isBack N_6 K_6 jth jrm jwy jhi jmf jmt jla jre jwr jga jlo jmo jli jta jpt jen jbg jfa jwt jac jng jnl jnm jnv jwm mW mG k r_6 → (((r_6 = 0 → (∃ (N_8 : NetM) (K_8 : Nat), (pr_X7_toOf N_8 K_8 jth jrm jwy jhi jmf jmt jla jre jwr jga jlo jmo jli jta jpt jen jbg jfa jwt jac jng jnl jnm jnv jwm mW k ∧ (∀ (r_8 : Int32), ps_X7_toOf N_8 K_8 jth jrm jwy jhi jmf jmt jla jre jwr jga jlo jmo jli jta jpt jen jbg jfa jwt jac jng jnl jnm jnv jwm mW k r_8 → (vp_in r_8 16 ∧ (∃ (N_10 : NetM) (K_10 : Nat), (pr_X7_fromOf N_10 K_10 jth jrm jwy jhi jmf jmt jla jre jwr jga jlo jmo jli jta jpt jen jbg jfa jwt jac jng jnl jnm jnv jwm mW k ∧ (∀ (r_10 : Int32), ps_X7_fromOf N_10 K_10 jth jrm jwy jhi jmf jmt jla jre jwr jga jlo jmo jli jta jpt jen jbg jfa jwt jac jng jnl jnm jnv jwm mW k r_10 → (((¬ (mK r_8.toNatClampNeg) = r_10 → (Q 4)) ∧
 ((mK r_8.toNatClampNeg) = r_10 → (Q 3)))))))))))) ∧
 (¬ (r_6 = 0) → (Q 2)))))))) ∧
 (r_4 = 0 → (Q 1))))))))) ∧
 (r_1 = 0 → (Q 0))))))
theorem pf_X7_kindOf (N : NetM) (K : Nat) (jth jrm jwy jhi jmf jmt jla jre jwr jga jlo jmo jli jta jpt jen jbg jfa jwt jac jng jnl jnm jnv jwm : Int32) (mW mG mK : Nat → Int32) (k : Int32) (hp : pr_X7_kindOf N K jth jrm jwy jhi jmf jmt jla jre jwr jga jlo jmo jli jta jpt jen jbg jfa jwt jac jng jnl jnm jnv jwm mW mG mK k) : wp_X7_kindOf jth jrm jwy jhi jmf jmt jla jre jwr jga jlo jmo jli jta jpt jen jbg jfa jwt jac jng jnl jnm jnv jwm mW mG mK k (ps_X7_kindOf N K jth jrm jwy jhi jmf jmt jla jre jwr jga jlo jmo jli jta jpt jen jbg jfa jwt jac jng jnl jnm jnv jwm mW mG mK k) := by
  unfold wp_X7_kindOf
  obtain ⟨hN, hr, hG, hKp, rfl, hK⟩ := hp
  have h16 := hN.1.2.1
  have h60 := hN.1.2.2.2.2.1
  have harc := hN.1.2.2.2.2.2.1 K hK
  have ha : pr_X7_fromOf N K jth jrm jwy jhi jmf jmt jla jre jwr jga jlo jmo jli jta jpt jen jbg jfa jwt jac jng jnl jnm jnv jwm mW (nI K) := ⟨hN, rfl, hK⟩
  refine ⟨N, K, ⟨hN, rfl, hK⟩, fun r1 h1 => ⟨fun y => ⟨N, K, ha, fun r2 h2 r3 h3 => ?_⟩, fun y => Or.inl ⟨by have := no_i1 h1 y; simpa using this, rfl⟩⟩⟩
  have h2 : r2 = nI (N.fr K) := h2
  subst h2
  have hop := of_i1 h1 y
  refine ⟨fun y2 => ⟨N, K, ⟨hN, hr, hG, rfl, hK⟩, fun r4 h4 => ⟨fun y3 => ⟨N, K, ⟨hN, rfl, hK⟩, fun r5 h5 => ?_⟩, fun y3 => kind2.2 (IsB.pos h4 y3)⟩⟩, fun y2 => Or.inr (Or.inl ⟨hop, hold_z h3 hr (by omega) y2, rfl⟩)⟩
  have hrd := hold_p h3 hr (by omega) y2
  have nb : ¬ Dm N.E N.root (N.to K) (N.fr K) := fun w => IsB.neg h4 y3 ⟨hop, hrd, w⟩
  have h5 : r5 = nI (N.to K) := h5
  rw [h5, clN (by omega)]
  refine ⟨vp_in_nI (by omega) (by decide), N, K, ha, fun r6 h6 => ?_⟩
  have h6 : r6 = nI (N.fr K) := h6
  rw [h6, hKp.iff (by omega) (by omega)]
  exact ⟨fun w => Or.inr (Or.inr (Or.inr (Or.inr ⟨hop, hrd, nb, w, rfl⟩))), fun w => Or.inr (Or.inr (Or.inr (Or.inl ⟨hop, hrd, nb, w, rfl⟩)))⟩
def pr_X7_isBridge (N : NetM) (K : Nat) (jth jrm jwy jhi jmf jmt jla jre jwr jga jlo jmo jli jta jpt jen jbg jfa jwt jac jng jnl jnm jnv jwm : Int32) (mW : Nat → Int32) (k : Int32) : Prop := NetW N mW ∧ IsSet jre (Rd N.E N.root) ∧ jmf = -1 ∧ jla = -1 ∧ k = nI K ∧ K < N.m
def ps_X7_isBridge (N : NetM) (K : Nat) (jth jrm jwy jhi jmf jmt jla jre jwr jga jlo jmo jli jta jpt jen jbg jfa jwt jac jng jnl jnm jnv jwm : Int32) (mW : Nat → Int32) (k : Int32) (r : Int32)  : Prop := IsB r (Bridge N K)
def wp_X7_isBridge (jth jrm jwy jhi jmf jmt jla jre jwr jga jlo jmo jli jta jpt jen jbg jfa jwt jac jng jnl jnm jnv jwm : Int32) (mW : Nat → Int32) (k : Int32) (Q : Int32 → Prop) : Prop :=
  ∃ (N_1 : NetM) (K_1 : Nat), (pr_X7_isOpen N_1 K_1 jth jrm jwy jhi jmf jmt jla jre jwr jga jlo jmo jli jta jpt jen jbg jfa jwt jac jng jnl jnm jnv jwm mW k ∧ (∀ (r_1 : Int32), ps_X7_isOpen N_1 K_1 jth jrm jwy jhi jmf jmt jla jre jwr jga jlo jmo jli jta jpt jen jbg jfa jwt jac jng jnl jnm jnv jwm mW k r_1 → (((r_1 = 0 → (Q 0)) ∧
 (¬ (r_1 = 0) → (∃ (N_3 : NetM) (K_3 : Nat), (pr_X7_fromOf N_3 K_3 jth jrm jwy jhi jmf jmt jla jre jwr jga jlo jmo jli jta jpt jen jbg jfa jwt jac jng jnl jnm jnv jwm mW k ∧ (∀ (r_3 : Int32), ps_X7_fromOf N_3 K_3 jth jrm jwy jhi jmf jmt jla jre jwr jga jlo jmo jli jta jpt jen jbg jfa jwt jac jng jnl jnm jnv jwm mW k r_3 → (∀ (r_4 : Int32), ps_X7_holds jre r_3 r_4 → (((r_4 = 0 → (Q 0)) ∧
 (¬ (r_4 = 0) → (∃ (N_6 : NetM) (E_6 : Nat → Nat → Prop) (B_6 : Nat → Prop), (pr_X7_reachedBut N_6 E_6 B_6 jth jrm jwy jhi jmf jmt jla jre jwr jga jlo jmo jli jta jpt jen jbg jfa jwt jac jng jnl jnm jnv jwm mW 0 k ∧ (∀ (r_6 : Int32), ps_X7_reachedBut N_6 E_6 B_6 jth jrm jwy jhi jmf jmt jla jre jwr jga jlo jmo jli jta jpt jen jbg jfa jwt jac jng jnl jnm jnv jwm mW 0 k r_6 → (∃ (N_7 : NetM) (K_7 : Nat), (pr_X7_toOf N_7 K_7 jth jrm jwy jhi jmf jmt jla jre jwr jga jlo jmo jli jta jpt jen jbg jfa jwt jac jng jnl jnm jnv jwm mW k ∧ (∀ (r_7 : Int32), ps_X7_toOf N_7 K_7 jth jrm jwy jhi jmf jmt jla jre jwr jga jlo jmo jli jta jpt jen jbg jfa jwt jac jng jnl jnm jnv jwm mW k r_7 → (∀ (r_8 : Int32), ps_X7_holds r_6 r_7 r_8 → (((¬ r_8 = 0 → (Q 0)) ∧
 (r_8 = 0 → (Q 1)))))))))))))))))))))))
theorem pf_X7_isBridge (N : NetM) (K : Nat) (jth jrm jwy jhi jmf jmt jla jre jwr jga jlo jmo jli jta jpt jen jbg jfa jwt jac jng jnl jnm jnv jwm : Int32) (mW : Nat → Int32) (k : Int32) (hp : pr_X7_isBridge N K jth jrm jwy jhi jmf jmt jla jre jwr jga jlo jmo jli jta jpt jen jbg jfa jwt jac jng jnl jnm jnv jwm mW k) : wp_X7_isBridge jth jrm jwy jhi jmf jmt jla jre jwr jga jlo jmo jli jta jpt jen jbg jfa jwt jac jng jnl jnm jnv jwm mW k (ps_X7_isBridge N K jth jrm jwy jhi jmf jmt jla jre jwr jga jlo jmo jli jta jpt jen jbg jfa jwt jac jng jnl jnm jnv jwm mW k) := by
  unfold wp_X7_isBridge
  obtain ⟨hN, hr, rfl, rfl, rfl, hK⟩ := hp
  have h16 := hN.1.2.1
  have h60 := hN.1.2.2.2.2.1
  have harc := hN.1.2.2.2.2.2.1 K hK
  refine ⟨N, K, ⟨hN, rfl, hK⟩, fun r1 h1 => ⟨fun y => Or.inr ⟨rfl, fun w => no_i1 h1 y w.1⟩, fun y => ⟨N, K, ⟨hN, rfl, hK⟩, fun r2 h2 r3 h3 => ?_⟩⟩⟩
  have h2 : r2 = nI (N.fr K) := h2
  subst h2
  refine ⟨fun y2 => Or.inr ⟨rfl, fun w => hold_z h3 hr (by omega) y2 w.2.1⟩, fun y2 => ⟨N, N.Eb K, fun _ => False, ⟨hN, EGa.but hN.1 hK _, IsSet.zero⟩, fun r4 h4 => ⟨N, K, ⟨hN, rfl, hK⟩, fun r5 h5 r6 h6 => ?_⟩⟩⟩
  have h5 : r5 = nI (N.to K) := h5
  subst h5
  exact ⟨fun y3 => Or.inr ⟨rfl, fun w => w.2.2 (hold_p h6 h4 (by omega) y3)⟩, fun y3 => Or.inl ⟨rfl, of_i1 h1 y, hold_p h3 hr (by omega) y2, hold_z h6 h4 (by omega) y3⟩⟩
def pr_X7_sealedBy (N : NetM) (jth jrm jwy jhi jmf jmt jla jre jwr jga jlo jmo jli jta jpt jen jbg jfa jwt jac jng jnl jnm jnv jwm : Int32) (mW : Nat → Int32) (s : Int32) : Prop := NetW N mW ∧ IsSet jre (Rd N.E N.root) ∧ jmf = -1 ∧ jla = -1 ∧ SubN N.n s
def ps_X7_sealedBy (N : NetM) (jth jrm jwy jhi jmf jmt jla jre jwr jga jlo jmo jli jta jpt jen jbg jfa jwt jac jng jnl jnm jnv jwm : Int32) (mW : Nat → Int32) (s : Int32) (r : Int32)  : Prop := IsSet r (SealIs N s)
def wp_X7_sealedBy (jth jrm jwy jhi jmf jmt jla jre jwr jga jlo jmo jli jta jpt jen jbg jfa jwt jac jng jnl jnm jnv jwm : Int32) (mW : Nat → Int32) (s : Int32) (Q : Int32 → Prop) : Prop :=
  ∃ (N_1 : NetM) (E_1 : Nat → Nat → Prop) (B_1 : Nat → Prop), (pr_X7_reachedBut N_1 E_1 B_1 jth jrm jwy jhi jmf jmt jla jre jwr jga jlo jmo jli jta jpt jen jbg jfa jwt jac jng jnl jnm jnv jwm mW s (-1) ∧ (∀ (r_1 : Int32), ps_X7_reachedBut N_1 E_1 B_1 jth jrm jwy jhi jmf jmt jla jre jwr jga jlo jmo jli jta jpt jen jbg jfa jwt jac jng jnl jnm jnv jwm mW s (-1) r_1 → (Q ((jre &&& (r_1 ^^^ (-1))) &&& (s ^^^ (-1))))))
theorem pf_X7_sealedBy (N : NetM) (jth jrm jwy jhi jmf jmt jla jre jwr jga jlo jmo jli jta jpt jen jbg jfa jwt jac jng jnl jnm jnv jwm : Int32) (mW : Nat → Int32) (s : Int32) (hp : pr_X7_sealedBy N jth jrm jwy jhi jmf jmt jla jre jwr jga jlo jmo jli jta jpt jen jbg jfa jwt jac jng jnl jnm jnv jwm mW s) : wp_X7_sealedBy jth jrm jwy jhi jmf jmt jla jre jwr jga jlo jmo jli jta jpt jen jbg jfa jwt jac jng jnl jnm jnv jwm mW s (ps_X7_sealedBy N jth jrm jwy jhi jmf jmt jla jre jwr jga jlo jmo jli jta jpt jen jbg jfa jwt jac jng jnl jnm jnv jwm mW s) := by
  unfold wp_X7_sealedBy
  obtain ⟨hN, hr, rfl, rfl, hs⟩ := hp
  have h16 := hN.1.2.1
  have hS : IsSet s (fun z => bt s z = true) := fun k hk => ⟨fun q => ⟨by have := hs k hk q; omega, q⟩, fun q => q.2⟩
  exact ⟨N, N.E, fun z => bt s z = true, ⟨hN, EGa.base hN.1 _, hS⟩, fun r1 h1 => ((hr.andNot h1).andNot hS).congr (fun x _ => ⟨fun w => ⟨w.1.1, w.1.2, w.2⟩, fun w => ⟨⟨w.1, w.2.1⟩, w.2.2⟩⟩)⟩
def pr_X7_chainOf (N : NetM) (V : Nat) (jth jrm jwy jhi jmf jmt jla jre jwr jga jlo jmo jli jta jpt jen jbg jfa jwt jac jng jnl jnm jnv jwm : Int32) (mW mP mK : Nat → Int32) (v k : Int32) : Prop := NetW N mW ∧ IsSet jre (Rd N.E N.root) ∧ DepR N.E N.root N.n mP ∧ KepR N.E N.root mK ∧ v = nI V ∧ V < N.n
def ps_X7_chainOf (N : NetM) (V : Nat) (jth jrm jwy jhi jmf jmt jla jre jwr jga jlo jmo jli jta jpt jen jbg jfa jwt jac jng jnl jnm jnv jwm : Int32) (mW mP mK : Nat → Int32) (v k : Int32) (r : Int32)  : Prop := ChainIs N V k r
def wp_X7_chainOf_L29 (mP mK : Nat → Int32) (k : Int32) (J49 : Int32 → Prop) (ix3_18 : Int32) : Prop :=
  ∀ X29 : Int32 → Prop, (∀ (x3_18 : Int32), (vp_in x3_18 16 ∧ ((((mP x3_18.toNatClampNeg) ≤ k → (J49 x3_18)) ∧
 (¬ ((mP x3_18.toNatClampNeg) ≤ k) → (X29 (mK x3_18.toNatClampNeg)))))) → X29 x3_18) → X29 ix3_18
def wp_X7_chainOf (jth jrm jwy jhi jmf jmt jla jre jwr jga jlo jmo jli jta jpt jen jbg jfa jwt jac jng jnl jnm jnv jwm : Int32) (mW mP mK : Nat → Int32) (v k : Int32) (Q : Int32 → Prop) : Prop :=
  ∀ (r_1 : Int32), ps_X7_holds jre v r_1 → (((r_1 = 0 → (Q (-1))) ∧
 (¬ (r_1 = 0) → (vp_in v 16 ∧ (∀ (r_4 : Int32), ps_X7_in k 0 (mP v.toNatClampNeg) r_4 → (((¬ r_4 = 0 → (∀ J49 : Int32 → Prop, (∀ (x3_16 : Int32), (Q x3_16) → J49 x3_16) →
wp_X7_chainOf_L29 mP mK k J49 v)) ∧
 (r_4 = 0 → (Q (-1))))))))))
theorem pf_X7_chainOf (N : NetM) (V : Nat) (jth jrm jwy jhi jmf jmt jla jre jwr jga jlo jmo jli jta jpt jen jbg jfa jwt jac jng jnl jnm jnv jwm : Int32) (mW mP mK : Nat → Int32) (v k : Int32) (hp : pr_X7_chainOf N V jth jrm jwy jhi jmf jmt jla jre jwr jga jlo jmo jli jta jpt jen jbg jfa jwt jac jng jnl jnm jnv jwm mW mP mK v k) : wp_X7_chainOf jth jrm jwy jhi jmf jmt jla jre jwr jga jlo jmo jli jta jpt jen jbg jfa jwt jac jng jnl jnm jnv jwm mW mP mK v k (ps_X7_chainOf N V jth jrm jwy jhi jmf jmt jla jre jwr jga jlo jmo jli jta jpt jen jbg jfa jwt jac jng jnl jnm jnv jwm mW mP mK v k) := by
  unfold wp_X7_chainOf
  obtain ⟨hN, hr, hP, hK, rfl, hV⟩ := hp
  have h16 := hN.1.2.1
  have hlt : ∀ x, Rd N.E N.root x → x < N.n := fun x hx => NetM.Rd_lt hN.1 hx
  refine fun r1 h1 => ⟨fun y => Or.inl ⟨fun w => hold_z h1 hr (by omega) y w.1, rfl⟩, fun y => ?_⟩
  have hRd := hold_p h1 hr (by omega) y
  rw [clN (by omega), (hP V (by omega)).1 hRd]
  refine ⟨vp_in_nI (by omega) (by decide), fun r2 h2 => ⟨fun y2 J hJ X hX => ?_, fun y2 => Or.inl ⟨fun w => no_i1 (show r2 = i1 (0 ≤ k ∧ k ≤ nI (dep N.E N.root N.n V)) from h2) y2 w.2, rfl⟩⟩⟩
  have hk := of_i1 (show r2 = i1 (0 ≤ k ∧ k ≤ nI (dep N.E N.root N.n V)) from h2) y2
  have hdV := dep_n hlt hRd
  obtain ⟨K', hK', rfl⟩ := of_le (by omega) hk
  refine dn1 (fun a => ∃ x, a = nI x ∧ x < 16 ∧ Dm N.E N.root x V ∧ K' ≤ dep N.E N.root N.n x) (fun a => dep N.E N.root N.n a.toNatClampNeg) (fun a ha hh => ?_) (nI V) ⟨V, rfl, by omega, Dm.refl hRd, hK'⟩
  obtain ⟨x, rfl, hx, hd, hle⟩ := ha
  have hxd := dep_n hlt hd.Rg
  refine hX _ ⟨vp_in_nI hx (by decide), ?_⟩
  rw [clN (by omega), (hP x hx).1 hd.Rg, leN (by omega) (by omega)]
  refine ⟨fun w => hJ _ (Or.inr ⟨hRd, K', x, rfl, hK', rfl, hd, by omega⟩), fun w => ?_⟩
  have hxr : x ≠ N.root := fun e => by
    subst e
    rw [dep_root] at w
    omega
  obtain ⟨g, hg⟩ := Id.ex hlt hd.Rg hxr
  have e := dep_id hlt hg
  have hg16 := hlt g hg.1.2.Rg
  have hm : mK x = nI g := (hK.iff hx (by omega)).2 hg
  rw [hm]
  refine hh _ ⟨g, rfl, by omega, hg.1.2.trans hd, by omega⟩ ?_
  rw [clN (by omega), clN (by omega)]
  omega
def pr_X7_levelOf (N : NetM) (jth jrm jwy jhi jmf jmt jla jre jwr jga jlo jmo jli jta jpt jen jbg jfa jwt jac jng jnl jnm jnv jwm : Int32) (mW mP : Nat → Int32) (v : Int32) : Prop := NetW N mW ∧ DepR N.E N.root N.n mP
def ps_X7_levelOf (N : NetM) (jth jrm jwy jhi jmf jmt jla jre jwr jga jlo jmo jli jta jpt jen jbg jfa jwt jac jng jnl jnm jnv jwm : Int32) (mW mP : Nat → Int32) (v : Int32) (r : Int32)  : Prop := IsSet r (fun n0 => Rd N.E N.root n0 ∧ nI (dep N.E N.root N.n n0) = v)
def wp_X7_levelOf_L4 (jth jrm jwy jhi jmf jmt jla jre jwr jga jlo jmo jli jta jpt jen jbg jfa jwt jac jng jnl jnm jnv jwm : Int32) (mW mP : Nat → Int32) (v : Int32) (J42 : Int32 → Prop) (ix3_24 ix2_25 : Int32) : Prop :=
  ∀ X4 : Int32 → Int32 → Prop, (∀ (x3_24 : Int32) (x2_25 : Int32), (∀ (r_27 : Int32), ps_X7_nodes jth jrm jwy jhi jmf jmt jla jre jwr jga jlo jmo jli jta jpt jen jbg jfa jwt jac jng jnl jnm jnv jwm mW r_27 → (((r_27 ≤ x3_24 → (J42 x2_25)) ∧
 (¬ (r_27 ≤ x3_24) → ((v < 0 → (X4 (x3_24 + 1) (x2_25 ||| 0))) ∧
 (¬ (v < 0) → (vp_in x3_24 16 ∧ (((¬ (mP x3_24.toNatClampNeg) = v → (X4 (x3_24 + 1) (x2_25 ||| 0))) ∧
 ((mP x3_24.toNatClampNeg) = v → (X4 (x3_24 + 1) (x2_25 ||| (1 <<< (x3_24 &&& 31)))))))))))))) → X4 x3_24 x2_25) → X4 ix3_24 ix2_25
def wp_X7_levelOf (jth jrm jwy jhi jmf jmt jla jre jwr jga jlo jmo jli jta jpt jen jbg jfa jwt jac jng jnl jnm jnv jwm : Int32) (mW mP : Nat → Int32) (v : Int32) (Q : Int32 → Prop) : Prop :=
  ∀ J42 : Int32 → Prop, (∀ (x2_22 : Int32), (Q x2_22) → J42 x2_22) →
wp_X7_levelOf_L4 jth jrm jwy jhi jmf jmt jla jre jwr jga jlo jmo jli jta jpt jen jbg jfa jwt jac jng jnl jnm jnv jwm mW mP v J42 0 0
theorem pf_X7_levelOf (N : NetM) (jth jrm jwy jhi jmf jmt jla jre jwr jga jlo jmo jli jta jpt jen jbg jfa jwt jac jng jnl jnm jnv jwm : Int32) (mW mP : Nat → Int32) (v : Int32) (hp : pr_X7_levelOf N jth jrm jwy jhi jmf jmt jla jre jwr jga jlo jmo jli jta jpt jen jbg jfa jwt jac jng jnl jnm jnv jwm mW mP v) : wp_X7_levelOf jth jrm jwy jhi jmf jmt jla jre jwr jga jlo jmo jli jta jpt jen jbg jfa jwt jac jng jnl jnm jnv jwm mW mP v (ps_X7_levelOf N jth jrm jwy jhi jmf jmt jla jre jwr jga jlo jmo jli jta jpt jen jbg jfa jwt jac jng jnl jnm jnv jwm mW mP v) := by
  unfold wp_X7_levelOf
  obtain ⟨hN, hP⟩ := hp
  have h16 := hN.1.2.1
  intro J hJ X hX
  refine up1 N.n (fun k s => Acc (fun _ => False) k (fun j x => x = j ∧ Rd N.E N.root j ∧ nI (dep N.E N.root N.n j) = v) s) (fun k s hk hI hh => hX _ _ (fun r1 h1 => ?_)) (fun s hI => hX _ _ (fun r1 h1 => ?_)) 0 0 (Nat.zero_le _) Acc.z
  · rw [ndW hN h1, leN (by omega) (by omega), clN (by omega)]
    refine ⟨fun z => absurd z (by omega), fun _ => ⟨fun y => hh _ (hI.no0 (fun x _ w => ?_)), fun y => ⟨vp_in_nI (by omega) (by decide), fun y2 => hh _ (hI.no0 (fun x _ w => y2 (((hP k (by omega)).1 w.2.1).trans w.2.2))), fun y2 => hh _ (hI.hit (by omega) (fun x _ => ⟨fun w => w.1, fun w => ?_⟩))⟩⟩⟩
    · have hd := dep_n (fun x hx => NetM.Rd_lt hN.1 hx) w.2.1
      have := Int32.lt_iff_toInt_lt.1 y
      rw [← w.2.2, nI_toInt (by omega)] at this
      have e : (0 : Int32).toInt = 0 := by decide
      omega
    · refine ⟨w, ?_⟩
      by_cases q : Rd N.E N.root k
      · exact ⟨q, ((hP k (by omega)).1 q).symm.trans y2⟩
      · exact absurd (by rw [← y2, (hP k (by omega)).2 q]; decide) y
  · rw [ndW hN h1]
    exact ⟨fun _ => hJ _ (hI.get.congr (fun x _ => ⟨fun ⟨j, a, b, c⟩ => by subst b; exact c, fun w => ⟨x, NetM.Rd_lt hN.1 w.1, rfl, w⟩⟩)), fun z => absurd (Int32.le_refl _) z⟩
def pr_X7_spareOnes (N : NetM) (jth jrm jwy jhi jmf jmt jla jre jwr jga jlo jmo jli jta jpt jen jbg jfa jwt jac jng jnl jnm jnv jwm : Int32) (mW mG mP mK mQ mR : Nat → Int32) : Prop := NetW N mW ∧ jmf = -1 ∧ jla = -1
def ps_X7_spareOnes (N : NetM) (jth jrm jwy jhi jmf jmt jla jre jwr jga jlo jmo jli jta jpt jen jbg jfa jwt jac jng jnl jnm jnv jwm : Int32) (mW mG mP mK mQ mR : Nat → Int32) (r : Int32) (jmf' jla' jre' jwr' jng' jnl' jnm' jnv' : Int32) (mG' mP' mK' mQ' mR' : Nat → Int32) : Prop := jmf' = -1 ∧ jla' = -1 ∧ r = nI (cnt N.m (Spare N))
def wp_X7_spareOnes_L4 (jth jrm jwy jhi jmt jga jlo jmo jli jta jpt jen jbg jfa jwt jac jwm : Int32) (mW : Nat → Int32) (J56 : Int32 → Int32 → Int32 → Int32 → Int32 → Int32 → Int32 → Int32 → Int32 → (Nat → Int32) → (Nat → Int32) → (Nat → Int32) → (Nat → Int32) → (Nat → Int32) → Prop) (ix2_70 ix1_71 imoreFrom_72 ilessArc_73 ireached_74 iwasReached_75 inewGained_76 inewLost_77 inewMoved_78 inewLift_79 : Int32) (ia_80 ia_81 ia_82 ia_83 ia_84 : Nat → Int32) : Prop :=
  ∀ X4 : Int32 → Int32 → Int32 → Int32 → Int32 → Int32 → Int32 → Int32 → Int32 → Int32 → (Nat → Int32) → (Nat → Int32) → (Nat → Int32) → (Nat → Int32) → (Nat → Int32) → Prop, (∀ (x2_70 : Int32) (x1_71 : Int32) (moreFrom_72 : Int32) (lessArc_73 : Int32) (reached_74 : Int32) (wasReached_75 : Int32) (newGained_76 : Int32) (newLost_77 : Int32) (newMoved_78 : Int32) (newLift_79 : Int32) (a_80 : Nat → Int32) (a_81 : Nat → Int32) (a_82 : Nat → Int32) (a_83 : Nat → Int32) (a_84 : Nat → Int32), (∀ (r_86 : Int32), ps_X7_arcs jth jrm jwy jhi moreFrom_72 jmt lessArc_73 reached_74 wasReached_75 jga jlo jmo jli jta jpt jen jbg jfa jwt jac newGained_76 newLost_77 newMoved_78 newLift_79 jwm mW r_86 → (((r_86 ≤ x2_70 → (J56 x1_71 moreFrom_72 lessArc_73 reached_74 wasReached_75 newGained_76 newLost_77 newMoved_78 newLift_79 a_80 a_81 a_82 a_83 a_84)) ∧
 (¬ (r_86 ≤ x2_70) → (∃ (N_88 : NetM) (K_88 : Nat), (pr_X7_isOpen N_88 K_88 jth jrm jwy jhi moreFrom_72 jmt lessArc_73 reached_74 wasReached_75 jga jlo jmo jli jta jpt jen jbg jfa jwt jac newGained_76 newLost_77 newMoved_78 newLift_79 jwm mW x2_70 ∧ (∀ (r_88 : Int32), ps_X7_isOpen N_88 K_88 jth jrm jwy jhi moreFrom_72 jmt lessArc_73 reached_74 wasReached_75 jga jlo jmo jli jta jpt jen jbg jfa jwt jac newGained_76 newLost_77 newMoved_78 newLift_79 jwm mW x2_70 r_88 → (((¬ r_88 = 0 → (∃ (N_90 : NetM) (K_90 : Nat), (pr_X7_triesWithout N_90 K_90 jth jrm jwy jhi moreFrom_72 jmt lessArc_73 reached_74 wasReached_75 jga jlo jmo jli jta jpt jen jbg jfa jwt jac newGained_76 newLost_77 newMoved_78 newLift_79 jwm mW a_80 a_81 a_82 a_83 a_84 x2_70 ∧ (∀ (jmf_90 jla_90 jre_90 jwr_90 jng_90 jnl_90 jnm_90 jnv_90 : Int32) (mG_90 mP_90 mK_90 mQ_90 mR_90 : Nat → Int32), ps_X7_triesWithout N_90 K_90 jth jrm jwy jhi moreFrom_72 jmt lessArc_73 reached_74 wasReached_75 jga jlo jmo jli jta jpt jen jbg jfa jwt jac newGained_76 newLost_77 newMoved_78 newLift_79 jwm mW a_80 a_81 a_82 a_83 a_84 x2_70 jmf_90 jla_90 jre_90 jwr_90 jng_90 jnl_90 jnm_90 jnv_90 mG_90 mP_90 mK_90 mQ_90 mR_90 → (((¬ jnl_90 = 0 → (X4 (x2_70 + 1) (x1_71 + 0) jmf_90 jla_90 jre_90 jwr_90 jng_90 jnl_90 jnm_90 jnv_90 mG_90 mP_90 mK_90 mQ_90 mR_90)) ∧
 (jnl_90 = 0 → ((¬ jnm_90 = 0 → (X4 (x2_70 + 1) (x1_71 + 0) jmf_90 jla_90 jre_90 jwr_90 jng_90 jnl_90 jnm_90 jnv_90 mG_90 mP_90 mK_90 mQ_90 mR_90)) ∧
 (jnm_90 = 0 → (X4 (x2_70 + 1) (x1_71 + 1) jmf_90 jla_90 jre_90 jwr_90 jng_90 jnl_90 jnm_90 jnv_90 mG_90 mP_90 mK_90 mQ_90 mR_90)))))))))) ∧
 (r_88 = 0 → (X4 (x2_70 + 1) x1_71 moreFrom_72 lessArc_73 reached_74 wasReached_75 newGained_76 newLost_77 newMoved_78 newLift_79 a_80 a_81 a_82 a_83 a_84))))))))))) → X4 x2_70 x1_71 moreFrom_72 lessArc_73 reached_74 wasReached_75 newGained_76 newLost_77 newMoved_78 newLift_79 a_80 a_81 a_82 a_83 a_84) → X4 ix2_70 ix1_71 imoreFrom_72 ilessArc_73 ireached_74 iwasReached_75 inewGained_76 inewLost_77 inewMoved_78 inewLift_79 ia_80 ia_81 ia_82 ia_83 ia_84
def wp_X7_spareOnes (jth jrm jwy jhi jmf jmt jla jre jwr jga jlo jmo jli jta jpt jen jbg jfa jwt jac jng jnl jnm jnv jwm : Int32) (mW mG mP mK mQ mR : Nat → Int32) (Q : Int32 → Int32 → Int32 → Int32 → Int32 → Int32 → Int32 → Int32 → Int32 → (Nat → Int32) → (Nat → Int32) → (Nat → Int32) → (Nat → Int32) → (Nat → Int32) → Prop) : Prop :=
  ∀ J56 : Int32 → Int32 → Int32 → Int32 → Int32 → Int32 → Int32 → Int32 → Int32 → (Nat → Int32) → (Nat → Int32) → (Nat → Int32) → (Nat → Int32) → (Nat → Int32) → Prop, (∀ (x1_55 : Int32) (moreFrom_56 : Int32) (lessArc_57 : Int32) (reached_58 : Int32) (wasReached_59 : Int32) (newGained_60 : Int32) (newLost_61 : Int32) (newMoved_62 : Int32) (newLift_63 : Int32) (a_64 : Nat → Int32) (a_65 : Nat → Int32) (a_66 : Nat → Int32) (a_67 : Nat → Int32) (a_68 : Nat → Int32), (Q x1_55 moreFrom_56 lessArc_57 reached_58 wasReached_59 newGained_60 newLost_61 newMoved_62 newLift_63 a_64 a_65 a_66 a_67 a_68) → J56 x1_55 moreFrom_56 lessArc_57 reached_58 wasReached_59 newGained_60 newLost_61 newMoved_62 newLift_63 a_64 a_65 a_66 a_67 a_68) →
wp_X7_spareOnes_L4 jth jrm jwy jhi jmt jga jlo jmo jli jta jpt jen jbg jfa jwt jac jwm mW J56 0 0 jmf jla jre jwr jng jnl jnm jnv mG mP mK mQ mR
theorem pf_X7_spareOnes (N : NetM) (jth jrm jwy jhi jmf jmt jla jre jwr jga jlo jmo jli jta jpt jen jbg jfa jwt jac jng jnl jnm jnv jwm : Int32) (mW mG mP mK mQ mR : Nat → Int32) (hp : pr_X7_spareOnes N jth jrm jwy jhi jmf jmt jla jre jwr jga jlo jmo jli jta jpt jen jbg jfa jwt jac jng jnl jnm jnv jwm mW mG mP mK mQ mR) : wp_X7_spareOnes jth jrm jwy jhi jmf jmt jla jre jwr jga jlo jmo jli jta jpt jen jbg jfa jwt jac jng jnl jnm jnv jwm mW mG mP mK mQ mR (ps_X7_spareOnes N jth jrm jwy jhi jmf jmt jla jre jwr jga jlo jmo jli jta jpt jen jbg jfa jwt jac jng jnl jnm jnv jwm mW mG mP mK mQ mR) := by
  unfold wp_X7_spareOnes
  obtain ⟨hN, rfl, rfl⟩ := hp
  have h16 := hN.1.2.1
  have h60 := hN.1.2.2.2.2.1
  intro J hJ X hX
  refine up1 (X := fun k (p : Int32 × Int32 × Int32 × Int32 × Int32 × Int32 × Int32 × Int32 × Int32 × (Nat → Int32) × (Nat → Int32) × (Nat → Int32) × (Nat → Int32) × (Nat → Int32)) => X k p.1 p.2.1 p.2.2.1 p.2.2.2.1 p.2.2.2.2.1 p.2.2.2.2.2.1 p.2.2.2.2.2.2.1 p.2.2.2.2.2.2.2.1 p.2.2.2.2.2.2.2.2.1 p.2.2.2.2.2.2.2.2.2.1 p.2.2.2.2.2.2.2.2.2.2.1 p.2.2.2.2.2.2.2.2.2.2.2.1 p.2.2.2.2.2.2.2.2.2.2.2.2.1 p.2.2.2.2.2.2.2.2.2.2.2.2.2) N.m (fun k p => p.1 = nI (cnt k (Spare N)) ∧ p.2.1 = -1 ∧ p.2.2.1 = -1) (fun k p hk hI hh => hX _ _ _ _ _ _ _ _ _ _ _ _ _ _ _ (fun r1 h1 => ?_)) (fun p hI => hX _ _ _ _ _ _ _ _ _ _ _ _ _ _ _ (fun r1 h1 => ?_)) 0 (0, -1, -1, jre, jwr, jng, jnl, jnm, jnv, mG, mP, mK, mQ, mR) (Nat.zero_le _) ⟨rfl, rfl, rfl⟩
  · obtain ⟨i1', i2', i3'⟩ := hI
    rw [mnW hN h1, leN (by omega) (by omega)]
    refine ⟨fun z => absurd z (by omega), fun _ => ⟨N, k, ⟨hN, rfl, hk⟩, fun r2 h2 => ⟨fun y => ⟨N, k, ⟨hN, i2', i3', rfl, hk⟩, fun mf la re wr ng nl nm nv G P K Q1 R1 h => ?_⟩, fun y => hh p ⟨by rw [i1', cnt_n (fun w => no_i1 h2 y w.1)], i2', i3'⟩⟩⟩⟩
    obtain ⟨q1, q2, q3, q4, q5, q6⟩ := h
    have hop := of_i1 h2 y
    have put : ∀ r, r = nI (cnt (k + 1) (Spare N)) → X (nI k + 1) r mf la re wr ng nl nm nv G P K Q1 R1 := fun r hr => hh (r, mf, la, re, wr, ng, nl, nm, nv, G, P, K, Q1, R1) ⟨hr, q1, q2⟩
    rw [q4.eq0, q5.eq0, i1']
    refine ⟨fun y1 => put _ ?_, fun y1 => ⟨fun y2 => put _ ?_, fun y2 => put _ ?_⟩⟩
    · rw [cnt_n (fun w => y1 (fun x _ z => z.2 (w.2.1 x z.1))), nI_z]
    · rw [cnt_n (fun w => y2 (fun x _ z => w.2.2 x z)), nI_z]
    · rw [cnt_s, nI_1]
      refine ⟨hop, fun x hx => Classical.byContradiction fun q => y1 x (by have := NetM.Rd_lt hN.1 hx; omega) ⟨hx, q⟩, fun x hx => y2 x (by have := NetM.Rd_lt hN.1 hx.1; omega) hx⟩
  · rw [mnW hN h1]
    exact ⟨fun _ => hJ _ _ _ _ _ _ _ _ _ _ _ _ _ _ ⟨hI.2.1, hI.2.2, hI.1⟩, fun z => absurd (Int32.le_refl _) z⟩
def pr_X7_openOnes (N : NetM) (jth jrm jwy jhi jmf jmt jla jre jwr jga jlo jmo jli jta jpt jen jbg jfa jwt jac jng jnl jnm jnv jwm : Int32) (mW : Nat → Int32) : Prop := NetW N mW
def ps_X7_openOnes (N : NetM) (jth jrm jwy jhi jmf jmt jla jre jwr jga jlo jmo jli jta jpt jen jbg jfa jwt jac jng jnl jnm jnv jwm : Int32) (mW : Nat → Int32) (r : Int32)  : Prop := r = nI (cnt N.m (fun k => N.op k = true))
def wp_X7_openOnes_L4 (jth jrm jwy jhi jmf jmt jla jre jwr jga jlo jmo jli jta jpt jen jbg jfa jwt jac jng jnl jnm jnv jwm : Int32) (mW : Nat → Int32) (J31 : Int32 → Prop) (ix2_19 ix1_20 : Int32) : Prop :=
  ∀ X4 : Int32 → Int32 → Prop, (∀ (x2_19 : Int32) (x1_20 : Int32), (∀ (r_22 : Int32), ps_X7_arcs jth jrm jwy jhi jmf jmt jla jre jwr jga jlo jmo jli jta jpt jen jbg jfa jwt jac jng jnl jnm jnv jwm mW r_22 → (((r_22 ≤ x2_19 → (J31 x1_20)) ∧
 (¬ (r_22 ≤ x2_19) → (vp_in (140 + x2_19) 200 ∧ (X4 (x2_19 + 1) (x1_20 + (mW (140 + x2_19).toNatClampNeg)))))))) → X4 x2_19 x1_20) → X4 ix2_19 ix1_20
def wp_X7_openOnes (jth jrm jwy jhi jmf jmt jla jre jwr jga jlo jmo jli jta jpt jen jbg jfa jwt jac jng jnl jnm jnv jwm : Int32) (mW : Nat → Int32) (Q : Int32 → Prop) : Prop :=
  ∀ J31 : Int32 → Prop, (∀ (x1_17 : Int32), (Q x1_17) → J31 x1_17) →
wp_X7_openOnes_L4 jth jrm jwy jhi jmf jmt jla jre jwr jga jlo jmo jli jta jpt jen jbg jfa jwt jac jng jnl jnm jnv jwm mW J31 0 0
theorem pf_X7_openOnes (N : NetM) (jth jrm jwy jhi jmf jmt jla jre jwr jga jlo jmo jli jta jpt jen jbg jfa jwt jac jng jnl jnm jnv jwm : Int32) (mW : Nat → Int32) (hp : pr_X7_openOnes N jth jrm jwy jhi jmf jmt jla jre jwr jga jlo jmo jli jta jpt jen jbg jfa jwt jac jng jnl jnm jnv jwm mW) : wp_X7_openOnes jth jrm jwy jhi jmf jmt jla jre jwr jga jlo jmo jli jta jpt jen jbg jfa jwt jac jng jnl jnm jnv jwm mW (ps_X7_openOnes N jth jrm jwy jhi jmf jmt jla jre jwr jga jlo jmo jli jta jpt jen jbg jfa jwt jac jng jnl jnm jnv jwm mW) := by
  unfold wp_X7_openOnes
  have h60 := hp.1.2.2.2.2.1
  intro J hJ X hX
  refine up1 N.m (fun k x => x = nI (cnt k (fun k => N.op k = true))) (fun k x hk hI hh => hX _ _ (fun r1 h1 => ?_)) (fun x hI => hX _ _ (fun r1 h1 => ?_)) 0 0 (Nat.zero_le _) rfl
  · rw [mnW hp h1, leN (by omega) (by omega), show (140 : Int32) + nI k = nI (140 + k) from nI_add 140 k, clN (by omega), (hp.2.2.2.2.2.2 k hk).2.2]
    refine ⟨fun z => absurd z (by omega), fun _ => ⟨vp_in_nI (by omega) (by decide), hh _ ?_⟩⟩
    by_cases q : N.op k = true
    · rw [if_pos q, hI, cnt_s (P := fun k => N.op k = true) q, nI_1]
    · rw [if_neg q, hI, cnt_n (P := fun k => N.op k = true) q, nI_z]
  · rw [mnW hp h1]
    exact ⟨fun _ => hJ _ hI, fun z => absurd (Int32.le_refl _) z⟩
def pr_X7_heads (N : NetM) (jth jrm jwy jhi jmf jmt jla jre jwr jga jlo jmo jli jta jpt jen jbg jfa jwt jac jng jnl jnm jnv jwm : Int32) (mW mG : Nat → Int32) : Prop := NetW N mW ∧ IsSet jre (Rd N.E N.root) ∧ (∀ x, x < 16 → IsSet (mG x) (fun z => Pd N.E N.root z x))
def ps_X7_heads (N : NetM) (jth jrm jwy jhi jmf jmt jla jre jwr jga jlo jmo jli jta jpt jen jbg jfa jwt jac jng jnl jnm jnv jwm : Int32) (mW mG : Nat → Int32) (r : Int32)  : Prop := IsSet r (fun n => ∃ u, Tail N.E N.root u n)
def wp_X7_heads_L4 (jth jrm jwy jhi jmf jmt jla jre jwr jga jlo jmo jli jta jpt jen jbg jfa jwt jac jng jnl jnm jnv jwm : Int32) (mW mG : Nat → Int32) (J40 : Int32 → Prop) (ix2_25 ix1_26 : Int32) : Prop :=
  ∀ X4 : Int32 → Int32 → Prop, (∀ (x2_25 : Int32) (x1_26 : Int32), (∀ (r_28 : Int32), ps_X7_arcs jth jrm jwy jhi jmf jmt jla jre jwr jga jlo jmo jli jta jpt jen jbg jfa jwt jac jng jnl jnm jnv jwm mW r_28 → (((r_28 ≤ x2_25 → (J40 x1_26)) ∧
 (¬ (r_28 ≤ x2_25) → (∃ (N_30 : NetM) (K_30 : Nat), (pr_X7_isBack N_30 K_30 jth jrm jwy jhi jmf jmt jla jre jwr jga jlo jmo jli jta jpt jen jbg jfa jwt jac jng jnl jnm jnv jwm mW mG x2_25 ∧ (∀ (r_30 : Int32), ps_X7_isBack N_30 K_30 jth jrm jwy jhi jmf jmt jla jre jwr jga jlo jmo jli jta jpt jen jbg jfa jwt jac jng jnl jnm jnv jwm mW mG x2_25 r_30 → (((r_30 = 0 → (X4 (x2_25 + 1) (x1_26 ||| 0))) ∧
 (¬ (r_30 = 0) → (∃ (N_32 : NetM) (K_32 : Nat), (pr_X7_toOf N_32 K_32 jth jrm jwy jhi jmf jmt jla jre jwr jga jlo jmo jli jta jpt jen jbg jfa jwt jac jng jnl jnm jnv jwm mW x2_25 ∧ (∀ (r_32 : Int32), ps_X7_toOf N_32 K_32 jth jrm jwy jhi jmf jmt jla jre jwr jga jlo jmo jli jta jpt jen jbg jfa jwt jac jng jnl jnm jnv jwm mW x2_25 r_32 → (X4 (x2_25 + 1) (x1_26 ||| (1 <<< (r_32 &&& 31))))))))))))))))) → X4 x2_25 x1_26) → X4 ix2_25 ix1_26
def wp_X7_heads (jth jrm jwy jhi jmf jmt jla jre jwr jga jlo jmo jli jta jpt jen jbg jfa jwt jac jng jnl jnm jnv jwm : Int32) (mW mG : Nat → Int32) (Q : Int32 → Prop) : Prop :=
  ∀ J40 : Int32 → Prop, (∀ (x1_23 : Int32), (Q x1_23) → J40 x1_23) →
wp_X7_heads_L4 jth jrm jwy jhi jmf jmt jla jre jwr jga jlo jmo jli jta jpt jen jbg jfa jwt jac jng jnl jnm jnv jwm mW mG J40 0 0
theorem pf_X7_heads (N : NetM) (jth jrm jwy jhi jmf jmt jla jre jwr jga jlo jmo jli jta jpt jen jbg jfa jwt jac jng jnl jnm jnv jwm : Int32) (mW mG : Nat → Int32) (hp : pr_X7_heads N jth jrm jwy jhi jmf jmt jla jre jwr jga jlo jmo jli jta jpt jen jbg jfa jwt jac jng jnl jnm jnv jwm mW mG) : wp_X7_heads jth jrm jwy jhi jmf jmt jla jre jwr jga jlo jmo jli jta jpt jen jbg jfa jwt jac jng jnl jnm jnv jwm mW mG (ps_X7_heads N jth jrm jwy jhi jmf jmt jla jre jwr jga jlo jmo jli jta jpt jen jbg jfa jwt jac jng jnl jnm jnv jwm mW mG) := by
  unfold wp_X7_heads
  obtain ⟨hN, hr, hG⟩ := hp
  have h16 := hN.1.2.1
  have h60 := hN.1.2.2.2.2.1
  intro J hJ X hX
  refine up1 N.m (fun k s => Acc (fun _ => False) k (fun j x => (N.op j = true ∧ Rd N.E N.root (N.fr j) ∧ Dm N.E N.root (N.to j) (N.fr j)) ∧ x = N.to j) s) (fun k s hk hI hh => hX _ _ (fun r1 h1 => ?_)) (fun s hI => hX _ _ (fun r1 h1 => ?_)) 0 0 (Nat.zero_le _) Acc.z
  · rw [mnW hN h1, leN (by omega) (by omega)]
    have harc := hN.1.2.2.2.2.2.1 k hk
    refine ⟨fun z => absurd z (by omega), fun _ => ⟨N, k, ⟨hN, hr, hG, rfl, hk⟩, fun r2 h2 => ⟨fun y => hh _ (hI.no0 (fun x _ w => IsB.neg h2 y w.1)), fun y => ⟨N, k, ⟨hN, rfl, hk⟩, fun r3 h3 => ?_⟩⟩⟩⟩
    have h3 : r3 = nI (N.to k) := h3
    rw [h3]
    exact hh _ (hI.hit (by omega) (fun x _ => ⟨fun w => w.2, fun w => ⟨IsB.pos h2 y, w⟩⟩))
  · rw [mnW hN h1]
    refine ⟨fun _ => hJ _ (hI.get.congr (fun x _ => ⟨?_, ?_⟩)), fun z => absurd (Int32.le_refl _) z⟩
    · rintro ⟨j, a, ⟨b, c, d⟩, rfl⟩
      exact ⟨N.fr j, ⟨j, a, b, rfl, rfl⟩, d⟩
    · rintro ⟨u, ⟨j, a, b, rfl, rfl⟩, d⟩
      exact ⟨j, a, ⟨b, d.R, d⟩, rfl⟩
def pr_X7_manyArcs (N : NetM) (jth jrm jwy jhi jmf jmt jla jre jwr jga jlo jmo jli jta jpt jen jbg jfa jwt jac jng jnl jnm jnv jwm : Int32) (mW mG : Nat → Int32) (z : Int32) : Prop := NetW N mW ∧ IsSet jre (Rd N.E N.root) ∧ (∀ x, x < 16 → IsSet (mG x) (fun z => Pd N.E N.root z x)) ∧ jmf = -1 ∧ jla = -1
def ps_X7_manyArcs (N : NetM) (jth jrm jwy jhi jmf jmt jla jre jwr jga jlo jmo jli jta jpt jen jbg jfa jwt jac jng jnl jnm jnv jwm : Int32) (mW mG : Nat → Int32) (z : Int32) (r : Int32)  : Prop := r = nI (if z = 0 then cnt N.m (Bridge N) else cnt N.m (fun k => KindIs N k 2))
def wp_X7_manyArcs_L4 (jth jrm jwy jhi jmf jmt jla jre jwr jga jlo jmo jli jta jpt jen jbg jfa jwt jac jng jnl jnm jnv jwm : Int32) (mW mG : Nat → Int32) (z : Int32) (J49 : Int32 → Prop) (ix3_31 ix2_32 : Int32) : Prop :=
  ∀ X4 : Int32 → Int32 → Prop, (∀ (x3_31 : Int32) (x2_32 : Int32), (∀ (r_34 : Int32), ps_X7_arcs jth jrm jwy jhi jmf jmt jla jre jwr jga jlo jmo jli jta jpt jen jbg jfa jwt jac jng jnl jnm jnv jwm mW r_34 → (((r_34 ≤ x3_31 → (J49 x2_32)) ∧
 (¬ (r_34 ≤ x3_31) → ((z = 0 → (∃ (N_37 : NetM) (K_37 : Nat), (pr_X7_isBridge N_37 K_37 jth jrm jwy jhi jmf jmt jla jre jwr jga jlo jmo jli jta jpt jen jbg jfa jwt jac jng jnl jnm jnv jwm mW x3_31 ∧ (∀ (r_37 : Int32), ps_X7_isBridge N_37 K_37 jth jrm jwy jhi jmf jmt jla jre jwr jga jlo jmo jli jta jpt jen jbg jfa jwt jac jng jnl jnm jnv jwm mW x3_31 r_37 → (((r_37 = 0 → (X4 (x3_31 + 1) (x2_32 + 0))) ∧
 (¬ (r_37 = 0) → (X4 (x3_31 + 1) (x2_32 + 1))))))))) ∧
 (¬ (z = 0) → (∃ (N_39 : NetM) (K_39 : Nat), (pr_X7_isBack N_39 K_39 jth jrm jwy jhi jmf jmt jla jre jwr jga jlo jmo jli jta jpt jen jbg jfa jwt jac jng jnl jnm jnv jwm mW mG x3_31 ∧ (∀ (r_39 : Int32), ps_X7_isBack N_39 K_39 jth jrm jwy jhi jmf jmt jla jre jwr jga jlo jmo jli jta jpt jen jbg jfa jwt jac jng jnl jnm jnv jwm mW mG x3_31 r_39 → (((r_39 = 0 → (X4 (x3_31 + 1) (x2_32 + 0))) ∧
 (¬ (r_39 = 0) → (X4 (x3_31 + 1) (x2_32 + 1)))))))))))))) → X4 x3_31 x2_32) → X4 ix3_31 ix2_32
def wp_X7_manyArcs (jth jrm jwy jhi jmf jmt jla jre jwr jga jlo jmo jli jta jpt jen jbg jfa jwt jac jng jnl jnm jnv jwm : Int32) (mW mG : Nat → Int32) (z : Int32) (Q : Int32 → Prop) : Prop :=
  ∀ J49 : Int32 → Prop, (∀ (x2_29 : Int32), (Q x2_29) → J49 x2_29) →
wp_X7_manyArcs_L4 jth jrm jwy jhi jmf jmt jla jre jwr jga jlo jmo jli jta jpt jen jbg jfa jwt jac jng jnl jnm jnv jwm mW mG z J49 0 0
theorem pf_X7_manyArcs (N : NetM) (jth jrm jwy jhi jmf jmt jla jre jwr jga jlo jmo jli jta jpt jen jbg jfa jwt jac jng jnl jnm jnv jwm : Int32) (mW mG : Nat → Int32) (z : Int32) (hp : pr_X7_manyArcs N jth jrm jwy jhi jmf jmt jla jre jwr jga jlo jmo jli jta jpt jen jbg jfa jwt jac jng jnl jnm jnv jwm mW mG z) : wp_X7_manyArcs jth jrm jwy jhi jmf jmt jla jre jwr jga jlo jmo jli jta jpt jen jbg jfa jwt jac jng jnl jnm jnv jwm mW mG z (ps_X7_manyArcs N jth jrm jwy jhi jmf jmt jla jre jwr jga jlo jmo jli jta jpt jen jbg jfa jwt jac jng jnl jnm jnv jwm mW mG z) := by
  unfold wp_X7_manyArcs
  obtain ⟨hN, hr, hG, rfl, rfl⟩ := hp
  have h16 := hN.1.2.1
  have h60 := hN.1.2.2.2.2.1
  intro J hJ X hX
  refine up1 N.m (fun k x => x = nI (if z = 0 then cnt k (Bridge N) else cnt k (fun k => KindIs N k 2))) (fun k x hk hI hh => hX _ _ (fun r1 h1 => ?_)) (fun x hI => hX _ _ (fun r1 h1 => ?_)) 0 0 (Nat.zero_le _) (by by_cases q : z = 0 <;> simp only [q, if_true, if_false] <;> rfl)
  · rw [mnW hN h1, leN (by omega) (by omega)]
    refine ⟨fun z => absurd z (by omega), fun _ => ⟨fun q => ⟨N, k, ⟨hN, hr, rfl, rfl, rfl, hk⟩, fun r2 h2 => ⟨fun y => hh _ ?_, fun y => hh _ ?_⟩⟩, fun q => ⟨N, k, ⟨hN, hr, hG, rfl, hk⟩, fun r2 h2 => ⟨fun y => hh _ ?_, fun y => hh _ ?_⟩⟩⟩⟩
    · rw [hI, if_pos q, if_pos q, cnt_n (IsB.neg h2 y), nI_z]
    · rw [hI, if_pos q, if_pos q, cnt_s (IsB.pos h2 y), nI_1]
    · rw [hI, if_neg q, if_neg q, cnt_n (P := fun k => KindIs N k 2) (fun w => IsB.neg h2 y (kind2.1 w)), nI_z]
    · rw [hI, if_neg q, if_neg q, cnt_s (P := fun k => KindIs N k 2) (kind2.2 (IsB.pos h2 y)), nI_1]
  · rw [mnW hN h1]
    exact ⟨fun _ => hJ _ hI, fun z => absurd (Int32.le_refl _) z⟩
def pr_X7_isSound (N : NetM) (jth jrm jwy jhi jmf jmt jla jre jwr jga jlo jmo jli jta jpt jen jbg jfa jwt jac jng jnl jnm jnv jwm : Int32) (mW mG : Nat → Int32) : Prop := NetW N mW ∧ IsSet jre (Rd N.E N.root) ∧ (∀ x, x < 16 → IsSet (mG x) (fun z => Pd N.E N.root z x))
def ps_X7_isSound (N : NetM) (jth jrm jwy jhi jmf jmt jla jre jwr jga jlo jmo jli jta jpt jen jbg jfa jwt jac jng jnl jnm jnv jwm : Int32) (mW mG : Nat → Int32) (r : Int32)  : Prop := IsB r (Sound N.E N.root)
def wp_X7_isSound_L19 (jth jrm jwy jhi jmf jmt jla jre jwr jga jlo jmo jli jta jpt jen jbg jfa jwt jac jng jnl jnm jnv jwm : Int32) (mW mG : Nat → Int32) (x1_171 : Int32) (J76 : Int32 → Prop) (ix4_213 ix3_214 : Int32) : Prop :=
  ∀ X19 : Int32 → Int32 → Prop, (∀ (x4_213 : Int32) (x3_214 : Int32), (∀ (r_216 : Int32), ps_X7_arcs jth jrm jwy jhi jmf jmt jla jre jwr jga jlo jmo jli jta jpt jen jbg jfa jwt jac jng jnl jnm jnv jwm mW r_216 → (((r_216 ≤ x4_213 → (J76 x3_214)) ∧
 (¬ (r_216 ≤ x4_213) → (∃ (N_218 : NetM) (K_218 : Nat), (pr_X7_isOpen N_218 K_218 jth jrm jwy jhi jmf jmt jla jre jwr jga jlo jmo jli jta jpt jen jbg jfa jwt jac jng jnl jnm jnv jwm mW x4_213 ∧ (∀ (r_218 : Int32), ps_X7_isOpen N_218 K_218 jth jrm jwy jhi jmf jmt jla jre jwr jga jlo jmo jli jta jpt jen jbg jfa jwt jac jng jnl jnm jnv jwm mW x4_213 r_218 → (((r_218 = 0 → (X19 (x4_213 + 1) x3_214)) ∧
 (¬ (r_218 = 0) → (∃ (N_220 : NetM) (K_220 : Nat), (pr_X7_isBack N_220 K_220 jth jrm jwy jhi jmf jmt jla jre jwr jga jlo jmo jli jta jpt jen jbg jfa jwt jac jng jnl jnm jnv jwm mW mG x4_213 ∧ (∀ (r_220 : Int32), ps_X7_isBack N_220 K_220 jth jrm jwy jhi jmf jmt jla jre jwr jga jlo jmo jli jta jpt jen jbg jfa jwt jac jng jnl jnm jnv jwm mW mG x4_213 r_220 → (((¬ r_220 = 0 → (X19 (x4_213 + 1) x3_214)) ∧
 (r_220 = 0 → (∃ (N_222 : NetM) (K_222 : Nat), (pr_X7_fromOf N_222 K_222 jth jrm jwy jhi jmf jmt jla jre jwr jga jlo jmo jli jta jpt jen jbg jfa jwt jac jng jnl jnm jnv jwm mW x4_213 ∧ (∀ (r_222 : Int32), ps_X7_fromOf N_222 K_222 jth jrm jwy jhi jmf jmt jla jre jwr jga jlo jmo jli jta jpt jen jbg jfa jwt jac jng jnl jnm jnv jwm mW x4_213 r_222 → (∀ (r_223 : Int32), ps_X7_holds x1_171 r_222 r_223 → (((r_223 = 0 → (X19 (x4_213 + 1) x3_214)) ∧
 (¬ (r_223 = 0) → (∃ (N_225 : NetM) (K_225 : Nat), (pr_X7_toOf N_225 K_225 jth jrm jwy jhi jmf jmt jla jre jwr jga jlo jmo jli jta jpt jen jbg jfa jwt jac jng jnl jnm jnv jwm mW x4_213 ∧ (∀ (r_225 : Int32), ps_X7_toOf N_225 K_225 jth jrm jwy jhi jmf jmt jla jre jwr jga jlo jmo jli jta jpt jen jbg jfa jwt jac jng jnl jnm jnv jwm mW x4_213 r_225 → (X19 (x4_213 + 1) (x3_214 ||| (1 <<< (r_225 &&& 31)))))))))))))))))))))))))))))) → X19 x4_213 x3_214) → X19 ix4_213 ix3_214
def wp_X7_isSound_L7 (jth jrm jwy jhi jmf jmt jla jre jwr jga jlo jmo jli jta jpt jen jbg jfa jwt jac jng jnl jnm jnv jwm : Int32) (mW mG : Nat → Int32) (J83 : Int32 → Prop) (ix2_170 ix1_171 : Int32) : Prop :=
  ∀ X7 : Int32 → Int32 → Prop, (∀ (x2_170 : Int32) (x1_171 : Int32), (((x1_171 = x2_170 → (J83 x1_171)) ∧
 (¬ (x1_171 = x2_170) → (∀ J76 : Int32 → Prop, (∀ (x3_211 : Int32), (X7 x1_171 (x1_171 &&& x3_211)) → J76 x3_211) →
wp_X7_isSound_L19 jth jrm jwy jhi jmf jmt jla jre jwr jga jlo jmo jli jta jpt jen jbg jfa jwt jac jng jnl jnm jnv jwm mW mG x1_171 J76 0 0)))) → X7 x2_170 x1_171) → X7 ix2_170 ix1_171
def wp_X7_isSound (jth jrm jwy jhi jmf jmt jla jre jwr jga jlo jmo jli jta jpt jen jbg jfa jwt jac jng jnl jnm jnv jwm : Int32) (mW mG : Nat → Int32) (Q : Int32 → Prop) : Prop :=
  ∀ J83 : Int32 → Prop, (∀ (x1_167 : Int32), (((¬ x1_167 = 0 → (Q 0)) ∧
 (x1_167 = 0 → (Q 1)))) → J83 x1_167) →
wp_X7_isSound_L7 jth jrm jwy jhi jmf jmt jla jre jwr jga jlo jmo jli jta jpt jen jbg jfa jwt jac jng jnl jnm jnv jwm mW mG J83 0 jre
theorem pf_X7_isSound (N : NetM) (jth jrm jwy jhi jmf jmt jla jre jwr jga jlo jmo jli jta jpt jen jbg jfa jwt jac jng jnl jnm jnv jwm : Int32) (mW mG : Nat → Int32) (hp : pr_X7_isSound N jth jrm jwy jhi jmf jmt jla jre jwr jga jlo jmo jli jta jpt jen jbg jfa jwt jac jng jnl jnm jnv jwm mW mG) : wp_X7_isSound jth jrm jwy jhi jmf jmt jla jre jwr jga jlo jmo jli jta jpt jen jbg jfa jwt jac jng jnl jnm jnv jwm mW mG (ps_X7_isSound N jth jrm jwy jhi jmf jmt jla jre jwr jga jlo jmo jli jta jpt jen jbg jfa jwt jac jng jnl jnm jnv jwm mW mG) := by
  unfold wp_X7_isSound
  obtain ⟨hN, hr, hG⟩ := hp
  have h16 := hN.1.2.1
  have h60 := hN.1.2.2.2.2.1
  intro J hJ X hX
  have r16 : ∀ x, Rd N.E N.root x → x < 16 := fun x q => by have := NetM.Rd_lt hN.1 q; omega
  have key := dn1 (X := fun p : Int32 × Int32 => X p.1 p.2) (fun p => ∃ L : Nat → Prop, IsSet p.2 L ∧ (∀ x, L x → Rd N.E N.root x) ∧ (∀ S : Nat → Prop, (∀ x, S x → Rd N.E N.root x ∧ ∃ u, S u ∧ Fwd N u x) → ∀ x, S x → L x) ∧ (p.2 = p.1 → ∀ x, L x → ∃ u, L u ∧ Fwd N u x)) (fun p => 2 * pc p.2 + if p.2 = p.1 then 0 else 1) (fun p hp hh => ?_) (0, jre) ⟨_, hr, fun x q => q, fun S hS x hx => (hS x hx).1, fun e x hx => absurd hx (hr.eq0.1 e x (r16 x hx))⟩
  · exact key
  · obtain ⟨was, left⟩ := p
    obtain ⟨L, hL, hLr, hLs, hLe⟩ := hp
    refine hX _ _ ⟨fun e => hJ _ ⟨fun y => Or.inr ⟨rfl, fun w => ?_⟩, fun y => Or.inl ⟨rfl, fun M hM x hx => ?_⟩⟩, fun ne J76 hJ76 X19 hX19 => ?_⟩
    · have : ∃ x, L x := by
        apply Classical.byContradiction
        intro q
        exact y (hL.eq0.2 (fun k _ w => q ⟨k, w⟩))
      obtain ⟨M, m1, m2⟩ := turnC (Fwd N) 16 L (cnt_le _ _) (fun x q => r16 x (hLr x q)) (hLe e) this
      obtain ⟨x, hx⟩ := m2
      exact w M (fun x hx => by
        obtain ⟨a, b, c, d⟩ := m1 x hx
        exact ⟨hLr x a, b, d.1, c, d.2⟩) x hx
    · obtain ⟨S, s1, x', s2⟩ := turnC (fun a b => Fwd N b a) 16 M (cnt_le _ _) (fun x q => r16 x (hM x q).1) (fun x q => by
        obtain ⟨a, b, c, d, e⟩ := hM x q
        exact ⟨b, d, c, e⟩) ⟨x, hx⟩
      have := hLs S (fun z q => ⟨(hM z (s1 z q).1).1, (s1 z q).2⟩) x' s2
      exact hL.eq0.1 y x' (r16 _ (hLr _ this)) this
    · refine up1 N.m (fun k s => Acc (fun _ => False) k (fun j x => N.op j = true ∧ ¬ (N.op j = true ∧ Rd N.E N.root (N.fr j) ∧ Dm N.E N.root (N.to j) (N.fr j)) ∧ L (N.fr j) ∧ x = N.to j) s) (fun k s hk hI hh2 => hX19 _ _ (fun r1 h1 => ?_)) (fun s hI => hX19 _ _ (fun r1 h1 => ?_)) 0 0 (Nat.zero_le _) Acc.z
      · rw [mnW hN h1, leN (by omega) (by omega)]
        have harc := hN.1.2.2.2.2.2.1 k hk
        refine ⟨fun z => absurd z (by omega), fun _ => ⟨N, k, ⟨hN, rfl, hk⟩, fun r4 h4 => ⟨fun y => hh2 _ (hI.no (fun x _ w => no_i1 h4 y w.1)), fun y4 => ⟨N, k, ⟨hN, hr, hG, rfl, hk⟩, fun r5 h5 => ⟨fun y => hh2 _ (hI.no (fun x _ w => w.2.1 (IsB.pos h5 y))), fun y5 => ⟨N, k, ⟨hN, rfl, hk⟩, fun r6 h6 r7 h7 => ?_⟩⟩⟩⟩⟩⟩
        have h6 : r6 = nI (N.fr k) := h6
        subst h6
        refine ⟨fun y => hh2 _ (hI.no (fun x _ w => hold_z h7 hL (by omega) y w.2.2.1)), fun y7 => ⟨N, k, ⟨hN, rfl, hk⟩, fun r8 h8 => ?_⟩⟩
        have h8 : r8 = nI (N.to k) := h8
        subst h8
        exact hh2 _ (hI.hit (by omega) (fun x _ => ⟨fun w => w.2.2.2, fun w => ⟨of_i1 h4 y4, IsB.neg h5 y5, hold_p h7 hL (by omega) y7, w⟩⟩))
      · rw [mnW hN h1]
        refine ⟨fun _ => hJ76 _ ?_, fun z => absurd (Int32.le_refl _) z⟩
        have hn : IsSet (left &&& s) (fun x => L x ∧ ∃ u, L u ∧ Fwd N u x) := (hL.and hI.get).congr (fun x _ => ⟨fun ⟨w, j, a, b, c, d, e⟩ => ⟨w, N.fr j, d, (fwd_arc (hLr _ d)).2 ⟨j, a, b, c, rfl, e⟩⟩, fun ⟨w, u, u1, u2⟩ => by
          obtain ⟨j, a, b, c, d, e⟩ := (fwd_arc (hLr _ u1)).1 u2
          exact ⟨w, j, a, b, c, by rw [d]; exact u1, e⟩⟩)
        refine hh (_, _) ⟨_, hn, fun x q => hLr x q.1, fun S hS x hx => ⟨hLs S hS x hx, ?_⟩, fun e x q => ?_⟩ ?_
        · obtain ⟨u, u1, u2⟩ := (hS x hx).2
          exact ⟨u, hLs S hS u u1, u2⟩
        · obtain ⟨u, u1, u2⟩ := q.2
          have e : left &&& s = left := e
          have hu := (hL u (by have := r16 u (hLr u u1); omega)).2 ⟨r16 u (hLr u u1), u1⟩
          rw [← e] at hu
          exact ⟨u, ((hn u (by have := r16 u (hLr u u1); omega)).1 hu).2, u2⟩
        · show 2 * pc (left &&& s) + (if left &&& s = left then 0 else 1) < 2 * pc left + if left = was then 0 else 1
          rw [if_neg ne]
          by_cases e : left &&& s = left
          · rw [if_pos e, e]; omega
          · rw [if_neg e, pc_set hn, pc_set hL]
            have : cnt 16 (fun x => L x ∧ ∃ u, L u ∧ Fwd N u x) < cnt 16 L := by
              apply Classical.byContradiction
              intro hq
              apply e
              refine hn.uniq (hL.congr (fun x hx => ⟨fun q => ⟨q, ?_⟩, fun q => q.1⟩))
              apply Classical.byContradiction
              intro q2
              exact hq (cnt_lt hx (fun k _ w => w.1) (fun w => q2 w.2) q)
            omega
def pr_X7_depths (N : NetM) (jth jrm jwy jhi jmf jmt jla jre jwr jga jlo jmo jli jta jpt jen jbg jfa jwt jac jng jnl jnm jnv jwm : Int32) (mW mP : Nat → Int32) (z : Int32) : Prop := NetW N mW ∧ DepR N.E N.root N.n mP
def ps_X7_depths (N : NetM) (jth jrm jwy jhi jmf jmt jla jre jwr jga jlo jmo jli jta jpt jen jbg jfa jwt jac jng jnl jnm jnv jwm : Int32) (mW mP : Nat → Int32) (z : Int32) (r : Int32)  : Prop := r = nI (if z = 0 then mxP N.n (Rd N.E N.root) (dep N.E N.root N.n) else smP N.n (Rd N.E N.root) (dep N.E N.root N.n))
def wp_X7_depths_L4 (jth jrm jwy jhi jmf jmt jla jre jwr jga jlo jmo jli jta jpt jen jbg jfa jwt jac jng jnl jnm jnv jwm : Int32) (mW mP : Nat → Int32) (z : Int32) (J48 : Int32 → Prop) (ix3_23 ix2_24 : Int32) : Prop :=
  ∀ X4 : Int32 → Int32 → Prop, (∀ (x3_23 : Int32) (x2_24 : Int32), (∀ (r_26 : Int32), ps_X7_nodes jth jrm jwy jhi jmf jmt jla jre jwr jga jlo jmo jli jta jpt jen jbg jfa jwt jac jng jnl jnm jnv jwm mW r_26 → (((r_26 ≤ x3_23 → (J48 x2_24)) ∧
 (¬ (r_26 ≤ x3_23) → ((z = 0 → (vp_in x3_23 16 ∧ (X4 (x3_23 + 1) (if x2_24 < (mP x3_23.toNatClampNeg) then (mP x3_23.toNatClampNeg) else x2_24)))) ∧
 (¬ (z = 0) → (vp_in x3_23 16 ∧ (X4 (x3_23 + 1) (x2_24 + (if 0 < (mP x3_23.toNatClampNeg) then (mP x3_23.toNatClampNeg) else 0)))))))))) → X4 x3_23 x2_24) → X4 ix3_23 ix2_24
def wp_X7_depths (jth jrm jwy jhi jmf jmt jla jre jwr jga jlo jmo jli jta jpt jen jbg jfa jwt jac jng jnl jnm jnv jwm : Int32) (mW mP : Nat → Int32) (z : Int32) (Q : Int32 → Prop) : Prop :=
  ∀ J48 : Int32 → Prop, (∀ (x2_21 : Int32), (Q x2_21) → J48 x2_21) →
wp_X7_depths_L4 jth jrm jwy jhi jmf jmt jla jre jwr jga jlo jmo jli jta jpt jen jbg jfa jwt jac jng jnl jnm jnv jwm mW mP z J48 0 0
theorem pf_X7_depths (N : NetM) (jth jrm jwy jhi jmf jmt jla jre jwr jga jlo jmo jli jta jpt jen jbg jfa jwt jac jng jnl jnm jnv jwm : Int32) (mW mP : Nat → Int32) (z : Int32) (hp : pr_X7_depths N jth jrm jwy jhi jmf jmt jla jre jwr jga jlo jmo jli jta jpt jen jbg jfa jwt jac jng jnl jnm jnv jwm mW mP z) : wp_X7_depths jth jrm jwy jhi jmf jmt jla jre jwr jga jlo jmo jli jta jpt jen jbg jfa jwt jac jng jnl jnm jnv jwm mW mP z (ps_X7_depths N jth jrm jwy jhi jmf jmt jla jre jwr jga jlo jmo jli jta jpt jen jbg jfa jwt jac jng jnl jnm jnv jwm mW mP z) := by
  unfold wp_X7_depths
  obtain ⟨hN, hP⟩ := hp
  have h16 := hN.1.2.1
  have hlt : ∀ x, Rd N.E N.root x → x < N.n := fun x hx => NetM.Rd_lt hN.1 hx
  have d16 : ∀ x, x < N.n → @ite _ (Rd N.E N.root x) (Classical.propDecidable _) (dep N.E N.root N.n x) 0 ≤ 16 := fun x hx => by
    by_cases q : Rd N.E N.root x
    · rw [if_pos q]; have := dep_n hlt q; omega
    · rw [if_neg q]; omega
  have s16 : ∀ k, k ≤ N.n → mxP k (Rd N.E N.root) (dep N.E N.root N.n) ≤ 16 := by
    intro k
    induction k with
    | zero => exact fun _ => Nat.zero_le _
    | succ k ih => intro hk; exact Nat.max_le.2 ⟨ih (by omega), d16 k (by omega)⟩
  intro J hJ X hX
  refine up1 N.n (fun k x => x = nI (if z = 0 then mxP k (Rd N.E N.root) (dep N.E N.root N.n) else smP k (Rd N.E N.root) (dep N.E N.root N.n))) (fun k x hk hI hh => hX _ _ (fun r1 h1 => ?_)) (fun x hI => hX _ _ (fun r1 h1 => ?_)) 0 0 (Nat.zero_le _) (by by_cases q : z = 0 <;> simp only [q, if_true, if_false] <;> rfl)
  · rw [ndW hN h1, leN (by omega) (by omega), clN (by omega)]
    refine ⟨fun z => absurd z (by omega), fun _ => ⟨fun q => ⟨vp_in_nI (by omega) (by decide), hh _ ?_⟩, fun q => ⟨vp_in_nI (by omega) (by decide), hh _ ?_⟩⟩⟩
    · rw [hI, if_pos q, if_pos q]
      exact (hP.mx hlt h16 (by omega) (by have := s16 k (by omega); omega)).1
    · rw [hI, if_neg q, if_neg q, (hP.mx (v := 0) hlt h16 (by omega) (by omega)).2, nI_add]
      rfl
  · rw [ndW hN h1]
    exact ⟨fun _ => hJ _ hI, fun z => absurd (Int32.le_refl _) z⟩
def pr_X7_leaves (N : NetM) (jth jrm jwy jhi jmf jmt jla jre jwr jga jlo jmo jli jta jpt jen jbg jfa jwt jac jng jnl jnm jnv jwm : Int32) (mW mG : Nat → Int32) : Prop := NetW N mW ∧ IsSet jre (Rd N.E N.root) ∧ (∀ x, x < 16 → IsSet (mG x) (fun z => Pd N.E N.root z x))
def ps_X7_leaves (N : NetM) (jth jrm jwy jhi jmf jmt jla jre jwr jga jlo jmo jli jta jpt jen jbg jfa jwt jac jng jnl jnm jnv jwm : Int32) (mW mG : Nat → Int32) (r : Int32)  : Prop := IsSet r (fun v => Rd N.E N.root v ∧ ∀ x, ¬ Pd N.E N.root v x)
def wp_X7_leaves_L4 (jth jrm jwy jhi jmf jmt jla jre jwr jga jlo jmo jli jta jpt jen jbg jfa jwt jac jng jnl jnm jnv jwm : Int32) (mW mG : Nat → Int32) (J47 : Int32 → Prop) (ix2_28 ix1_29 : Int32) : Prop :=
  ∀ X4 : Int32 → Int32 → Prop, (∀ (x2_28 : Int32) (x1_29 : Int32), (∀ (r_31 : Int32), ps_X7_nodes jth jrm jwy jhi jmf jmt jla jre jwr jga jlo jmo jli jta jpt jen jbg jfa jwt jac jng jnl jnm jnv jwm mW r_31 → (((r_31 ≤ x2_28 → (J47 x1_29)) ∧
 (¬ (r_31 ≤ x2_28) → (∀ (r_33 : Int32), ps_X7_holds jre x2_28 r_33 → (((r_33 = 0 → (X4 (x2_28 + 1) (x1_29 ||| 0))) ∧
 (¬ (r_33 = 0) → (∃ (N_35 : NetM) (V_35 : Nat), (pr_X7_keptBy N_35 V_35 jth jrm jwy jhi jmf jmt jla jre jwr jga jlo jmo jli jta jpt jen jbg jfa jwt jac jng jnl jnm jnv jwm mW mG x2_28 ∧ (∀ (r_35 : Int32), ps_X7_keptBy N_35 V_35 jth jrm jwy jhi jmf jmt jla jre jwr jga jlo jmo jli jta jpt jen jbg jfa jwt jac jng jnl jnm jnv jwm mW mG x2_28 r_35 → (((¬ r_35 = 0 → (X4 (x2_28 + 1) (x1_29 ||| 0))) ∧
 (r_35 = 0 → (X4 (x2_28 + 1) (x1_29 ||| (1 <<< (x2_28 &&& 31)))))))))))))))))) → X4 x2_28 x1_29) → X4 ix2_28 ix1_29
def wp_X7_leaves (jth jrm jwy jhi jmf jmt jla jre jwr jga jlo jmo jli jta jpt jen jbg jfa jwt jac jng jnl jnm jnv jwm : Int32) (mW mG : Nat → Int32) (Q : Int32 → Prop) : Prop :=
  ∀ J47 : Int32 → Prop, (∀ (x1_26 : Int32), (Q x1_26) → J47 x1_26) →
wp_X7_leaves_L4 jth jrm jwy jhi jmf jmt jla jre jwr jga jlo jmo jli jta jpt jen jbg jfa jwt jac jng jnl jnm jnv jwm mW mG J47 0 0
theorem pf_X7_leaves (N : NetM) (jth jrm jwy jhi jmf jmt jla jre jwr jga jlo jmo jli jta jpt jen jbg jfa jwt jac jng jnl jnm jnv jwm : Int32) (mW mG : Nat → Int32) (hp : pr_X7_leaves N jth jrm jwy jhi jmf jmt jla jre jwr jga jlo jmo jli jta jpt jen jbg jfa jwt jac jng jnl jnm jnv jwm mW mG) : wp_X7_leaves jth jrm jwy jhi jmf jmt jla jre jwr jga jlo jmo jli jta jpt jen jbg jfa jwt jac jng jnl jnm jnv jwm mW mG (ps_X7_leaves N jth jrm jwy jhi jmf jmt jla jre jwr jga jlo jmo jli jta jpt jen jbg jfa jwt jac jng jnl jnm jnv jwm mW mG) := by
  unfold wp_X7_leaves
  obtain ⟨hN, hr, hG⟩ := hp
  have h16 := hN.1.2.1
  intro J hJ X hX
  refine up1 N.n (fun k s => Acc (fun _ => False) k (fun j x => x = j ∧ Rd N.E N.root j ∧ ∀ z, ¬ Pd N.E N.root j z) s) (fun k s hk hI hh => hX _ _ (fun r1 h1 => ?_)) (fun s hI => hX _ _ (fun r1 h1 => ?_)) 0 0 (Nat.zero_le _) Acc.z
  · rw [ndW hN h1, leN (by omega) (by omega)]
    refine ⟨fun z => absurd z (by omega), fun _ r2 h2 => ⟨fun y => hh _ (hI.no0 (fun x _ w => hold_z h2 hr (by omega) y w.2.1)), fun y => ⟨N, k, ⟨hN, hG, rfl, hk⟩, fun r3 h3 => ?_⟩⟩⟩
    have h3 : IsSet r3 (fun x => Pd N.E N.root k x) := h3
    rw [h3.eq0]
    exact ⟨fun q => hh _ (hI.no0 (fun x _ w => q (fun j _ => w.2.2 j))), fun q => hh _ (hI.hit (by omega) (fun x _ => ⟨fun w => w.1, fun w => ⟨w, hold_p h2 hr (by omega) y, fun j w2 => q j (by have := NetM.Rd_lt hN.1 w2.2.R; omega) w2⟩⟩))⟩
  · rw [ndW hN h1]
    exact ⟨fun _ => hJ _ (hI.get.congr (fun x _ => ⟨fun ⟨j, a, b, c⟩ => by subst b; exact c, fun w => ⟨x, NetM.Rd_lt hN.1 w.1, rfl, w⟩⟩)), fun z => absurd (Int32.le_refl _) z⟩
def pr_X7_mostNest (N : NetM) (jth jrm jwy jhi jmf jmt jla jre jwr jga jlo jmo jli jta jpt jen jbg jfa jwt jac jng jnl jnm jnv jwm : Int32) (mW mG : Nat → Int32) : Prop := NetW N mW ∧ IsSet jre (Rd N.E N.root) ∧ (∀ x, x < 16 → IsSet (mG x) (fun z => Pd N.E N.root z x))
def ps_X7_mostNest (N : NetM) (jth jrm jwy jhi jmf jmt jla jre jwr jga jlo jmo jli jta jpt jen jbg jfa jwt jac jng jnl jnm jnv jwm : Int32) (mW mG : Nat → Int32) (r : Int32)  : Prop := r = nI (mxP N.n (fun _ => True) (fun v => cnt 16 (fun h => h < N.n ∧ Body N.E N.root h v)))
def wp_X7_mostNest_L4 (jth jrm jwy jhi jmf jmt jla jre jwr jga jlo jmo jli jta jpt jen jbg jfa jwt jac jng jnl jnm jnv jwm : Int32) (mW mG : Nat → Int32) (J28 : Int32 → Prop) (ix2_19 ix1_20 : Int32) : Prop :=
  ∀ X4 : Int32 → Int32 → Prop, (∀ (x2_19 : Int32) (x1_20 : Int32), (∀ (r_22 : Int32), ps_X7_nodes jth jrm jwy jhi jmf jmt jla jre jwr jga jlo jmo jli jta jpt jen jbg jfa jwt jac jng jnl jnm jnv jwm mW r_22 → (((r_22 ≤ x2_19 → (J28 x1_20)) ∧
 (¬ (r_22 ≤ x2_19) → (∃ (N_24 : NetM) (V_24 : Nat), (pr_X7_nestOf N_24 V_24 jth jrm jwy jhi jmf jmt jla jre jwr jga jlo jmo jli jta jpt jen jbg jfa jwt jac jng jnl jnm jnv jwm mW mG x2_19 ∧ (∀ (r_24 : Int32), ps_X7_nestOf N_24 V_24 jth jrm jwy jhi jmf jmt jla jre jwr jga jlo jmo jli jta jpt jen jbg jfa jwt jac jng jnl jnm jnv jwm mW mG x2_19 r_24 → (X4 (x2_19 + 1) (if x1_20 < r_24 then r_24 else x1_20))))))))) → X4 x2_19 x1_20) → X4 ix2_19 ix1_20
def wp_X7_mostNest (jth jrm jwy jhi jmf jmt jla jre jwr jga jlo jmo jli jta jpt jen jbg jfa jwt jac jng jnl jnm jnv jwm : Int32) (mW mG : Nat → Int32) (Q : Int32 → Prop) : Prop :=
  ∀ J28 : Int32 → Prop, (∀ (x1_17 : Int32), (Q x1_17) → J28 x1_17) →
wp_X7_mostNest_L4 jth jrm jwy jhi jmf jmt jla jre jwr jga jlo jmo jli jta jpt jen jbg jfa jwt jac jng jnl jnm jnv jwm mW mG J28 0 0
theorem pf_X7_mostNest (N : NetM) (jth jrm jwy jhi jmf jmt jla jre jwr jga jlo jmo jli jta jpt jen jbg jfa jwt jac jng jnl jnm jnv jwm : Int32) (mW mG : Nat → Int32) (hp : pr_X7_mostNest N jth jrm jwy jhi jmf jmt jla jre jwr jga jlo jmo jli jta jpt jen jbg jfa jwt jac jng jnl jnm jnv jwm mW mG) : wp_X7_mostNest jth jrm jwy jhi jmf jmt jla jre jwr jga jlo jmo jli jta jpt jen jbg jfa jwt jac jng jnl jnm jnv jwm mW mG (ps_X7_mostNest N jth jrm jwy jhi jmf jmt jla jre jwr jga jlo jmo jli jta jpt jen jbg jfa jwt jac jng jnl jnm jnv jwm mW mG) := by
  unfold wp_X7_mostNest
  obtain ⟨hN, hr, hG⟩ := hp
  have h16 := hN.1.2.1
  intro J hJ X hX
  refine up1 N.n (fun k x => x = nI (mxP k (fun _ => True) (fun v => cnt 16 (fun h => h < N.n ∧ Body N.E N.root h v)))) (fun k x hk hI hh => hX _ _ (fun r1 h1 => ?_)) (fun x hI => hX _ _ (fun r1 h1 => ?_)) 0 0 (Nat.zero_le _) rfl
  · rw [ndW hN h1, leN (by omega) (by omega)]
    refine ⟨fun z => absurd z (by omega), fun _ => ⟨N, k, ⟨hN, hr, hG, rfl, hk⟩, fun r2 h2 => hh _ ?_⟩⟩
    have h2 : r2 = nI (cnt 16 (fun h => h < N.n ∧ Body N.E N.root h k)) := h2
    have a1 := mxP_le (P := fun _ => True) (f := fun v => cnt 16 (fun h => h < N.n ∧ Body N.E N.root h v)) (c := 16) k (fun j _ => cnt_le _ _)
    have a2 := cnt_le 16 (fun h => h < N.n ∧ Body N.E N.root h k)
    rw [hI, h2, nI_max (by omega) (by omega), mxP_s (P := fun _ => True) (f := fun v => cnt 16 (fun h => h < N.n ∧ Body N.E N.root h v)) trivial]
  · rw [ndW hN h1]
    exact ⟨fun _ => hJ _ hI, fun z => absurd (Int32.le_refl _) z⟩
def pr_X7_outGates (N : NetM) (V : Nat) (jth jrm jwy jhi jmf jmt jla jre jwr jga jlo jmo jli jta jpt jen jbg jfa jwt jac jng jnl jnm jnv jwm : Int32) (mW mG : Nat → Int32) (v : Int32) : Prop := NetW N mW ∧ IsSet jre (Rd N.E N.root) ∧ (∀ x, x < 16 → IsSet (mG x) (fun z => Pd N.E N.root z x)) ∧ v = nI V ∧ V < N.n
def ps_X7_outGates (N : NetM) (V : Nat) (jth jrm jwy jhi jmf jmt jla jre jwr jga jlo jmo jli jta jpt jen jbg jfa jwt jac jng jnl jnm jnv jwm : Int32) (mW mG : Nat → Int32) (v : Int32) (r : Int32)  : Prop := IsSet r (fun x => Pd N.E N.root V x ∧ OutG N V x)
def wp_X7_outGates (jth jrm jwy jhi jmf jmt jla jre jwr jga jlo jmo jli jta jpt jen jbg jfa jwt jac jng jnl jnm jnv jwm : Int32) (mW mG : Nat → Int32) (v : Int32) (Q : Int32 → Prop) : Prop :=
  ∃ (N_1 : NetM) (V_1 : Nat), (pr_X7_keptBy N_1 V_1 jth jrm jwy jhi jmf jmt jla jre jwr jga jlo jmo jli jta jpt jen jbg jfa jwt jac jng jnl jnm jnv jwm mW mG v ∧ (∀ (r_1 : Int32), ps_X7_keptBy N_1 V_1 jth jrm jwy jhi jmf jmt jla jre jwr jga jlo jmo jli jta jpt jen jbg jfa jwt jac jng jnl jnm jnv jwm mW mG v r_1 → (∃ (N_2 : NetM) (V_2 : Nat), (pr_X7_outGatesOf N_2 V_2 jth jrm jwy jhi jmf jmt jla jre jwr jga jlo jmo jli jta jpt jen jbg jfa jwt jac jng jnl jnm jnv jwm mW v ∧ (∀ (r_2 : Int32), ps_X7_outGatesOf N_2 V_2 jth jrm jwy jhi jmf jmt jla jre jwr jga jlo jmo jli jta jpt jen jbg jfa jwt jac jng jnl jnm jnv jwm mW v r_2 → (Q (r_1 &&& r_2)))))))
theorem pf_X7_outGates (N : NetM) (V : Nat) (jth jrm jwy jhi jmf jmt jla jre jwr jga jlo jmo jli jta jpt jen jbg jfa jwt jac jng jnl jnm jnv jwm : Int32) (mW mG : Nat → Int32) (v : Int32) (hp : pr_X7_outGates N V jth jrm jwy jhi jmf jmt jla jre jwr jga jlo jmo jli jta jpt jen jbg jfa jwt jac jng jnl jnm jnv jwm mW mG v) : wp_X7_outGates jth jrm jwy jhi jmf jmt jla jre jwr jga jlo jmo jli jta jpt jen jbg jfa jwt jac jng jnl jnm jnv jwm mW mG v (ps_X7_outGates N V jth jrm jwy jhi jmf jmt jla jre jwr jga jlo jmo jli jta jpt jen jbg jfa jwt jac jng jnl jnm jnv jwm mW mG v) := by
  unfold wp_X7_outGates
  obtain ⟨hN, hr, hG, rfl, hV⟩ := hp
  exact ⟨N, V, ⟨hN, hG, rfl, hV⟩, fun r1 h1 => ⟨N, V, ⟨hN, hr, rfl, hV⟩, fun r2 h2 => IsSet.and h1 h2⟩⟩
def pr_X7_spans (N : NetM) (jth jrm jwy jhi jmf jmt jla jre jwr jga jlo jmo jli jta jpt jen jbg jfa jwt jac jng jnl jnm jnv jwm : Int32) (mW mG : Nat → Int32) : Prop := NetW N mW ∧ IsSet jre (Rd N.E N.root) ∧ (∀ x, x < 16 → IsSet (mG x) (fun z => Pd N.E N.root z x))
def ps_X7_spans (N : NetM) (jth jrm jwy jhi jmf jmt jla jre jwr jga jlo jmo jli jta jpt jen jbg jfa jwt jac jng jnl jnm jnv jwm : Int32) (mW mG : Nat → Int32) (r : Int32)  : Prop := r = nI (smP N.n (Rd N.E N.root) (fun a => cnt 16 (fun x => Pd N.E N.root a x ∧ OutG N a x)))
def wp_X7_spans_L4 (jth jrm jwy jhi jmf jmt jla jre jwr jga jlo jmo jli jta jpt jen jbg jfa jwt jac jng jnl jnm jnv jwm : Int32) (mW mG : Nat → Int32) (J29 : Int32 → Prop) (ix2_22 ix1_23 : Int32) : Prop :=
  ∀ X4 : Int32 → Int32 → Prop, (∀ (x2_22 : Int32) (x1_23 : Int32), (∀ (r_25 : Int32), ps_X7_nodes jth jrm jwy jhi jmf jmt jla jre jwr jga jlo jmo jli jta jpt jen jbg jfa jwt jac jng jnl jnm jnv jwm mW r_25 → (((r_25 ≤ x2_22 → (J29 x1_23)) ∧
 (¬ (r_25 ≤ x2_22) → (∃ (N_27 : NetM) (V_27 : Nat), (pr_X7_outGates N_27 V_27 jth jrm jwy jhi jmf jmt jla jre jwr jga jlo jmo jli jta jpt jen jbg jfa jwt jac jng jnl jnm jnv jwm mW mG x2_22 ∧ (∀ (r_27 : Int32), ps_X7_outGates N_27 V_27 jth jrm jwy jhi jmf jmt jla jre jwr jga jlo jmo jli jta jpt jen jbg jfa jwt jac jng jnl jnm jnv jwm mW mG x2_22 r_27 → (∀ (r_28 : Int32), ps_X7_bits r_27 r_28 → (X4 (x2_22 + 1) (x1_23 + r_28)))))))))) → X4 x2_22 x1_23) → X4 ix2_22 ix1_23
def wp_X7_spans (jth jrm jwy jhi jmf jmt jla jre jwr jga jlo jmo jli jta jpt jen jbg jfa jwt jac jng jnl jnm jnv jwm : Int32) (mW mG : Nat → Int32) (Q : Int32 → Prop) : Prop :=
  ∀ J29 : Int32 → Prop, (∀ (x1_20 : Int32), (Q x1_20) → J29 x1_20) →
wp_X7_spans_L4 jth jrm jwy jhi jmf jmt jla jre jwr jga jlo jmo jli jta jpt jen jbg jfa jwt jac jng jnl jnm jnv jwm mW mG J29 0 0
theorem pf_X7_spans (N : NetM) (jth jrm jwy jhi jmf jmt jla jre jwr jga jlo jmo jli jta jpt jen jbg jfa jwt jac jng jnl jnm jnv jwm : Int32) (mW mG : Nat → Int32) (hp : pr_X7_spans N jth jrm jwy jhi jmf jmt jla jre jwr jga jlo jmo jli jta jpt jen jbg jfa jwt jac jng jnl jnm jnv jwm mW mG) : wp_X7_spans jth jrm jwy jhi jmf jmt jla jre jwr jga jlo jmo jli jta jpt jen jbg jfa jwt jac jng jnl jnm jnv jwm mW mG (ps_X7_spans N jth jrm jwy jhi jmf jmt jla jre jwr jga jlo jmo jli jta jpt jen jbg jfa jwt jac jng jnl jnm jnv jwm mW mG) := by
  unfold wp_X7_spans
  obtain ⟨hN, hr, hG⟩ := hp
  have h16 := hN.1.2.1
  intro J hJ X hX
  refine up1 N.n (fun k x => x = nI (smP k (Rd N.E N.root) (fun a => cnt 16 (fun x => Pd N.E N.root a x ∧ OutG N a x)))) (fun k x hk hI hh => hX _ _ (fun r1 h1 => ?_)) (fun x hI => hX _ _ (fun r1 h1 => ?_)) 0 0 (Nat.zero_le _) rfl
  · rw [ndW hN h1, leN (by omega) (by omega)]
    refine ⟨fun z => absurd z (by omega), fun _ => ⟨N, k, ⟨hN, hr, hG, rfl, hk⟩, fun r2 h2 r3 h3 => hh _ ?_⟩⟩
    have h3 : r3 = nI (pc r2) := h3
    rw [hI, h3, pc_set h2, nI_add]
    by_cases q : Rd N.E N.root k
    · rw [smP_s q]
    · rw [smP_n q, cnt_0 (fun j _ w => q w.2.1), Nat.add_zero]
  · rw [ndW hN h1]
    exact ⟨fun _ => hJ _ hI, fun z => absurd (Int32.le_refl _) z⟩
def pr_X7_rings (N : NetM) (jth jrm jwy jhi jmf jmt jla jre jwr jga jlo jmo jli jta jpt jen jbg jfa jwt jac jng jnl jnm jnv jwm : Int32) (mW : Nat → Int32) : Prop := NetW N mW ∧ IsSet jre (Rd N.E N.root) ∧ jmf = -1 ∧ jla = -1
def ps_X7_rings (N : NetM) (jth jrm jwy jhi jmf jmt jla jre jwr jga jlo jmo jli jta jpt jen jbg jfa jwt jac jng jnl jnm jnv jwm : Int32) (mW : Nat → Int32) (r : Int32)  : Prop := r = nI (cnt N.n (RingLow N.E N.root))
def wp_X7_rings_L4 (jth jrm jwy jhi jmf jmt jla jre jwr jga jlo jmo jli jta jpt jen jbg jfa jwt jac jng jnl jnm jnv jwm : Int32) (mW : Nat → Int32) (J51 : Int32 → Prop) (ix2_28 ix1_29 : Int32) : Prop :=
  ∀ X4 : Int32 → Int32 → Prop, (∀ (x2_28 : Int32) (x1_29 : Int32), (∀ (r_31 : Int32), ps_X7_nodes jth jrm jwy jhi jmf jmt jla jre jwr jga jlo jmo jli jta jpt jen jbg jfa jwt jac jng jnl jnm jnv jwm mW r_31 → (((r_31 ≤ x2_28 → (J51 x1_29)) ∧
 (¬ (r_31 ≤ x2_28) → (∀ (r_33 : Int32), ps_X7_holds jre x2_28 r_33 → (((r_33 = 0 → (X4 (x2_28 + 1) (x1_29 + 0))) ∧
 (¬ (r_33 = 0) → (∃ (N_35 : NetM) (V_35 : Nat), (pr_X7_ringOf N_35 V_35 jth jrm jwy jhi jmf jmt jla jre jwr jga jlo jmo jli jta jpt jen jbg jfa jwt jac jng jnl jnm jnv jwm mW x2_28 ∧ (∀ (r_35 : Int32), ps_X7_ringOf N_35 V_35 jth jrm jwy jhi jmf jmt jla jre jwr jga jlo jmo jli jta jpt jen jbg jfa jwt jac jng jnl jnm jnv jwm mW x2_28 r_35 → (((¬ (r_35 &&& ((1 <<< (x2_28 &&& 31)) - 1)) = 0 → (X4 (x2_28 + 1) (x1_29 + 0))) ∧
 ((r_35 &&& ((1 <<< (x2_28 &&& 31)) - 1)) = 0 → (X4 (x2_28 + 1) (x1_29 + 1)))))))))))))))) → X4 x2_28 x1_29) → X4 ix2_28 ix1_29
def wp_X7_rings (jth jrm jwy jhi jmf jmt jla jre jwr jga jlo jmo jli jta jpt jen jbg jfa jwt jac jng jnl jnm jnv jwm : Int32) (mW : Nat → Int32) (Q : Int32 → Prop) : Prop :=
  ∀ J51 : Int32 → Prop, (∀ (x1_26 : Int32), (Q x1_26) → J51 x1_26) →
wp_X7_rings_L4 jth jrm jwy jhi jmf jmt jla jre jwr jga jlo jmo jli jta jpt jen jbg jfa jwt jac jng jnl jnm jnv jwm mW J51 0 0
theorem pf_X7_rings (N : NetM) (jth jrm jwy jhi jmf jmt jla jre jwr jga jlo jmo jli jta jpt jen jbg jfa jwt jac jng jnl jnm jnv jwm : Int32) (mW : Nat → Int32) (hp : pr_X7_rings N jth jrm jwy jhi jmf jmt jla jre jwr jga jlo jmo jli jta jpt jen jbg jfa jwt jac jng jnl jnm jnv jwm mW) : wp_X7_rings jth jrm jwy jhi jmf jmt jla jre jwr jga jlo jmo jli jta jpt jen jbg jfa jwt jac jng jnl jnm jnv jwm mW (ps_X7_rings N jth jrm jwy jhi jmf jmt jla jre jwr jga jlo jmo jli jta jpt jen jbg jfa jwt jac jng jnl jnm jnv jwm mW) := by
  unfold wp_X7_rings
  obtain ⟨hN, hr, rfl, rfl⟩ := hp
  have h16 := hN.1.2.1
  intro J hJ X hX
  refine up1 N.n (fun k x => x = nI (cnt k (RingLow N.E N.root))) (fun k x hk hI hh => hX _ _ (fun r1 h1 => ?_)) (fun x hI => hX _ _ (fun r1 h1 => ?_)) 0 0 (Nat.zero_le _) rfl
  · rw [ndW hN h1, leN (by omega) (by omega)]
    refine ⟨fun z => absurd z (by omega), fun _ r2 h2 => ⟨fun y => hh _ ?_, fun y => ⟨N, k, ⟨hN, hr, rfl, rfl, rfl, hk⟩, fun r3 h3 => ?_⟩⟩⟩
    · rw [hI, cnt_n (fun w => hold_z h2 hr (by omega) y w.1), nI_z]
    · have hrd := hold_p h2 hr (by omega) y
      have hlow : IsSet (((1 : Int32) <<< (nI k &&& 31)) - 1) (fun j => j < k) := fun j hj => by
        rw [low_k k (by omega) j hj]
        exact ⟨fun q => ⟨by have := of_decide_eq_true q; omega, of_decide_eq_true q⟩, fun q => decide_eq_true q.2⟩
      rw [(IsSet.and h3 hlow).eq0]
      refine ⟨fun q => hh _ ?_, fun q => hh _ ?_⟩
      · rw [hI, cnt_n (fun w => q (fun j _ z => w.2 j z.2 z.1.2)), nI_z]
      · rw [hI, cnt_s ⟨hrd, fun j hj w => q j (by omega) ⟨⟨hrd, w⟩, hj⟩⟩, nI_1]
  · rw [ndW hN h1]
    exact ⟨fun _ => hJ _ hI, fun z => absurd (Int32.le_refl _) z⟩
def pr_X7_tolls (N : NetM) (jth jrm jwy jhi jmf jmt jla jre jwr jga jlo jmo jli jta jpt jen jbg jfa jwt jac jng jnl jnm jnv jwm : Int32) (mW : Nat → Int32) : Prop := NetW N mW ∧ IsSet jre (Rd N.E N.root)
def ps_X7_tolls (N : NetM) (jth jrm jwy jhi jmf jmt jla jre jwr jga jlo jmo jli jta jpt jen jbg jfa jwt jac jng jnl jnm jnv jwm : Int32) (mW : Nat → Int32) (r : Int32)  : Prop := r = nI (smP N.n (Rd N.E N.root) N.tl)
def wp_X7_tolls_L4 (jth jrm jwy jhi jmf jmt jla jre jwr jga jlo jmo jli jta jpt jen jbg jfa jwt jac jng jnl jnm jnv jwm : Int32) (mW : Nat → Int32) (J44 : Int32 → Prop) (ix2_25 ix1_26 : Int32) : Prop :=
  ∀ X4 : Int32 → Int32 → Prop, (∀ (x2_25 : Int32) (x1_26 : Int32), (∀ (r_28 : Int32), ps_X7_nodes jth jrm jwy jhi jmf jmt jla jre jwr jga jlo jmo jli jta jpt jen jbg jfa jwt jac jng jnl jnm jnv jwm mW r_28 → (((r_28 ≤ x2_25 → (J44 x1_26)) ∧
 (¬ (r_28 ≤ x2_25) → (∀ (r_30 : Int32), ps_X7_holds jre x2_25 r_30 → (((r_30 = 0 → (X4 (x2_25 + 1) (x1_26 + 0))) ∧
 (¬ (r_30 = 0) → (vp_in (4 + x2_25) 200 ∧ (X4 (x2_25 + 1) (x1_26 + (mW (4 + x2_25).toNatClampNeg)))))))))))) → X4 x2_25 x1_26) → X4 ix2_25 ix1_26
def wp_X7_tolls (jth jrm jwy jhi jmf jmt jla jre jwr jga jlo jmo jli jta jpt jen jbg jfa jwt jac jng jnl jnm jnv jwm : Int32) (mW : Nat → Int32) (Q : Int32 → Prop) : Prop :=
  ∀ J44 : Int32 → Prop, (∀ (x1_23 : Int32), (Q x1_23) → J44 x1_23) →
wp_X7_tolls_L4 jth jrm jwy jhi jmf jmt jla jre jwr jga jlo jmo jli jta jpt jen jbg jfa jwt jac jng jnl jnm jnv jwm mW J44 0 0
theorem pf_X7_tolls (N : NetM) (jth jrm jwy jhi jmf jmt jla jre jwr jga jlo jmo jli jta jpt jen jbg jfa jwt jac jng jnl jnm jnv jwm : Int32) (mW : Nat → Int32) (hp : pr_X7_tolls N jth jrm jwy jhi jmf jmt jla jre jwr jga jlo jmo jli jta jpt jen jbg jfa jwt jac jng jnl jnm jnv jwm mW) : wp_X7_tolls jth jrm jwy jhi jmf jmt jla jre jwr jga jlo jmo jli jta jpt jen jbg jfa jwt jac jng jnl jnm jnv jwm mW (ps_X7_tolls N jth jrm jwy jhi jmf jmt jla jre jwr jga jlo jmo jli jta jpt jen jbg jfa jwt jac jng jnl jnm jnv jwm mW) := by
  unfold wp_X7_tolls
  obtain ⟨hN, hr⟩ := hp
  have h16 := hN.1.2.1
  intro J hJ X hX
  refine up1 N.n (fun k x => x = nI (smP k (Rd N.E N.root) N.tl)) (fun k x hk hI hh => hX _ _ (fun r1 h1 => ?_)) (fun x hI => hX _ _ (fun r1 h1 => ?_)) 0 0 (Nat.zero_le _) rfl
  · rw [ndW hN h1, leN (by omega) (by omega), show (4 : Int32) + nI k = nI (4 + k) from nI_add 4 k, clN (by omega), hN.2.2.2.2.2.1 k (by omega)]
    refine ⟨fun z => absurd z (by omega), fun _ r2 h2 => ⟨fun y => hh _ ?_, fun y => ⟨vp_in_nI (by omega) (by decide), hh _ ?_⟩⟩⟩
    · rw [hI, smP_n (hold_z h2 hr (by omega) y), nI_z]
    · rw [hI, smP_s (hold_p h2 hr (by omega) y), nI_add]
  · rw [ndW hN h1]
    exact ⟨fun _ => hJ _ hI, fun z => absurd (Int32.le_refl _) z⟩
