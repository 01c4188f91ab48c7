/-! GateLifterModel: what its arrays hold (own work) -/
def NetW (N : NetM) (mW : Nat → Int32) : Prop := N.ok ∧ mW 0 = nI N.n ∧ mW 1 = nI N.root ∧ mW 2 = nI N.exit ∧ mW 3 = nI N.m ∧ (∀ a, a < 16 → mW (4 + a) = nI (N.tl a)) ∧ ∀ k, k < N.m → mW (20 + k) = nI (N.fr k) ∧ mW (80 + k) = nI (N.to k) ∧ mW (140 + k) = (if N.op k = true then 1 else 0)
/-- who goes to whom: one arc left out, another one, one more -/
def EGa (N : NetM) (mf mt la ar : Int32) (E : Nat → Nat → Prop) : Prop := (∀ a b, E a b ↔ (∃ k, k < N.m ∧ ¬ nI k = ar ∧ ¬ nI k = la ∧ N.op k = true ∧ N.fr k = a ∧ N.to k = b) ∨ (¬ mf = -1 ∧ a < N.n ∧ b < N.n ∧ mf = nI a ∧ mt = nI b)) ∧ (¬ mf = -1 → ∃ a b, a < N.n ∧ b < N.n ∧ mf = nI a ∧ mt = nI b)
def GatR (E : Nat → Nat → Prop) (r n : Nat) (re : Int32) (mG mP mK : Nat → Int32) : Prop := IsSet re (Rd E r) ∧ (∀ x, x < 16 → IsSet (mG x) (fun g => Pd E r g x)) ∧ (∀ x, x < 16 → (Rd E r x → mP x = nI (dep E r n x)) ∧ (¬ Rd E r x → mP x = -1)) ∧ ∀ x, x < 16 → (mK x = -1 ∧ ∀ g, ¬ Id E r g x) ∨ ∃ g, mK x = nI g ∧ g < 16 ∧ Id E r g x
theorem EGa.lt {N : NetM} (hN : N.ok) {mf mt la ar : Int32} {E : Nat → Nat → Prop} (h : EGa N mf mt la ar E) {a b : Nat} (e : E a b) : a < N.n ∧ b < N.n := by
  rcases (h.1 a b).1 e with ⟨k, hk, -, -, -, rfl, rfl⟩ | ⟨-, h1, h2, -⟩
  · exact hN.2.2.2.2.2.1 k hk
  · exact ⟨h1, h2⟩
theorem sh1 {s : Int32} {k : Nat} (hk : k < 32) : (s >>> (nI k &&& 31)) &&& 1 = if bt s k = true then 1 else 0 := by
  apply b_ext
  intro i hi
  rw [b_and, b_one i hi, b_sshr k hk s hi]
  by_cases h : bt s k = true
  · rw [if_pos h, b_one i hi]
    by_cases e : i = 0
    · subst e; simp [hk, h]
    · simp [e]
  · rw [if_neg h, b_0]
    by_cases e : i = 0
    · subst e; simp [hk]; simpa using h
    · simp [e]
theorem le_pred {k : Int32} {n : Nat} (hn : n < 2 ^ 30) : (0 ≤ k ∧ k ≤ nI n - 1) ↔ (0 ≤ k ∧ k < nI n) := by
  rw [n1, Int32.le_iff_toInt_le, Int32.le_iff_toInt_le, Int32.lt_iff_toInt_lt, pk_sub_toInt hn (by omega), nI_toInt (by omega)]
  constructor <;> rintro ⟨h1, h2⟩ <;> exact ⟨h1, by omega⟩
theorem hold_p {s r : Int32} {k : Nat} {P : Nat → Prop} (h : r = i1 (hs s (nI k))) (hS : IsSet s P) (hk : k < 16) (z : ¬ r = 0) : P k := by
  rw [h, i1_eq0] at z
  exact (hS.hs hk).1 (Classical.not_not.1 z)
theorem hold_z {s r : Int32} {k : Nat} {P : Nat → Prop} (h : r = i1 (hs s (nI k))) (hS : IsSet s P) (hk : k < 16) (z : r = 0) : ¬ P k := by
  rw [h, i1_eq0] at z
  exact fun q => z ((hS.hs hk).2 q)
theorem hold_b {s r : Int32} {k : Nat} (h : r = i1 (hs s (nI k))) (hk : k < 32) : r = 0 ↔ ¬ bt s k = true := by
  rw [h, i1_eq0, hs_bt hk]
/-- sets that grow along arcs -/
def RI (E : Nat → Nat → Prop) (A B : Nat → Prop) (s : Int32) : Prop := (∀ x, x < 32 → bt s x = true → x < 16 ∧ Rs E A B x) ∧ ∀ x, A x → ¬ B x → bt s x = true
def RC (E : Nat → Nat → Prop) (B : Nat → Prop) (s : Int32) : Prop := ∀ a b, bt s a = true → E a b → ¬ B b → bt s b = true
theorem RI.fin {E : Nat → Nat → Prop} {A B : Nat → Prop} {s : Int32} (h : RI E A B s) (hc : RC E B s) : IsSet s (Rs E A B) := fun k hk =>
  ⟨fun q => h.1 k hk q, fun q => Rs.ind (X := fun x => bt s x = true) (fun a ha hb => h.2 a ha hb) (fun a b _ i e w => hc a b i e w) q.2⟩
theorem RI.or {E : Nat → Nat → Prop} {A B : Nat → Prop} {s : Int32} (h : RI E A B s) {a b : Nat} (ha : bt s a = true) (ha16 : a < 32) (hb : b < 16) (e : E a b) (w : ¬ B b) : RI E A B (s ||| ((1 : Int32) <<< (nI b &&& 31))) := by
  refine ⟨fun x hx q => ?_, fun x q1 q2 => by rw [b_or, h.2 x q1 q2]; rfl⟩
  rw [b_or, Bool.or_eq_true] at q
  rcases q with q | q
  · exact h.1 x hx q
  · have := (bt_one hb x).1 q
    subst this
    exact ⟨hb, (h.1 a ha16 ha).2.step e w⟩
theorem bt_or_l {s t : Int32} {x : Nat} (h : bt s x = true) : bt (s ||| t) x = true := by rw [b_or, h]; rfl
theorem bt_or_r {s : Int32} {b : Nat} (hb : b < 16) : bt (s ||| ((1 : Int32) <<< (nI b &&& 31))) b = true := by rw [b_or, (bt_one hb b).2 rfl]; simp
theorem RI.start {E : Nat → Nat → Prop} {A B : Nat → Prop} {s w : Int32} (hA : IsSet s A) (hB : IsSet w B) (hAn : ∀ x, A x → x < 16) : RI E A B (s &&& (w ^^^ (-1))) := by
  have h := hA.andNot hB
  exact ⟨fun x hx q => ⟨((h x hx).1 q).1, Rs.base ((h x hx).1 q).2.1 ((h x hx).1 q).2.2⟩, fun x q1 q2 => (h x (by have := hAn x q1; omega)).2 ⟨hAn x q1, q1, q2⟩⟩
theorem Id_dep {E : Nat → Nat → Prop} {r n g x : Nat} (hn : ∀ x, Rd E r x → x < n) (h : Pd E r g x) : Id E r g x ↔ dep E r n g + 1 = dep E r n x := by
  constructor
  · exact fun q => (dep_id hn q).symm
  · intro q
    have hx : Rd E r x := h.2.1
    have hr : x ≠ r := fun e => by
      subst e
      exact h.1 (h.2.antisymm (Dm.root h.2.Rg))
    obtain ⟨i, hi⟩ := Id.ex hn hx hr
    have hd := dep_id hn hi
    have h1 := Dm.of_dep hn h.2 hi.1.2 (by omega)
    have h2 := Dm.of_dep hn hi.1.2 h.2 (by omega)
    rw [h1.antisymm h2]
    exact hi
theorem pc_dep {E : Nat → Nat → Prop} {r n x : Nat} {s : Int32} (hn : ∀ x, Rd E r x → x < n) (h16 : n ≤ 16) (hs : IsSet s (fun g => Pd E r g x)) : pc s = dep E r n x := by
  rw [pc_set hs]
  have : ∀ m, cnt (n + m) (fun g => Pd E r g x) = cnt n (fun g => Pd E r g x) := by
    intro m
    induction m with
    | zero => rfl
    | succ m ih =>
      rw [show n + (m + 1) = (n + m) + 1 by omega, cnt_n (fun q => by have := hn _ q.2.Rg; omega), ih]
  have := this (16 - n)
  rwa [show n + (16 - n) = 16 by omega] at this
/-! mod1: contracts, pure predicates (printed by gen.py) -/
def ps_X7_in (a b z : Int32) (r : Int32)  : Prop := r = i1 (b ≤ a ∧ a ≤ z)
def wp_X7_in (a b z : Int32) (Q : Int32 → Prop) : Prop :=
  ((a < b → (Q 0)) ∧
 (¬ (a < b) → ((z < a → (Q 0)) ∧
 (¬ (z < a) → (Q 1)))))
theorem pf_X7_in (a b z : Int32) : wp_X7_in a b z (ps_X7_in a b z) := by
  unfold wp_X7_in
  refine ⟨fun q => (i1_f (fun z => absurd q (Int32.not_lt.2 z.1))).symm, fun q => ⟨fun q2 => (i1_f (fun z => absurd q2 (Int32.not_lt.2 z.2))).symm, fun q2 => (i1_t ⟨Int32.not_lt.1 q, Int32.not_lt.1 q2⟩).symm⟩⟩
def ps_X7_holds (s k : Int32) (r : Int32)  : Prop := r = i1 (hs s k)
def wp_X7_holds (s k : Int32) (Q : Int32 → Prop) : Prop :=
  ((¬ ((s >>> (k &&& 31)) &&& 1) = 1 → (Q 0)) ∧
 (((s >>> (k &&& 31)) &&& 1) = 1 → (Q 1)))
theorem pf_X7_holds (s k : Int32) : wp_X7_holds s k (ps_X7_holds s k) := by
  unfold wp_X7_holds
  exact ⟨fun q => (i1_f q).symm, fun q => (i1_t q).symm⟩
def ps_X7_bits (s : Int32) (r : Int32)  : Prop := r = nI (pc s)
def wp_X7_bits_L4 (s : Int32) (J24 : Int32 → Prop) (ix2_12 ix1_13 : Int32) : Prop :=
  ∀ X4 : Int32 → Int32 → Prop, (∀ (x2_12 : Int32) (x1_13 : Int32), (((16 ≤ x2_12 → (J24 x1_13)) ∧
 (¬ (16 ≤ x2_12) → (X4 (x2_12 + 1) (x1_13 + ((s >>> (x2_12 &&& 31)) &&& 1)))))) → X4 x2_12 x1_13) → X4 ix2_12 ix1_13
def wp_X7_bits (s : Int32) (Q : Int32 → Prop) : Prop :=
  ∀ J24 : Int32 → Prop, (∀ (x1_10 : Int32), (Q x1_10) → J24 x1_10) →
wp_X7_bits_L4 s J24 0 0
theorem pf_X7_bits (s : Int32) : wp_X7_bits s (ps_X7_bits s) := by
  unfold wp_X7_bits
  intro J hJ X hX
  refine up1 16 (fun k x => x = nI (cnt k (fun j => bt s j = true))) (fun k x hk hI hh => hX _ _ ⟨fun q => absurd q (by rw [n16, leN (by omega) (by omega)]; omega), fun _ => hh _ ?_⟩) (fun x hI => hX _ _ ⟨fun _ => hJ _ hI, fun q => absurd (Int32.le_refl _) q⟩) 0 0 (Nat.zero_le _) rfl
  rw [hI, sh1 (by omega)]
  by_cases q : bt s k = true
  · rw [if_pos q, cnt_s q, nI_1]
  · rw [if_neg q, cnt_n q, nI_z]
def ps_X7_thrown (jth jrm jwy jhi jmf jmt jla jre jwr jga jlo jmo jli jta jpt jen jbg jfa jwt jac jng jnl jnm jnv jwm : Int32) (r : Int32)  : Prop := r = jth
def wp_X7_thrown (jth jrm jwy jhi jmf jmt jla jre jwr jga jlo jmo jli jta jpt jen jbg jfa jwt jac jng jnl jnm jnv jwm : Int32) (Q : Int32 → Prop) : Prop :=
  Q jth
theorem pf_X7_thrown (jth jrm jwy jhi jmf jmt jla jre jwr jga jlo jmo jli jta jpt jen jbg jfa jwt jac jng jnl jnm jnv jwm : Int32) : wp_X7_thrown jth jrm jwy jhi jmf jmt jla jre jwr jga jlo jmo jli jta jpt jen jbg jfa jwt jac jng jnl jnm jnv jwm (ps_X7_thrown jth jrm jwy jhi jmf jmt jla jre jwr jga jlo jmo jli jta jpt jen jbg jfa jwt jac jng jnl jnm jnv jwm) := by
  unfold wp_X7_thrown
  exact rfl
def pr_X7_throwsIf (jth jrm jwy jhi jmf jmt jla jre jwr jga jlo jmo jli jta jpt jen jbg jfa jwt jac jng jnl jnm jnv jwm z k : Int32) : Prop := z = 0 ∨ z = 1
def ps_X7_throwsIf (jth jrm jwy jhi jmf jmt jla jre jwr jga jlo jmo jli jta jpt jen jbg jfa jwt jac jng jnl jnm jnv jwm z k : Int32) (r : Int32) (jth' : Int32) : Prop := r = z ∧ ((z = 0 ∧ jth' = jth) ∨ (z = 1 ∧ jth' = k))
def wp_X7_throwsIf (jth jrm jwy jhi jmf jmt jla jre jwr jga jlo jmo jli jta jpt jen jbg jfa jwt jac jng jnl jnm jnv jwm z k : Int32) (Q : Int32 → Int32 → Prop) : Prop :=
  ((z = 0 → ((z = 0 ∨ z = 1) ∧ (Q z jth))) ∧
 (¬ (z = 0) → ((z = 0 ∨ z = 1) ∧ (Q z k))))
theorem pf_X7_throwsIf (jth jrm jwy jhi jmf jmt jla jre jwr jga jlo jmo jli jta jpt jen jbg jfa jwt jac jng jnl jnm jnv jwm z k : Int32) (hp : pr_X7_throwsIf jth jrm jwy jhi jmf jmt jla jre jwr jga jlo jmo jli jta jpt jen jbg jfa jwt jac jng jnl jnm jnv jwm z k) : wp_X7_throwsIf jth jrm jwy jhi jmf jmt jla jre jwr jga jlo jmo jli jta jpt jen jbg jfa jwt jac jng jnl jnm jnv jwm z k (ps_X7_throwsIf jth jrm jwy jhi jmf jmt jla jre jwr jga jlo jmo jli jta jpt jen jbg jfa jwt jac jng jnl jnm jnv jwm z k) := by
  unfold wp_X7_throwsIf
  exact ⟨fun q => ⟨hp, rfl, Or.inl ⟨q, rfl⟩⟩, fun q => ⟨hp, rfl, Or.inr ⟨hp.resolve_left q, rfl⟩⟩⟩
def ps_X7_nodes (jth jrm jwy jhi jmf jmt jla jre jwr jga jlo jmo jli jta jpt jen jbg jfa jwt jac jng jnl jnm jnv jwm : Int32) (mW : Nat → Int32) (r : Int32)  : Prop := r = mW 0
def wp_X7_nodes (jth jrm jwy jhi jmf jmt jla jre jwr jga jlo jmo jli jta jpt jen jbg jfa jwt jac jng jnl jnm jnv jwm : Int32) (mW : Nat → Int32) (Q : Int32 → Prop) : Prop :=
  Q (mW (0 : Int32).toNatClampNeg)
theorem pf_X7_nodes (jth jrm jwy jhi jmf jmt jla jre jwr jga jlo jmo jli jta jpt jen jbg jfa jwt jac jng jnl jnm jnv jwm : Int32) (mW : Nat → Int32) : wp_X7_nodes jth jrm jwy jhi jmf jmt jla jre jwr jga jlo jmo jli jta jpt jen jbg jfa jwt jac jng jnl jnm jnv jwm mW (ps_X7_nodes jth jrm jwy jhi jmf jmt jla jre jwr jga jlo jmo jli jta jpt jen jbg jfa jwt jac jng jnl jnm jnv jwm mW) := by
  unfold wp_X7_nodes
  exact congrArg mW (by decide)
def ps_X7_root (jth jrm jwy jhi jmf jmt jla jre jwr jga jlo jmo jli jta jpt jen jbg jfa jwt jac jng jnl jnm jnv jwm : Int32) (mW : Nat → Int32) (r : Int32)  : Prop := r = mW 1
def wp_X7_root (jth jrm jwy jhi jmf jmt jla jre jwr jga jlo jmo jli jta jpt jen jbg jfa jwt jac jng jnl jnm jnv jwm : Int32) (mW : Nat → Int32) (Q : Int32 → Prop) : Prop :=
  Q (mW (1 : Int32).toNatClampNeg)
theorem pf_X7_root (jth jrm jwy jhi jmf jmt jla jre jwr jga jlo jmo jli jta jpt jen jbg jfa jwt jac jng jnl jnm jnv jwm : Int32) (mW : Nat → Int32) : wp_X7_root jth jrm jwy jhi jmf jmt jla jre jwr jga jlo jmo jli jta jpt jen jbg jfa jwt jac jng jnl jnm jnv jwm mW (ps_X7_root jth jrm jwy jhi jmf jmt jla jre jwr jga jlo jmo jli jta jpt jen jbg jfa jwt jac jng jnl jnm jnv jwm mW) := by
  unfold wp_X7_root
  exact congrArg mW (by decide)
def ps_X7_arcs (jth jrm jwy jhi jmf jmt jla jre jwr jga jlo jmo jli jta jpt jen jbg jfa jwt jac jng jnl jnm jnv jwm : Int32) (mW : Nat → Int32) (r : Int32)  : Prop := r = mW 3
def wp_X7_arcs (jth jrm jwy jhi jmf jmt jla jre jwr jga jlo jmo jli jta jpt jen jbg jfa jwt jac jng jnl jnm jnv jwm : Int32) (mW : Nat → Int32) (Q : Int32 → Prop) : Prop :=
  Q (mW (3 : Int32).toNatClampNeg)
theorem pf_X7_arcs (jth jrm jwy jhi jmf jmt jla jre jwr jga jlo jmo jli jta jpt jen jbg jfa jwt jac jng jnl jnm jnv jwm : Int32) (mW : Nat → Int32) : wp_X7_arcs jth jrm jwy jhi jmf jmt jla jre jwr jga jlo jmo jli jta jpt jen jbg jfa jwt jac jng jnl jnm jnv jwm mW (ps_X7_arcs jth jrm jwy jhi jmf jmt jla jre jwr jga jlo jmo jli jta jpt jen jbg jfa jwt jac jng jnl jnm jnv jwm mW) := by
  unfold wp_X7_arcs
  exact congrArg mW (by decide)
def pr_X7_fromOf (N : NetM) (K : Nat) (jth jrm jwy jhi jmf jmt jla jre jwr jga jlo jmo jli jta jpt jen jbg jfa jwt jac jng jnl jnm jnv jwm : Int32) (mW : Nat → Int32) (k : Int32) : Prop := NetW N mW ∧ k = nI K ∧ K < N.m
def ps_X7_fromOf (N : NetM) (K : Nat) (jth jrm jwy jhi jmf jmt jla jre jwr jga jlo jmo jli jta jpt jen jbg jfa jwt jac jng jnl jnm jnv jwm : Int32) (mW : Nat → Int32) (k : Int32) (r : Int32)  : Prop := r = nI (N.fr K)
def wp_X7_fromOf (jth jrm jwy jhi jmf jmt jla jre jwr jga jlo jmo jli jta jpt jen jbg jfa jwt jac jng jnl jnm jnv jwm : Int32) (mW : Nat → Int32) (k : Int32) (Q : Int32 → Prop) : Prop :=
  vp_in (20 + k) 200 ∧ (Q (mW (20 + k).toNatClampNeg))
theorem pf_X7_fromOf (N : NetM) (K : Nat) (jth jrm jwy jhi jmf jmt jla jre jwr jga jlo jmo jli jta jpt jen jbg jfa jwt jac jng jnl jnm jnv jwm : Int32) (mW : Nat → Int32) (k : Int32) (hp : pr_X7_fromOf N K jth jrm jwy jhi jmf jmt jla jre jwr jga jlo jmo jli jta jpt jen jbg jfa jwt jac jng jnl jnm jnv jwm mW k) : wp_X7_fromOf jth jrm jwy jhi jmf jmt jla jre jwr jga jlo jmo jli jta jpt jen jbg jfa jwt jac jng jnl jnm jnv jwm mW k (ps_X7_fromOf N K jth jrm jwy jhi jmf jmt jla jre jwr jga jlo jmo jli jta jpt jen jbg jfa jwt jac jng jnl jnm jnv jwm mW k) := by
  unfold wp_X7_fromOf
  obtain ⟨hN, rfl, hK⟩ := hp
  have h60 := hN.1.2.2.2.2.1
  rw [show (20 : Int32) + nI K = nI (20 + K) from nI_add 20 K]
  exact ⟨vp_in_nI (by omega) (by decide), by rw [clN (by omega)]; exact (hN.2.2.2.2.2.2 K hK).1⟩
def pr_X7_toOf (N : NetM) (K : Nat) (jth jrm jwy jhi jmf jmt jla jre jwr jga jlo jmo jli jta jpt jen jbg jfa jwt jac jng jnl jnm jnv jwm : Int32) (mW : Nat → Int32) (k : Int32) : Prop := NetW N mW ∧ k = nI K ∧ K < N.m
def ps_X7_toOf (N : NetM) (K : Nat) (jth jrm jwy jhi jmf jmt jla jre jwr jga jlo jmo jli jta jpt jen jbg jfa jwt jac jng jnl jnm jnv jwm : Int32) (mW : Nat → Int32) (k : Int32) (r : Int32)  : Prop := r = nI (N.to K)
def wp_X7_toOf (jth jrm jwy jhi jmf jmt jla jre jwr jga jlo jmo jli jta jpt jen jbg jfa jwt jac jng jnl jnm jnv jwm : Int32) (mW : Nat → Int32) (k : Int32) (Q : Int32 → Prop) : Prop :=
  vp_in (80 + k) 200 ∧ (Q (mW (80 + k).toNatClampNeg))
theorem pf_X7_toOf (N : NetM) (K : Nat) (jth jrm jwy jhi jmf jmt jla jre jwr jga jlo jmo jli jta jpt jen jbg jfa jwt jac jng jnl jnm jnv jwm : Int32) (mW : Nat → Int32) (k : Int32) (hp : pr_X7_toOf N K jth jrm jwy jhi jmf jmt jla jre jwr jga jlo jmo jli jta jpt jen jbg jfa jwt jac jng jnl jnm jnv jwm mW k) : wp_X7_toOf jth jrm jwy jhi jmf jmt jla jre jwr jga jlo jmo jli jta jpt jen jbg jfa jwt jac jng jnl jnm jnv jwm mW k (ps_X7_toOf N K jth jrm jwy jhi jmf jmt jla jre jwr jga jlo jmo jli jta jpt jen jbg jfa jwt jac jng jnl jnm jnv jwm mW k) := by
  unfold wp_X7_toOf
  obtain ⟨hN, rfl, hK⟩ := hp
  have h60 := hN.1.2.2.2.2.1
  rw [show (80 : Int32) + nI K = nI (80 + K) from nI_add 80 K]
  exact ⟨vp_in_nI (by omega) (by decide), by rw [clN (by omega)]; exact (hN.2.2.2.2.2.2 K hK).2.1⟩
def pr_X7_isOpen (N : NetM) (K : Nat) (jth jrm jwy jhi jmf jmt jla jre jwr jga jlo jmo jli jta jpt jen jbg jfa jwt jac jng jnl jnm jnv jwm : Int32) (mW : Nat → Int32) (k : Int32) : Prop := NetW N mW ∧ k = nI K ∧ K < N.m
def ps_X7_isOpen (N : NetM) (K : Nat) (jth jrm jwy jhi jmf jmt jla jre jwr jga jlo jmo jli jta jpt jen jbg jfa jwt jac jng jnl jnm jnv jwm : Int32) (mW : Nat → Int32) (k : Int32) (r : Int32)  : Prop := r = i1 (N.op K = true)
def wp_X7_isOpen (jth jrm jwy jhi jmf jmt jla jre jwr jga jlo jmo jli jta jpt jen jbg jfa jwt jac jng jnl jnm jnv jwm : Int32) (mW : Nat → Int32) (k : Int32) (Q : Int32 → Prop) : Prop :=
  vp_in (140 + k) 200 ∧ (((¬ (mW (140 + k).toNatClampNeg) = 1 → (Q 0)) ∧
 ((mW (140 + k).toNatClampNeg) = 1 → (Q 1))))
theorem pf_X7_isOpen (N : NetM) (K : Nat) (jth jrm jwy jhi jmf jmt jla jre jwr jga jlo jmo jli jta jpt jen jbg jfa jwt jac jng jnl jnm jnv jwm : Int32) (mW : Nat → Int32) (k : Int32) (hp : pr_X7_isOpen N K jth jrm jwy jhi jmf jmt jla jre jwr jga jlo jmo jli jta jpt jen jbg jfa jwt jac jng jnl jnm jnv jwm mW k) : wp_X7_isOpen jth jrm jwy jhi jmf jmt jla jre jwr jga jlo jmo jli jta jpt jen jbg jfa jwt jac jng jnl jnm jnv jwm mW k (ps_X7_isOpen N K jth jrm jwy jhi jmf jmt jla jre jwr jga jlo jmo jli jta jpt jen jbg jfa jwt jac jng jnl jnm jnv jwm mW k) := by
  unfold wp_X7_isOpen
  obtain ⟨hN, rfl, hK⟩ := hp
  have h60 := hN.1.2.2.2.2.1
  rw [show (140 : Int32) + nI K = nI (140 + K) from nI_add 140 K]
  refine ⟨vp_in_nI (by omega) (by decide), ?_⟩
  rw [clN (by omega), (hN.2.2.2.2.2.2 K hK).2.2]
  by_cases q : N.op K = true
  · rw [if_pos q]
    exact ⟨fun z => absurd rfl z, fun _ => (i1_t q).symm⟩
  · rw [if_neg q]
    exact ⟨fun _ => (i1_f q).symm, fun z => absurd z (by decide)⟩
def pr_X7_isNode (N : NetM) (jth jrm jwy jhi jmf jmt jla jre jwr jga jlo jmo jli jta jpt jen jbg jfa jwt jac jng jnl jnm jnv jwm : Int32) (mW : Nat → Int32) (k : Int32) : Prop := NetW N mW
def ps_X7_isNode (N : NetM) (jth jrm jwy jhi jmf jmt jla jre jwr jga jlo jmo jli jta jpt jen jbg jfa jwt jac jng jnl jnm jnv jwm : Int32) (mW : Nat → Int32) (k : Int32) (r : Int32)  : Prop := r = i1 (0 ≤ k ∧ k < nI N.n)
def wp_X7_isNode (jth jrm jwy jhi jmf jmt jla jre jwr jga jlo jmo jli jta jpt jen jbg jfa jwt jac jng jnl jnm jnv jwm : Int32) (mW : Nat → Int32) (k : Int32) (Q : Int32 → Prop) : Prop :=
  ∀ (r_1 : Int32), ps_X7_nodes jth jrm jwy jhi jmf jmt jla jre jwr jga jlo jmo jli jta jpt jen jbg jfa jwt jac jng jnl jnm jnv jwm mW r_1 → (∀ (r_2 : Int32), ps_X7_in k 0 (r_1 - 1) r_2 → ((r_2 = 0 ∨ r_2 = 1) ∧ (Q r_2)))
theorem pf_X7_isNode (N : NetM) (jth jrm jwy jhi jmf jmt jla jre jwr jga jlo jmo jli jta jpt jen jbg jfa jwt jac jng jnl jnm jnv jwm : Int32) (mW : Nat → Int32) (k : Int32) (hp : pr_X7_isNode N jth jrm jwy jhi jmf jmt jla jre jwr jga jlo jmo jli jta jpt jen jbg jfa jwt jac jng jnl jnm jnv jwm mW k) : wp_X7_isNode jth jrm jwy jhi jmf jmt jla jre jwr jga jlo jmo jli jta jpt jen jbg jfa jwt jac jng jnl jnm jnv jwm mW k (ps_X7_isNode N jth jrm jwy jhi jmf jmt jla jre jwr jga jlo jmo jli jta jpt jen jbg jfa jwt jac jng jnl jnm jnv jwm mW k) := by
  unfold wp_X7_isNode
  have h16 := hp.1.2.1
  refine fun r1 h1 r2 h2 => ?_
  have h1 : r1 = mW 0 := h1
  have h2 : r2 = i1 (0 ≤ k ∧ k ≤ r1 - 1) := h2
  rw [h1, hp.2.1, i1_c (le_pred (by omega))] at h2
  exact ⟨h2 ▸ i1_or, h2⟩
def pr_X7_isArc (N : NetM) (jth jrm jwy jhi jmf jmt jla jre jwr jga jlo jmo jli jta jpt jen jbg jfa jwt jac jng jnl jnm jnv jwm : Int32) (mW : Nat → Int32) (k : Int32) : Prop := NetW N mW
def ps_X7_isArc (N : NetM) (jth jrm jwy jhi jmf jmt jla jre jwr jga jlo jmo jli jta jpt jen jbg jfa jwt jac jng jnl jnm jnv jwm : Int32) (mW : Nat → Int32) (k : Int32) (r : Int32)  : Prop := r = i1 (0 ≤ k ∧ k < nI N.m)
def wp_X7_isArc (jth jrm jwy jhi jmf jmt jla jre jwr jga jlo jmo jli jta jpt jen jbg jfa jwt jac jng jnl jnm jnv jwm : Int32) (mW : Nat → Int32) (k : Int32) (Q : Int32 → Prop) : Prop :=
  ∀ (r_1 : Int32), ps_X7_arcs jth jrm jwy jhi jmf jmt jla jre jwr jga jlo jmo jli jta jpt jen jbg jfa jwt jac jng jnl jnm jnv jwm mW r_1 → (∀ (r_2 : Int32), ps_X7_in k 0 (r_1 - 1) r_2 → ((r_2 = 0 ∨ r_2 = 1) ∧ (Q r_2)))
theorem pf_X7_isArc (N : NetM) (jth jrm jwy jhi jmf jmt jla jre jwr jga jlo jmo jli jta jpt jen jbg jfa jwt jac jng jnl jnm jnv jwm : Int32) (mW : Nat → Int32) (k : Int32) (hp : pr_X7_isArc N jth jrm jwy jhi jmf jmt jla jre jwr jga jlo jmo jli jta jpt jen jbg jfa jwt jac jng jnl jnm jnv jwm mW k) : wp_X7_isArc jth jrm jwy jhi jmf jmt jla jre jwr jga jlo jmo jli jta jpt jen jbg jfa jwt jac jng jnl jnm jnv jwm mW k (ps_X7_isArc N jth jrm jwy jhi jmf jmt jla jre jwr jga jlo jmo jli jta jpt jen jbg jfa jwt jac jng jnl jnm jnv jwm mW k) := by
  unfold wp_X7_isArc
  have h60 := hp.1.2.2.2.2.1
  refine fun r1 h1 r2 h2 => ?_
  have h1 : r1 = mW 3 := h1
  have h2 : r2 = i1 (0 ≤ k ∧ k ≤ r1 - 1) := h2
  rw [h1, hp.2.2.2.2.1, i1_c (le_pred (by omega))] at h2
  exact ⟨h2 ▸ i1_or, h2⟩
def pr_X7_copies (A B : Nat) (n1 n2 : Nat) (g1 g2 : Nat → Int32) (a b : Int32) : Prop := a = nI A ∧ b = nI B ∧ A + 200 ≤ n1 ∧ B + 200 ≤ n2 ∧ n1 < 10000 ∧ n2 < 10000
def ps_X7_copies (A B : Nat) (n1 n2 : Nat) (g1 g2 : Nat → Int32) (a b : Int32) (g2' : Nat → Int32) : Prop := ∀ j, (B ≤ j → j < B + 200 → g2' j = g1 (A + (j - B))) ∧ ((j < B ∨ B + 200 ≤ j) → g2' j = g2 j)
def wp_X7_copies_L3 (n1 n2 : Nat) (g1 : Nat → Int32) (a b : Int32) (J29 : (Nat → Int32) → Prop) (ix4_21 : Int32) (ia_22 : Nat → Int32) : Prop :=
  ∀ X3 : Int32 → (Nat → Int32) → Prop, (∀ (x4_21 : Int32) (a_22 : Nat → Int32), (((200 ≤ x4_21 → (J29 a_22)) ∧
 (¬ (200 ≤ x4_21) → (vp_in (a + x4_21) n1 ∧ (vp_in (b + x4_21) n2 ∧ (∀ u_27 : Nat → Int32, u_27 = upd a_22 (b + x4_21).toNatClampNeg (g1 (a + x4_21).toNatClampNeg) → (X3 (x4_21 + 1) u_27))))))) → X3 x4_21 a_22) → X3 ix4_21 ia_22
def wp_X7_copies (n1 n2 : Nat) (g1 g2 : Nat → Int32) (a b : Int32) (Q : (Nat → Int32) → Prop) : Prop :=
  ∀ J29 : (Nat → Int32) → Prop, (∀ (a_19 : Nat → Int32), (Q a_19) → J29 a_19) →
wp_X7_copies_L3 n1 n2 g1 a b J29 0 g2
theorem pf_X7_copies (A B : Nat) (n1 n2 : Nat) (g1 g2 : Nat → Int32) (a b : Int32) (hp : pr_X7_copies A B n1 n2 g1 g2 a b) : wp_X7_copies n1 n2 g1 g2 a b (ps_X7_copies A B n1 n2 g1 g2 a b) := by
  unfold wp_X7_copies
  obtain ⟨rfl, rfl, h1, h2, h3, h4⟩ := hp
  intro J hJ X hX
  refine up1 200 (fun k (g : Nat → Int32) => ∀ j, (B ≤ j → j < B + k → g j = g1 (A + (j - B))) ∧ ((j < B ∨ B + k ≤ j) → g j = g2 j)) (fun k g hk hI hh => hX _ _ ⟨fun q => absurd q (by rw [show (200 : Int32) = nI 200 from rfl, leN (by omega) (by omega)]; omega), fun _ => ?_⟩) (fun g hI => hX _ _ ⟨fun _ => hJ _ hI, fun q => absurd (Int32.le_refl _) q⟩) 0 g2 (Nat.zero_le _) (fun j => ⟨fun q1 q2 => by omega, fun _ => rfl⟩)
  rw [nI_add, nI_add, clN (by omega), clN (by omega)]
  refine ⟨vp_in_nI (by omega) (by omega), vp_in_nI (by omega) (by omega), fun u hu => hh _ (fun j => ⟨fun q1 q2 => ?_, fun q => ?_⟩)⟩
  · rw [hu]
    by_cases e : j = B + k
    · subst e; rw [upd_s, show B + k - B = k by omega]
    · rw [upd_n e]; exact (hI j).1 q1 (by omega)
  · rw [hu, upd_n (by omega)]; exact (hI j).2 (by omega)
def pr_X7_copies_s (A B : Nat) (n1 : Nat) (g1 : Nat → Int32) (a b : Int32) : Prop := a = nI A ∧ b = nI B ∧ A + 200 ≤ n1 ∧ B + 200 ≤ A ∧ n1 < 10000
def ps_X7_copies_s (A B : Nat) (n1 : Nat) (g1 : Nat → Int32) (a b : Int32) (g1' : Nat → Int32) : Prop := ∀ j, (B ≤ j → j < B + 200 → g1' j = g1 (A + (j - B))) ∧ ((j < B ∨ B + 200 ≤ j) → g1' j = g1 j)
def wp_X7_copies_s_L3 (n1 : Nat) (a b : Int32) (J29 : (Nat → Int32) → Prop) (ix4_21 : Int32) (ia_22 : Nat → Int32) : Prop :=
  ∀ X3 : Int32 → (Nat → Int32) → Prop, (∀ (x4_21 : Int32) (a_22 : Nat → Int32), (((200 ≤ x4_21 → (J29 a_22)) ∧
 (¬ (200 ≤ x4_21) → (vp_in (a + x4_21) n1 ∧ (vp_in (b + x4_21) n1 ∧ (∀ u_27 : Nat → Int32, u_27 = upd a_22 (b + x4_21).toNatClampNeg (a_22 (a + x4_21).toNatClampNeg) → (X3 (x4_21 + 1) u_27))))))) → X3 x4_21 a_22) → X3 ix4_21 ia_22
def wp_X7_copies_s (n1 : Nat) (g1 : Nat → Int32) (a b : Int32) (Q : (Nat → Int32) → Prop) : Prop :=
  ∀ J29 : (Nat → Int32) → Prop, (∀ (a_19 : Nat → Int32), (Q a_19) → J29 a_19) →
wp_X7_copies_s_L3 n1 a b J29 0 g1
theorem pf_X7_copies_s (A B : Nat) (n1 : Nat) (g1 : Nat → Int32) (a b : Int32) (hp : pr_X7_copies_s A B n1 g1 a b) : wp_X7_copies_s n1 g1 a b (ps_X7_copies_s A B n1 g1 a b) := by
  unfold wp_X7_copies_s
  obtain ⟨rfl, rfl, h1, h2, h3⟩ := hp
  intro J hJ X hX
  refine up1 200 (fun k (g : Nat → Int32) => ∀ j, (B ≤ j → j < B + k → g j = g1 (A + (j - B))) ∧ ((j < B ∨ B + k ≤ j) → g j = g1 j)) (fun k g hk hI hh => hX _ _ ⟨fun q => absurd q (by rw [show (200 : Int32) = nI 200 from rfl, leN (by omega) (by omega)]; omega), fun _ => ?_⟩) (fun g hI => hX _ _ ⟨fun _ => hJ _ hI, fun q => absurd (Int32.le_refl _) q⟩) 0 g1 (Nat.zero_le _) (fun j => ⟨fun q1 q2 => by omega, fun _ => rfl⟩)
  rw [nI_add, nI_add, clN (by omega), clN (by omega)]
  refine ⟨vp_in_nI (by omega) (by omega), vp_in_nI (by omega) (by omega), fun u hu => hh _ (fun j => ⟨fun q1 q2 => ?_, fun q => ?_⟩)⟩
  · rw [hu]
    by_cases e : j = B + k
    · subst e; rw [upd_s, show B + k - B = k by omega]; exact (hI _).2 (by omega)
    · rw [upd_n e]; exact (hI j).1 q1 (by omega)
  · rw [hu, upd_n (by omega)]; exact (hI j).2 (by omega)
def pr_X7_isFresh (K : Nat) (jth jrm jwy jhi jmf jmt jla jre jwr jga jlo jmo jli jta jpt jen jbg jfa jwt jac jng jnl jnm jnv jwm : Int32) (mW : Nat → Int32) (k : Int32) : Prop := k = nI K ∧ 2 ≤ K ∧ K ≤ 16
def ps_X7_isFresh (K : Nat) (jth jrm jwy jhi jmf jmt jla jre jwr jga jlo jmo jli jta jpt jen jbg jfa jwt jac jng jnl jnm jnv jwm : Int32) (mW : Nat → Int32) (k : Int32) (mW' : Nat → Int32) : Prop := NetW (freshN K) mW'
def wp_X7_isFresh_L2 (J37 : (Nat → Int32) → Prop) (ix2_31 : Int32) (ia_32 : Nat → Int32) : Prop :=
  ∀ X2 : Int32 → (Nat → Int32) → Prop, (∀ (x2_31 : Int32) (a_32 : Nat → Int32), (((200 ≤ x2_31 → (J37 a_32)) ∧
 (¬ (200 ≤ x2_31) → ((x2_31 < 4 → (vp_in x2_31 200 ∧ (∀ u_37 : Nat → Int32, u_37 = upd a_32 x2_31.toNatClampNeg 0 → (X2 (x2_31 + 1) u_37)))) ∧
 (¬ (x2_31 < 4) → ((20 ≤ x2_31 → (vp_in x2_31 200 ∧ (∀ u_40 : Nat → Int32, u_40 = upd a_32 x2_31.toNatClampNeg 0 → (X2 (x2_31 + 1) u_40)))) ∧
 (¬ (20 ≤ x2_31) → (vp_in x2_31 200 ∧ (∀ u_42 : Nat → Int32, u_42 = upd a_32 x2_31.toNatClampNeg 1 → (X2 (x2_31 + 1) u_42)))))))))) → X2 x2_31 a_32) → X2 ix2_31 ia_32
def wp_X7_isFresh (jth jrm jwy jhi jmf jmt jla jre jwr jga jlo jmo jli jta jpt jen jbg jfa jwt jac jng jnl jnm jnv jwm : Int32) (mW : Nat → Int32) (k : Int32) (Q : (Nat → Int32) → Prop) : Prop :=
  ∀ J37 : (Nat → Int32) → Prop, (∀ (a_27 : Nat → Int32), (∀ u_28 : Nat → Int32, u_28 = upd a_27 (0 : Int32).toNatClampNeg k → (∀ u_29 : Nat → Int32, u_29 = upd u_28 (2 : Int32).toNatClampNeg (k - 1) → (Q u_29))) → J37 a_27) →
wp_X7_isFresh_L2 J37 0 mW
theorem pf_X7_isFresh (K : Nat) (jth jrm jwy jhi jmf jmt jla jre jwr jga jlo jmo jli jta jpt jen jbg jfa jwt jac jng jnl jnm jnv jwm : Int32) (mW : Nat → Int32) (k : Int32) (hp : pr_X7_isFresh K jth jrm jwy jhi jmf jmt jla jre jwr jga jlo jmo jli jta jpt jen jbg jfa jwt jac jng jnl jnm jnv jwm mW k) : wp_X7_isFresh jth jrm jwy jhi jmf jmt jla jre jwr jga jlo jmo jli jta jpt jen jbg jfa jwt jac jng jnl jnm jnv jwm mW k (ps_X7_isFresh K jth jrm jwy jhi jmf jmt jla jre jwr jga jlo jmo jli jta jpt jen jbg jfa jwt jac jng jnl jnm jnv jwm mW k) := by
  unfold wp_X7_isFresh
  obtain ⟨rfl, h2, h16⟩ := hp
  intro J hJ X hX
  refine up1 200 (fun k (g : Nat → Int32) => ∀ j, j < k → g j = if 4 ≤ j ∧ j < 20 then 1 else 0) (fun k g hk hI hh => hX _ _ ⟨fun q => absurd q (by rw [show (200 : Int32) = nI 200 from rfl, leN (by omega) (by omega)]; omega), fun _ => ?_⟩) (fun g hI => hX _ _ ⟨fun _ => hJ _ (fun u hu u2 hu2 => ?_), fun q => absurd (Int32.le_refl _) q⟩) 0 mW (Nat.zero_le _) (fun j hj => absurd hj (by omega))
  · rw [show (4 : Int32) = nI 4 from rfl, show (20 : Int32) = nI 20 from rfl, ltN (by omega) (by omega), leN (by omega) (by omega), clN (by omega)]
    have put : ∀ (x : Int32) (u : Nat → Int32), u = upd g k x → x = (if 4 ≤ k ∧ k < 20 then 1 else 0) → X (nI k + 1) u := fun x u hu hx => hh _ (fun j hj => by
      rw [hu]
      by_cases e : j = k
      · subst e; rw [upd_s]; exact hx
      · rw [upd_n e]; exact hI j (by omega))
    exact ⟨fun q => ⟨vp_in_nI (by omega) (by decide), fun u hu => put _ u hu (by rw [if_neg (by omega)])⟩, fun q => ⟨fun q2 => ⟨vp_in_nI (by omega) (by decide), fun u hu => put _ u hu (by rw [if_neg (by omega)])⟩, fun q2 => ⟨vp_in_nI (by omega) (by decide), fun u hu => put _ u hu (by rw [if_pos (by omega)])⟩⟩⟩
  · rw [sb_cl0] at hu
    rw [show (2 : Int32).toNatClampNeg = 2 by decide] at hu2
    subst hu
    have hv : ∀ j, j < 200 → j ≠ 0 → j ≠ 2 → u2 j = if 4 ≤ j ∧ j < 20 then 1 else 0 := fun j h1 h2 h3 => by rw [hu2, upd_n h3, upd_n h2]; exact hI j h1
    refine ⟨⟨h2, h16, by show 0 < K; omega, by show K - 1 < K; omega, Nat.zero_le _, fun k hk => absurd hk (by show ¬ k < 0; omega), fun a _ => by show 1 ≤ 99; omega⟩, ?_, ?_, ?_, ?_, fun a ha => ?_, fun k hk => absurd hk (by show ¬ k < 0; omega)⟩
    · rw [hu2, upd_n (by omega), upd_s]; rfl
    · rw [hv 1 (by omega) (by omega) (by omega), if_neg (by omega)]; rfl
    · rw [hu2, upd_s, n1, pk_sub (by omega)]; rfl
    · rw [hv 3 (by omega) (by omega) (by omega), if_neg (by omega)]; rfl
    · rw [hv _ (by omega) (by omega) (by omega), if_pos (by omega)]; rfl
def ps_X7_hasNoLatest (jth jrm jwy jhi jmf jmt jla jre jwr jga jlo jmo jli jta jpt jen jbg jfa jwt jac jng jnl jnm jnv jwm : Int32) (jga' jlo' jmo' jli' : Int32) : Prop := jga' = 0 ∧ jlo' = 0 ∧ jmo' = 0 ∧ jli' = 0
def wp_X7_hasNoLatest (jth jrm jwy jhi jmf jmt jla jre jwr jga jlo jmo jli jta jpt jen jbg jfa jwt jac jng jnl jnm jnv jwm : Int32) (Q : Int32 → Int32 → Int32 → Int32 → Prop) : Prop :=
  Q 0 0 0 0
theorem pf_X7_hasNoLatest (jth jrm jwy jhi jmf jmt jla jre jwr jga jlo jmo jli jta jpt jen jbg jfa jwt jac jng jnl jnm jnv jwm : Int32) : wp_X7_hasNoLatest jth jrm jwy jhi jmf jmt jla jre jwr jga jlo jmo jli jta jpt jen jbg jfa jwt jac jng jnl jnm jnv jwm (ps_X7_hasNoLatest jth jrm jwy jhi jmf jmt jla jre jwr jga jlo jmo jli jta jpt jen jbg jfa jwt jac jng jnl jnm jnv jwm) := by
  unfold wp_X7_hasNoLatest
  exact ⟨rfl, rfl, rfl, rfl⟩
def pr_X7_reach (N : NetM) (E : Nat → Nat → Prop) (A B : Nat → Prop) (jth jrm jwy jhi jmf jmt jla jre jwr jga jlo jmo jli jta jpt jen jbg jfa jwt jac jng jnl jnm jnv jwm : Int32) (mW : Nat → Int32) (s w oa : Int32) : Prop := NetW N mW ∧ EGa N jmf jmt jla oa E ∧ IsSet s A ∧ IsSet w B ∧ ∀ x, A x → x < N.n
def ps_X7_reach (N : NetM) (E : Nat → Nat → Prop) (A B : Nat → Prop) (jth jrm jwy jhi jmf jmt jla jre jwr jga jlo jmo jli jta jpt jen jbg jfa jwt jac jng jnl jnm jnv jwm : Int32) (mW : Nat → Int32) (s w oa : Int32) (r : Int32)  : Prop := IsSet r (Rs E A B)
def wp_X7_reach_L24 (jth jrm jwy jhi jmf jmt jla jre jwr jga jlo jmo jli jta jpt jen jbg jfa jwt jac jng jnl jnm jnv jwm : Int32) (mW : Nat → Int32) (w oa : Int32) (J103 : Int32 → Prop) (ix6_277 ix4_278 : Int32) : Prop :=
  ∀ X24 : Int32 → Int32 → Prop, (∀ (x6_277 : Int32) (x4_278 : Int32), (∀ (r_280 : Int32), ps_X7_arcs jth jrm jwy jhi jmf jmt jla jre jwr jga jlo jmo jli jta jpt jen jbg jfa jwt jac jng jnl jnm jnv jwm mW r_280 → (((r_280 ≤ x6_277 → (J103 x4_278)) ∧
 (¬ (r_280 ≤ x6_277) → ((x6_277 = oa → (X24 (x6_277 + 1) x4_278)) ∧
 (¬ (x6_277 = oa) → ((x6_277 = jla → (X24 (x6_277 + 1) x4_278)) ∧
 (¬ (x6_277 = jla) → (∃ (N_284 : NetM) (K_284 : Nat), (pr_X7_isOpen N_284 K_284 jth jrm jwy jhi jmf jmt jla jre jwr jga jlo jmo jli jta jpt jen jbg jfa jwt jac jng jnl jnm jnv jwm mW x6_277 ∧ (∀ (r_284 : Int32), ps_X7_isOpen N_284 K_284 jth jrm jwy jhi jmf jmt jla jre jwr jga jlo jmo jli jta jpt jen jbg jfa jwt jac jng jnl jnm jnv jwm mW x6_277 r_284 → (((r_284 = 0 → (X24 (x6_277 + 1) x4_278)) ∧
 (¬ (r_284 = 0) → (∃ (N_286 : NetM) (K_286 : Nat), (pr_X7_fromOf N_286 K_286 jth jrm jwy jhi jmf jmt jla jre jwr jga jlo jmo jli jta jpt jen jbg jfa jwt jac jng jnl jnm jnv jwm mW x6_277 ∧ (∀ (r_286 : Int32), ps_X7_fromOf N_286 K_286 jth jrm jwy jhi jmf jmt jla jre jwr jga jlo jmo jli jta jpt jen jbg jfa jwt jac jng jnl jnm jnv jwm mW x6_277 r_286 → (∀ (r_287 : Int32), ps_X7_holds x4_278 r_286 r_287 → (((r_287 = 0 → (X24 (x6_277 + 1) x4_278)) ∧
 (¬ (r_287 = 0) → (∃ (N_289 : NetM) (K_289 : Nat), (pr_X7_toOf N_289 K_289 jth jrm jwy jhi jmf jmt jla jre jwr jga jlo jmo jli jta jpt jen jbg jfa jwt jac jng jnl jnm jnv jwm mW x6_277 ∧ (∀ (r_289 : Int32), ps_X7_toOf N_289 K_289 jth jrm jwy jhi jmf jmt jla jre jwr jga jlo jmo jli jta jpt jen jbg jfa jwt jac jng jnl jnm jnv jwm mW x6_277 r_289 → (∀ (r_290 : Int32), ps_X7_holds w r_289 r_290 → (((¬ r_290 = 0 → (X24 (x6_277 + 1) x4_278)) ∧
 (r_290 = 0 → (∃ (N_292 : NetM) (K_292 : Nat), (pr_X7_toOf N_292 K_292 jth jrm jwy jhi jmf jmt jla jre jwr jga jlo jmo jli jta jpt jen jbg jfa jwt jac jng jnl jnm jnv jwm mW x6_277 ∧ (∀ (r_292 : Int32), ps_X7_toOf N_292 K_292 jth jrm jwy jhi jmf jmt jla jre jwr jga jlo jmo jli jta jpt jen jbg jfa jwt jac jng jnl jnm jnv jwm mW x6_277 r_292 → (X24 (x6_277 + 1) (x4_278 ||| (1 <<< (r_292 &&& 31))))))))))))))))))))))))))))))))))) → X24 x6_277 x4_278) → X24 ix6_277 ix4_278
def wp_X7_reach_L10 (jth jrm jwy jhi jmf jmt jla jre jwr jga jlo jmo jli jta jpt jen jbg jfa jwt jac jng jnl jnm jnv jwm : Int32) (mW : Nat → Int32) (w oa : Int32) (J148 : Int32 → Prop) (ix5_220 ix4_221 : Int32) : Prop :=
  ∀ X10 : Int32 → Int32 → Prop, (∀ (x5_220 : Int32) (x4_221 : Int32), (((x4_221 = x5_220 → (J148 x4_221)) ∧
 (¬ (x4_221 = x5_220) → (∀ J103 : Int32 → Prop, (∀ (x4_270 : Int32), (((jmf = (-1) → (X10 x4_221 x4_270)) ∧
 (¬ (jmf = (-1)) → (∀ (r_272 : Int32), ps_X7_holds x4_270 jmf r_272 → (((r_272 = 0 → (X10 x4_221 x4_270)) ∧
 (¬ (r_272 = 0) → (∀ (r_274 : Int32), ps_X7_holds w jmt r_274 → (((¬ r_274 = 0 → (X10 x4_221 x4_270)) ∧
 (r_274 = 0 → (X10 x4_221 (x4_270 ||| (1 <<< (jmt &&& 31))))))))))))))) → J103 x4_270) →
wp_X7_reach_L24 jth jrm jwy jhi jmf jmt jla jre jwr jga jlo jmo jli jta jpt jen jbg jfa jwt jac jng jnl jnm jnv jwm mW w oa J103 0 x4_221)))) → X10 x5_220 x4_221) → X10 ix5_220 ix4_221
def wp_X7_reach (jth jrm jwy jhi jmf jmt jla jre jwr jga jlo jmo jli jta jpt jen jbg jfa jwt jac jng jnl jnm jnv jwm : Int32) (mW : Nat → Int32) (s w oa : Int32) (Q : Int32 → Prop) : Prop :=
  ∀ J148 : Int32 → Prop, (∀ (x4_218 : Int32), (Q x4_218) → J148 x4_218) →
wp_X7_reach_L10 jth jrm jwy jhi jmf jmt jla jre jwr jga jlo jmo jli jta jpt jen jbg jfa jwt jac jng jnl jnm jnv jwm mW w oa J148 0 (s &&& (w ^^^ (-1)))
theorem pf_X7_reach (N : NetM) (E : Nat → Nat → Prop) (A B : Nat → Prop) (jth jrm jwy jhi jmf jmt jla jre jwr jga jlo jmo jli jta jpt jen jbg jfa jwt jac jng jnl jnm jnv jwm : Int32) (mW : Nat → Int32) (s w oa : Int32) (hp : pr_X7_reach N E A B jth jrm jwy jhi jmf jmt jla jre jwr jga jlo jmo jli jta jpt jen jbg jfa jwt jac jng jnl jnm jnv jwm mW s w oa) : wp_X7_reach jth jrm jwy jhi jmf jmt jla jre jwr jga jlo jmo jli jta jpt jen jbg jfa jwt jac jng jnl jnm jnv jwm mW s w oa (ps_X7_reach N E A B jth jrm jwy jhi jmf jmt jla jre jwr jga jlo jmo jli jta jpt jen jbg jfa jwt jac jng jnl jnm jnv jwm mW s w oa) := by
  unfold wp_X7_reach
  obtain ⟨hN, hE, hA, hB, hAn⟩ := hp
  have h16 := hN.1.2.1
  have h60 := hN.1.2.2.2.2.1
  have hA16 : ∀ x, A x → x < 16 := fun x q => by have := hAn x q; omega
  intro J hJ X hX
  refine sat (RI E A B) (RC E B) (fun w0 s0 hI hC hh => hX _ _ ⟨fun q => hJ _ (hI.fin (hC q.symm)), fun q J103 hJ103 X2 hX2 => ?_⟩) 0 _ (RI.start hA hB hA16) (fun q => fun a b ha => ?_)
  · refine up1 N.m (fun k s' => RI E A B s' ∧ (∀ x, bt s0 x = true → bt s' x = true) ∧ s0.toBitVec.toNat ≤ s'.toBitVec.toNat ∧ ∀ j, j < k → ¬ nI j = oa → ¬ nI j = jla → N.op j = true → bt s0 (N.fr j) = true → ¬ B (N.to j) → bt s' (N.to j) = true) (fun k s' hk hI2 hh2 => hX2 _ _ (fun r1 h1 => ?_)) (fun s' hI2 => hX2 _ _ (fun r1 h1 => ?_)) 0 s0 (Nat.zero_le _) ⟨hI, fun _ q => q, Nat.le_refl _, fun j hj => absurd hj (by omega)⟩
    · obtain ⟨i1', i2', i3', i4'⟩ := hI2
      have h1 : r1 = mW 3 := h1
      rw [h1, hN.2.2.2.2.1, leN (by omega) (by omega)]
      have harc := hN.1.2.2.2.2.2.1 k hk
      have no : (¬ nI k = oa → ¬ nI k = jla → N.op k = true → bt s0 (N.fr k) = true → ¬ B (N.to k) → bt s' (N.to k) = true) → X2 (nI k + 1) s' := fun y => hh2 _ ⟨i1', i2', i3', fun j hj => by
        by_cases e : j = k
        · subst e; exact y
        · exact i4' j (by omega)⟩
      refine ⟨fun z => absurd z (by omega), fun _ => ⟨fun z => no (fun y => absurd z y), fun z => ⟨fun z2 => no (fun _ y => absurd z2 y), fun z2 => ⟨N, k, ⟨hN, rfl, hk⟩, fun r2 h2 => ?_⟩⟩⟩⟩
      have h2 : r2 = i1 (N.op k = true) := h2
      refine ⟨fun y => no (fun _ _ y2 => absurd y2 (i1_eq0.1 (h2.symm.trans y))), fun y => ⟨N, k, ⟨hN, rfl, hk⟩, fun r3 h3 r4 h4 => ?_⟩⟩
      have hop := Classical.not_not.1 (fun q2 => y (h2.trans (i1_eq0.2 q2)))
      have h3 : r3 = nI (N.fr k) := h3
      subst h3
      have h4 := hold_b h4 (by omega)
      refine ⟨fun y2 => no (fun _ _ _ y3 => absurd (i2' _ y3) (h4.1 y2)), fun y2 => ⟨N, k, ⟨hN, rfl, hk⟩, fun r5 h5 r6 h6 => ?_⟩⟩
      have h5 : r5 = nI (N.to k) := h5
      subst h5
      refine ⟨fun y3 => no (fun _ _ _ _ y4 => absurd (hold_p h6 hB (by omega) y3) y4), fun y3 => ⟨N, k, ⟨hN, rfl, hk⟩, fun r7 h7 => hh2 _ ?_⟩⟩
      have h7 : r7 = nI (N.to k) := h7
      subst h7
      have hb1 : bt s' (N.fr k) = true := Classical.not_not.1 (fun q2 => y2 (h4.2 q2))
      refine ⟨i1'.or hb1 (by omega) (by omega) ((hE.1 _ _).2 (Or.inl ⟨k, hk, z, z2, hop, rfl, rfl⟩)) (hold_z h6 hB (by omega) y3), fun x hx => bt_or_l (i2' x hx), Nat.le_trans i3' (tn_or _ _), fun j hj a1 a2 a3 a4 a5 => ?_⟩
      by_cases e : j = k
      · subst e; exact bt_or_r (by omega)
      · exact bt_or_l (i4' j (by omega) a1 a2 a3 a4 a5)
    · obtain ⟨i1', i2', i3', i4'⟩ := hI2
      have h1 : r1 = mW 3 := h1
      rw [h1, hN.2.2.2.2.1]
      have step : ∀ s'', RI E A B s'' → (∀ x, bt s' x = true → bt s'' x = true) → s'.toBitVec.toNat ≤ s''.toBitVec.toNat → (∀ a b, ¬ jmf = -1 → a < N.n → b < N.n → jmf = nI a → jmt = nI b → bt s0 a = true → ¬ B b → bt s'' b = true) → X s0 s'' := fun s'' a1 a2 a3 a4 => hh (fun y => q y.symm) s'' a1 (Nat.le_trans i3' a3) (fun y => fun a b b1 b2 b3 => by
        subst y
        rcases (hE.1 a b).1 b2 with ⟨j, j1, j2, j3, j4, rfl, rfl⟩ | ⟨j1, j2, j3, j4, j5⟩
        · exact a2 _ (i4' j j1 j2 j3 j4 b1 b3)
        · exact a4 a b j1 j2 j3 j4 j5 b1 b3)
      refine ⟨fun _ => hJ103 _ ⟨fun y => step s' i1' (fun _ y2 => y2) (Nat.le_refl _) (fun _ _ y2 => absurd y y2), fun y => fun r2 h2 => ?_⟩, fun y => absurd (Int32.le_refl _) y⟩
      obtain ⟨a0, b0, e1, e2, e3, e4⟩ := hE.2 y
      rw [e3] at h2
      have h2 := hold_b h2 (by omega)
      have ua : ∀ a, a < N.n → jmf = nI a → a = a0 := fun a l e => (eqN (by omega) (by omega)).mp (e.symm.trans e3)
      have ub : ∀ b, b < N.n → jmt = nI b → b = b0 := fun b l e => (eqN (by omega) (by omega)).mp (e.symm.trans e4)
      refine ⟨fun y2 => step s' i1' (fun _ y3 => y3) (Nat.le_refl _) (fun a b _ l1 l2 c1 c2 c3 => absurd (i2' _ c3) (by rw [ua a l1 c1]; exact h2.1 y2)), fun y2 r3 h3 => ?_⟩
      rw [e4] at h3
      refine ⟨fun y3 => step s' i1' (fun _ y4 => y4) (Nat.le_refl _) (fun a b _ l1 l2 c1 c2 c3 c4 => absurd (hold_p h3 hB (by omega) y3) (by rw [← ub b l2 c2]; exact c4)), fun y3 => ?_⟩
      rw [e4]
      have hb1 : bt s' a0 = true := Classical.not_not.1 (fun q2 => y2 (h2.2 q2))
      refine step _ (i1'.or hb1 (by omega) (by omega) ((hE.1 _ _).2 (Or.inr ⟨y, e1, e2, e3, e4⟩)) (hold_z h3 hB (by omega) y3)) (fun x hx => bt_or_l hx) (tn_or _ _) (fun a b _ l1 l2 c1 c2 _ _ => by rw [ub b l2 c2]; exact bt_or_r (by omega))
  · rw [← q, b_0] at ha
    exact absurd ha (by simp)
def pr_X7_comers (N : NetM) (A B : Nat → Prop) (jth jrm jwy jhi jmf jmt jla jre jwr jga jlo jmo jli jta jpt jen jbg jfa jwt jac jng jnl jnm jnv jwm : Int32) (mW : Nat → Int32) (s w : Int32) : Prop := NetW N mW ∧ IsSet s A ∧ IsSet w B ∧ ∀ x, A x → x < N.n
def ps_X7_comers (N : NetM) (A B : Nat → Prop) (jth jrm jwy jhi jmf jmt jla jre jwr jga jlo jmo jli jta jpt jen jbg jfa jwt jac jng jnl jnm jnv jwm : Int32) (mW : Nat → Int32) (s w : Int32) (r : Int32)  : Prop := IsSet r (Rs N.X A B)
def wp_X7_comers_L21 (jth jrm jwy jhi jmf jmt jla jre jwr jga jlo jmo jli jta jpt jen jbg jfa jwt jac jng jnl jnm jnv jwm : Int32) (mW : Nat → Int32) (w : Int32) (J82 : Int32 → Prop) (ix5_227 ix3_228 : Int32) : Prop :=
  ∀ X21 : Int32 → Int32 → Prop, (∀ (x5_227 : Int32) (x3_228 : Int32), (∀ (r_230 : Int32), ps_X7_arcs jth jrm jwy jhi jmf jmt jla jre jwr jga jlo jmo jli jta jpt jen jbg jfa jwt jac jng jnl jnm jnv jwm mW r_230 → (((r_230 ≤ x5_227 → (J82 x3_228)) ∧
 (¬ (r_230 ≤ x5_227) → (∃ (N_232 : NetM) (K_232 : Nat), (pr_X7_isOpen N_232 K_232 jth jrm jwy jhi jmf jmt jla jre jwr jga jlo jmo jli jta jpt jen jbg jfa jwt jac jng jnl jnm jnv jwm mW x5_227 ∧ (∀ (r_232 : Int32), ps_X7_isOpen N_232 K_232 jth jrm jwy jhi jmf jmt jla jre jwr jga jlo jmo jli jta jpt jen jbg jfa jwt jac jng jnl jnm jnv jwm mW x5_227 r_232 → (((r_232 = 0 → (X21 (x5_227 + 1) x3_228)) ∧
 (¬ (r_232 = 0) → (∃ (N_234 : NetM) (K_234 : Nat), (pr_X7_toOf N_234 K_234 jth jrm jwy jhi jmf jmt jla jre jwr jga jlo jmo jli jta jpt jen jbg jfa jwt jac jng jnl jnm jnv jwm mW x5_227 ∧ (∀ (r_234 : Int32), ps_X7_toOf N_234 K_234 jth jrm jwy jhi jmf jmt jla jre jwr jga jlo jmo jli jta jpt jen jbg jfa jwt jac jng jnl jnm jnv jwm mW x5_227 r_234 → (∀ (r_235 : Int32), ps_X7_holds x3_228 r_234 r_235 → (((r_235 = 0 → (X21 (x5_227 + 1) x3_228)) ∧
 (¬ (r_235 = 0) → (∃ (N_237 : NetM) (K_237 : Nat), (pr_X7_fromOf N_237 K_237 jth jrm jwy jhi jmf jmt jla jre jwr jga jlo jmo jli jta jpt jen jbg jfa jwt jac jng jnl jnm jnv jwm mW x5_227 ∧ (∀ (r_237 : Int32), ps_X7_fromOf N_237 K_237 jth jrm jwy jhi jmf jmt jla jre jwr jga jlo jmo jli jta jpt jen jbg jfa jwt jac jng jnl jnm jnv jwm mW x5_227 r_237 → (∀ (r_238 : Int32), ps_X7_holds w r_237 r_238 → (((¬ r_238 = 0 → (X21 (x5_227 + 1) x3_228)) ∧
 (r_238 = 0 → (∃ (N_240 : NetM) (K_240 : Nat), (pr_X7_fromOf N_240 K_240 jth jrm jwy jhi jmf jmt jla jre jwr jga jlo jmo jli jta jpt jen jbg jfa jwt jac jng jnl jnm jnv jwm mW x5_227 ∧ (∀ (r_240 : Int32), ps_X7_fromOf N_240 K_240 jth jrm jwy jhi jmf jmt jla jre jwr jga jlo jmo jli jta jpt jen jbg jfa jwt jac jng jnl jnm jnv jwm mW x5_227 r_240 → (X21 (x5_227 + 1) (x3_228 ||| (1 <<< (r_240 &&& 31))))))))))))))))))))))))))))))) → X21 x5_227 x3_228) → X21 ix5_227 ix3_228
def wp_X7_comers_L9 (jth jrm jwy jhi jmf jmt jla jre jwr jga jlo jmo jli jta jpt jen jbg jfa jwt jac jng jnl jnm jnv jwm : Int32) (mW : Nat → Int32) (w : Int32) (J85 : Int32 → Prop) (ix4_181 ix3_182 : Int32) : Prop :=
  ∀ X9 : Int32 → Int32 → Prop, (∀ (x4_181 : Int32) (x3_182 : Int32), (((x3_182 = x4_181 → (J85 x3_182)) ∧
 (¬ (x3_182 = x4_181) → (∀ J82 : Int32 → Prop, (∀ (x3_225 : Int32), (X9 x3_182 x3_225) → J82 x3_225) →
wp_X7_comers_L21 jth jrm jwy jhi jmf jmt jla jre jwr jga jlo jmo jli jta jpt jen jbg jfa jwt jac jng jnl jnm jnv jwm mW w J82 0 x3_182)))) → X9 x4_181 x3_182) → X9 ix4_181 ix3_182
def wp_X7_comers (jth jrm jwy jhi jmf jmt jla jre jwr jga jlo jmo jli jta jpt jen jbg jfa jwt jac jng jnl jnm jnv jwm : Int32) (mW : Nat → Int32) (s w : Int32) (Q : Int32 → Prop) : Prop :=
  ∀ J85 : Int32 → Prop, (∀ (x3_179 : Int32), (Q x3_179) → J85 x3_179) →
wp_X7_comers_L9 jth jrm jwy jhi jmf jmt jla jre jwr jga jlo jmo jli jta jpt jen jbg jfa jwt jac jng jnl jnm jnv jwm mW w J85 0 (s &&& (w ^^^ (-1)))
theorem pf_X7_comers (N : NetM) (A B : Nat → Prop) (jth jrm jwy jhi jmf jmt jla jre jwr jga jlo jmo jli jta jpt jen jbg jfa jwt jac jng jnl jnm jnv jwm : Int32) (mW : Nat → Int32) (s w : Int32) (hp : pr_X7_comers N A B jth jrm jwy jhi jmf jmt jla jre jwr jga jlo jmo jli jta jpt jen jbg jfa jwt jac jng jnl jnm jnv jwm mW s w) : wp_X7_comers jth jrm jwy jhi jmf jmt jla jre jwr jga jlo jmo jli jta jpt jen jbg jfa jwt jac jng jnl jnm jnv jwm mW s w (ps_X7_comers N A B jth jrm jwy jhi jmf jmt jla jre jwr jga jlo jmo jli jta jpt jen jbg jfa jwt jac jng jnl jnm jnv jwm mW s w) := by
  unfold wp_X7_comers
  obtain ⟨hN, hA, hB, hAn⟩ := hp
  have h16 := hN.1.2.1
  have h60 := hN.1.2.2.2.2.1
  have hA16 : ∀ x, A x → x < 16 := fun x q => by have := hAn x q; omega
  intro J hJ X hX
  refine sat (RI N.X A B) (RC N.X B) (fun w0 s0 hI hC hh => hX _ _ ⟨fun q => hJ _ (hI.fin (hC q.symm)), fun q J103 hJ103 X2 hX2 => ?_⟩) 0 _ (RI.start hA hB hA16) (fun q => fun a b ha => ?_)
  · refine up1 N.m (fun k s' => RI N.X A B s' ∧ (∀ x, bt s0 x = true → bt s' x = true) ∧ s0.toBitVec.toNat ≤ s'.toBitVec.toNat ∧ ∀ j, j < k → N.op j = true → bt s0 (N.to j) = true → ¬ B (N.fr j) → bt s' (N.fr j) = true) (fun k s' hk hI2 hh2 => hX2 _ _ (fun r1 h1 => ?_)) (fun s' hI2 => hX2 _ _ (fun r1 h1 => ?_)) 0 s0 (Nat.zero_le _) ⟨hI, fun _ q => q, Nat.le_refl _, fun j hj => absurd hj (by omega)⟩
    · obtain ⟨i1', i2', i3', i4'⟩ := hI2
      have h1 : r1 = mW 3 := h1
      rw [h1, hN.2.2.2.2.1, leN (by omega) (by omega)]
      have harc := hN.1.2.2.2.2.2.1 k hk
      have no : (N.op k = true → bt s0 (N.to k) = true → ¬ B (N.fr k) → bt s' (N.fr k) = true) → X2 (nI k + 1) s' := fun y => hh2 _ ⟨i1', i2', i3', fun j hj => by
        by_cases e : j = k
        · subst e; exact y
        · exact i4' j (by omega)⟩
      refine ⟨fun z => absurd z (by omega), fun _ => ⟨N, k, ⟨hN, rfl, hk⟩, fun r2 h2 => ?_⟩⟩
      have h2 : r2 = i1 (N.op k = true) := h2
      refine ⟨fun y => no (fun y2 => absurd y2 (i1_eq0.1 (h2.symm.trans y))), fun y => ⟨N, k, ⟨hN, rfl, hk⟩, fun r3 h3 r4 h4 => ?_⟩⟩
      have hop := Classical.not_not.1 (fun q2 => y (h2.trans (i1_eq0.2 q2)))
      have h3 : r3 = nI (N.to k) := h3
      subst h3
      have h4 := hold_b h4 (by omega)
      refine ⟨fun y2 => no (fun _ y3 => absurd (i2' _ y3) (h4.1 y2)), fun y2 => ⟨N, k, ⟨hN, rfl, hk⟩, fun r5 h5 r6 h6 => ?_⟩⟩
      have h5 : r5 = nI (N.fr k) := h5
      subst h5
      refine ⟨fun y3 => no (fun _ _ y4 => absurd (hold_p h6 hB (by omega) y3) y4), fun y3 => ⟨N, k, ⟨hN, rfl, hk⟩, fun r7 h7 => hh2 _ ?_⟩⟩
      have h7 : r7 = nI (N.fr k) := h7
      subst h7
      have hb1 : bt s' (N.to k) = true := Classical.not_not.1 (fun q2 => y2 (h4.2 q2))
      refine ⟨i1'.or hb1 (by omega) (by omega) ⟨k, hk, hop, rfl, rfl⟩ (hold_z h6 hB (by omega) y3), fun x hx => bt_or_l (i2' x hx), Nat.le_trans i3' (tn_or _ _), fun j hj a3 a4 a5 => ?_⟩
      by_cases e : j = k
      · subst e; exact bt_or_r (by omega)
      · exact bt_or_l (i4' j (by omega) a3 a4 a5)
    · obtain ⟨i1', i2', i3', i4'⟩ := hI2
      have h1 : r1 = mW 3 := h1
      rw [h1, hN.2.2.2.2.1]
      refine ⟨fun _ => hJ103 _ (hh (fun y => q y.symm) s' i1' i3' (fun y => fun a b b1 b2 b3 => ?_)), fun y => absurd (Int32.le_refl _) y⟩
      subst y
      obtain ⟨j, j1, j2, rfl, rfl⟩ := b2
      exact i4' j j1 j2 b1 b3
  · rw [← q, b_0] at ha
    exact absurd ha (by simp)
def pr_X7_reachedBut (N : NetM) (E : Nat → Nat → Prop) (B : Nat → Prop) (jth jrm jwy jhi jmf jmt jla jre jwr jga jlo jmo jli jta jpt jen jbg jfa jwt jac jng jnl jnm jnv jwm : Int32) (mW : Nat → Int32) (w oa : Int32) : Prop := NetW N mW ∧ EGa N jmf jmt jla oa E ∧ IsSet w B
def ps_X7_reachedBut (N : NetM) (E : Nat → Nat → Prop) (B : Nat → Prop) (jth jrm jwy jhi jmf jmt jla jre jwr jga jlo jmo jli jta jpt jen jbg jfa jwt jac jng jnl jnm jnv jwm : Int32) (mW : Nat → Int32) (w oa : Int32) (r : Int32)  : Prop := IsSet r (Rs E (fun z => z = N.root) B)
def wp_X7_reachedBut (jth jrm jwy jhi jmf jmt jla jre jwr jga jlo jmo jli jta jpt jen jbg jfa jwt jac jng jnl jnm jnv jwm : Int32) (mW : Nat → Int32) (w oa : Int32) (Q : Int32 → Prop) : Prop :=
  ∀ (r_1 : Int32), ps_X7_root jth jrm jwy jhi jmf jmt jla jre jwr jga jlo jmo jli jta jpt jen jbg jfa jwt jac jng jnl jnm jnv jwm mW r_1 → (∃ (N_2 : NetM) (E_2 : Nat → Nat → Prop) (A_2 B_2 : Nat → Prop), (pr_X7_reach N_2 E_2 A_2 B_2 jth jrm jwy jhi jmf jmt jla jre jwr jga jlo jmo jli jta jpt jen jbg jfa jwt jac jng jnl jnm jnv jwm mW (1 <<< (r_1 &&& 31)) w oa ∧ (∀ (r_2 : Int32), ps_X7_reach N_2 E_2 A_2 B_2 jth jrm jwy jhi jmf jmt jla jre jwr jga jlo jmo jli jta jpt jen jbg jfa jwt jac jng jnl jnm jnv jwm mW (1 <<< (r_1 &&& 31)) w oa r_2 → (Q r_2))))
theorem pf_X7_reachedBut (N : NetM) (E : Nat → Nat → Prop) (B : Nat → Prop) (jth jrm jwy jhi jmf jmt jla jre jwr jga jlo jmo jli jta jpt jen jbg jfa jwt jac jng jnl jnm jnv jwm : Int32) (mW : Nat → Int32) (w oa : Int32) (hp : pr_X7_reachedBut N E B jth jrm jwy jhi jmf jmt jla jre jwr jga jlo jmo jli jta jpt jen jbg jfa jwt jac jng jnl jnm jnv jwm mW w oa) : wp_X7_reachedBut jth jrm jwy jhi jmf jmt jla jre jwr jga jlo jmo jli jta jpt jen jbg jfa jwt jac jng jnl jnm jnv jwm mW w oa (ps_X7_reachedBut N E B jth jrm jwy jhi jmf jmt jla jre jwr jga jlo jmo jli jta jpt jen jbg jfa jwt jac jng jnl jnm jnv jwm mW w oa) := by
  unfold wp_X7_reachedBut
  obtain ⟨hN, hE, hB⟩ := hp
  have h16 := hN.1.2.1
  have hr := hN.1.2.2.1
  refine fun r1 h1 => ?_
  have h1 : r1 = mW 1 := h1
  rw [h1, hN.2.2.1]
  exact ⟨N, E, fun z => z = N.root, B, ⟨hN, hE, IsSet.bit (by omega), hB, fun x q => by rw [q]; exact hr⟩, fun r h => h⟩
def pr_X7_laysGates (N : NetM) (E : Nat → Nat → Prop) (jth jrm jwy jhi jmf jmt jla jre jwr jga jlo jmo jli jta jpt jen jbg jfa jwt jac jng jnl jnm jnv jwm : Int32) (mW mG mP mK : Nat → Int32) : Prop := NetW N mW ∧ EGa N jmf jmt jla (-1) E
def ps_X7_laysGates (N : NetM) (E : Nat → Nat → Prop) (jth jrm jwy jhi jmf jmt jla jre jwr jga jlo jmo jli jta jpt jen jbg jfa jwt jac jng jnl jnm jnv jwm : Int32) (mW mG mP mK : Nat → Int32) (jre' : Int32) (mG' mP' mK' : Nat → Int32) : Prop := GatR E N.root N.n jre' mG' mP' mK'
def wp_X7_laysGates_L167 (jth jrm jwy jhi jmf jmt jla jwr jga jlo jmo jli jta jpt jen jbg jfa jwt jac jng jnl jnm jnv jwm : Int32) (mW : Nat → Int32) (r_1 : Int32) (a_155 a_192 : Nat → Int32) (x1_334 : Int32) (J218 : (Nat → Int32) → Prop) (ix2_371 : Int32) (ia_372 : Nat → Int32) : Prop :=
  ∀ X167 : Int32 → (Nat → Int32) → Prop, (∀ (x2_371 : Int32) (a_372 : Nat → Int32), (∀ (r_374 : Int32), ps_X7_nodes jth jrm jwy jhi jmf jmt jla r_1 jwr jga jlo jmo jli jta jpt jen jbg jfa jwt jac jng jnl jnm jnv jwm mW r_374 → (((r_374 ≤ x2_371 → (J218 a_372)) ∧
 (¬ (r_374 ≤ x2_371) → (vp_in x1_334 16 ∧ (∀ (r_377 : Int32), ps_X7_holds (a_155 x1_334.toNatClampNeg) x2_371 r_377 → (((r_377 = 0 → (X167 (x2_371 + 1) a_372)) ∧
 (¬ (r_377 = 0) → (vp_in x2_371 16 ∧ (((¬ (a_192 x2_371.toNatClampNeg) = ((a_192 x1_334.toNatClampNeg) - 1) → (X167 (x2_371 + 1) a_372)) ∧
 ((a_192 x2_371.toNatClampNeg) = ((a_192 x1_334.toNatClampNeg) - 1) → (∀ u_381 : Nat → Int32, u_381 = upd a_372 x1_334.toNatClampNeg x2_371 → (X167 (x2_371 + 1) u_381))))))))))))))) → X167 x2_371 a_372) → X167 ix2_371 ia_372
def wp_X7_laysGates_L157 (jth jrm jwy jhi jmf jmt jla jwr jga jlo jmo jli jta jpt jen jbg jfa jwt jac jng jnl jnm jnv jwm : Int32) (mW : Nat → Int32) (r_1 : Int32) (a_155 a_192 : Nat → Int32) (J224 : (Nat → Int32) → Prop) (ix1_334 : Int32) (ia_335 : Nat → Int32) : Prop :=
  ∀ X157 : Int32 → (Nat → Int32) → Prop, (∀ (x1_334 : Int32) (a_335 : Nat → Int32), (∀ (r_337 : Int32), ps_X7_nodes jth jrm jwy jhi jmf jmt jla r_1 jwr jga jlo jmo jli jta jpt jen jbg jfa jwt jac jng jnl jnm jnv jwm mW r_337 → (((r_337 ≤ x1_334 → (J224 a_335)) ∧
 (¬ (r_337 ≤ x1_334) → (∀ J218 : (Nat → Int32) → Prop, (∀ (a_369 : Nat → Int32), (X157 (x1_334 + 1) a_369) → J218 a_369) →
wp_X7_laysGates_L167 jth jrm jwy jhi jmf jmt jla jwr jga jlo jmo jli jta jpt jen jbg jfa jwt jac jng jnl jnm jnv jwm mW r_1 a_155 a_192 x1_334 J218 0 a_335))))) → X157 x1_334 a_335) → X157 ix1_334 ia_335
def wp_X7_laysGates_L106 (r_1 : Int32) (a_155 : Nat → Int32) (J155 : (Nat → Int32) → (Nat → Int32) → Prop) (ix1_383 : Int32) (ia_384 ia_385 : Nat → Int32) : Prop :=
  ∀ X106 : Int32 → (Nat → Int32) → (Nat → Int32) → Prop, (∀ (x1_383 : Int32) (a_384 : Nat → Int32) (a_385 : Nat → Int32), (((16 ≤ x1_383 → (J155 a_384 a_385)) ∧
 (¬ (16 ≤ x1_383) → (∀ (r_388 : Int32), ps_X7_holds r_1 x1_383 r_388 → (((r_388 = 0 → (vp_in x1_383 16 ∧ (∀ u_391 : Nat → Int32, u_391 = upd a_384 x1_383.toNatClampNeg (-1) → (∀ u_392 : Nat → Int32, u_392 = upd a_385 x1_383.toNatClampNeg (-1) → (X106 (x1_383 + 1) u_391 u_392))))) ∧
 (¬ (r_388 = 0) → (vp_in x1_383 16 ∧ (∀ (r_394 : Int32), ps_X7_bits (a_155 x1_383.toNatClampNeg) r_394 → (∀ u_395 : Nat → Int32, u_395 = upd a_384 x1_383.toNatClampNeg r_394 → (∀ u_396 : Nat → Int32, u_396 = upd a_385 x1_383.toNatClampNeg (-1) → (X106 (x1_383 + 1) u_395 u_396)))))))))))) → X106 x1_383 a_384 a_385) → X106 ix1_383 ia_384 ia_385
def wp_X7_laysGates_L59 (jth jrm jwy jhi jmf jmt jla jwr jga jlo jmo jli jta jpt jen jbg jfa jwt jac jng jnl jnm jnv jwm : Int32) (mW : Nat → Int32) (r_1 x1_398 r_403 : Int32) (J98 : (Nat → Int32) → Prop) (ix3_433 : Int32) (ia_434 : Nat → Int32) : Prop :=
  ∀ X59 : Int32 → (Nat → Int32) → Prop, (∀ (x3_433 : Int32) (a_434 : Nat → Int32), (∀ (r_436 : Int32), ps_X7_nodes jth jrm jwy jhi jmf jmt jla r_1 jwr jga jlo jmo jli jta jpt jen jbg jfa jwt jac jng jnl jnm jnv jwm mW r_436 → (((r_436 ≤ x3_433 → (J98 a_434)) ∧
 (¬ (r_436 ≤ x3_433) → ((x3_433 = x1_398 → (X59 (x3_433 + 1) a_434)) ∧
 (¬ (x3_433 = x1_398) → (∀ (r_439 : Int32), ps_X7_holds (r_1 &&& (r_403 ^^^ (-1))) x3_433 r_439 → (((r_439 = 0 → (X59 (x3_433 + 1) a_434)) ∧
 (¬ (r_439 = 0) → (vp_in x3_433 16 ∧ (∀ u_442 : Nat → Int32, u_442 = upd a_434 x3_433.toNatClampNeg ((a_434 x3_433.toNatClampNeg) ||| (1 <<< (x1_398 &&& 31))) → (X59 (x3_433 + 1) u_442))))))))))))) → X59 x3_433 a_434) → X59 ix3_433 ia_434
def wp_X7_laysGates_L33 (jth jrm jwy jhi jmf jmt jla jwr jga jlo jmo jli jta jpt jen jbg jfa jwt jac jng jnl jnm jnv jwm : Int32) (mW : Nat → Int32) (r_1 : Int32) (J104 : (Nat → Int32) → Prop) (ix1_398 : Int32) (ia_399 : Nat → Int32) : Prop :=
  ∀ X33 : Int32 → (Nat → Int32) → Prop, (∀ (x1_398 : Int32) (a_399 : Nat → Int32), (∀ (r_401 : Int32), ps_X7_nodes jth jrm jwy jhi jmf jmt jla r_1 jwr jga jlo jmo jli jta jpt jen jbg jfa jwt jac jng jnl jnm jnv jwm mW r_401 → (((r_401 ≤ x1_398 → (J104 a_399)) ∧
 (¬ (r_401 ≤ x1_398) → (∃ (N_403 : NetM) (E_403 : Nat → Nat → Prop) (B_403 : Nat → Prop), (pr_X7_reachedBut N_403 E_403 B_403 jth jrm jwy jhi jmf jmt jla r_1 jwr jga jlo jmo jli jta jpt jen jbg jfa jwt jac jng jnl jnm jnv jwm mW (1 <<< (x1_398 &&& 31)) (-1) ∧ (∀ (r_403 : Int32), ps_X7_reachedBut N_403 E_403 B_403 jth jrm jwy jhi jmf jmt jla r_1 jwr jga jlo jmo jli jta jpt jen jbg jfa jwt jac jng jnl jnm jnv jwm mW (1 <<< (x1_398 &&& 31)) (-1) r_403 → (∀ J98 : (Nat → Int32) → Prop, (∀ (a_431 : Nat → Int32), (X33 (x1_398 + 1) a_431) → J98 a_431) →
wp_X7_laysGates_L59 jth jrm jwy jhi jmf jmt jla jwr jga jlo jmo jli jta jpt jen jbg jfa jwt jac jng jnl jnm jnv jwm mW r_1 x1_398 r_403 J98 0 a_399)))))))) → X33 x1_398 a_399) → X33 ix1_398 ia_399
def wp_X7_laysGates_L12 (J31 : (Nat → Int32) → Prop) (ix1_444 : Int32) (ia_445 : Nat → Int32) : Prop :=
  ∀ X12 : Int32 → (Nat → Int32) → Prop, (∀ (x1_444 : Int32) (a_445 : Nat → Int32), (((16 ≤ x1_444 → (J31 a_445)) ∧
 (¬ (16 ≤ x1_444) → (vp_in x1_444 16 ∧ (∀ u_449 : Nat → Int32, u_449 = upd a_445 x1_444.toNatClampNeg 0 → (X12 (x1_444 + 1) u_449)))))) → X12 x1_444 a_445) → X12 ix1_444 ia_445
def wp_X7_laysGates (jth jrm jwy jhi jmf jmt jla jre jwr jga jlo jmo jli jta jpt jen jbg jfa jwt jac jng jnl jnm jnv jwm : Int32) (mW mG mP mK : Nat → Int32) (Q : Int32 → (Nat → Int32) → (Nat → Int32) → (Nat → Int32) → Prop) : Prop :=
  ∃ (N_1 : NetM) (E_1 : Nat → Nat → Prop) (B_1 : Nat → Prop), (pr_X7_reachedBut N_1 E_1 B_1 jth jrm jwy jhi jmf jmt jla jre jwr jga jlo jmo jli jta jpt jen jbg jfa jwt jac jng jnl jnm jnv jwm mW 0 (-1) ∧ (∀ (r_1 : Int32), ps_X7_reachedBut N_1 E_1 B_1 jth jrm jwy jhi jmf jmt jla jre jwr jga jlo jmo jli jta jpt jen jbg jfa jwt jac jng jnl jnm jnv jwm mW 0 (-1) r_1 → (∀ J31 : (Nat → Int32) → Prop, (∀ (a_16 : Nat → Int32), (∀ J104 : (Nat → Int32) → Prop, (∀ (a_155 : Nat → Int32), (∀ J155 : (Nat → Int32) → (Nat → Int32) → Prop, (∀ (a_192 : Nat → Int32) (a_193 : Nat → Int32), (∀ J224 : (Nat → Int32) → Prop, (∀ (a_332 : Nat → Int32), (Q r_1 a_155 a_192 a_332) → J224 a_332) →
wp_X7_laysGates_L157 jth jrm jwy jhi jmf jmt jla jwr jga jlo jmo jli jta jpt jen jbg jfa jwt jac jng jnl jnm jnv jwm mW r_1 a_155 a_192 J224 0 a_193) → J155 a_192 a_193) →
wp_X7_laysGates_L106 r_1 a_155 J155 0 mP mK) → J104 a_155) →
wp_X7_laysGates_L33 jth jrm jwy jhi jmf jmt jla jwr jga jlo jmo jli jta jpt jen jbg jfa jwt jac jng jnl jnm jnv jwm mW r_1 J104 0 a_16) → J31 a_16) →
wp_X7_laysGates_L12 J31 0 mG)))
theorem pf_X7_laysGates (N : NetM) (E : Nat → Nat → Prop) (jth jrm jwy jhi jmf jmt jla jre jwr jga jlo jmo jli jta jpt jen jbg jfa jwt jac jng jnl jnm jnv jwm : Int32) (mW mG mP mK : Nat → Int32) (hp : pr_X7_laysGates N E jth jrm jwy jhi jmf jmt jla jre jwr jga jlo jmo jli jta jpt jen jbg jfa jwt jac jng jnl jnm jnv jwm mW mG mP mK) : wp_X7_laysGates jth jrm jwy jhi jmf jmt jla jre jwr jga jlo jmo jli jta jpt jen jbg jfa jwt jac jng jnl jnm jnv jwm mW mG mP mK (ps_X7_laysGates N E jth jrm jwy jhi jmf jmt jla jre jwr jga jlo jmo jli jta jpt jen jbg jfa jwt jac jng jnl jnm jnv jwm mW mG mP mK) := by
  unfold wp_X7_laysGates
  obtain ⟨hN, hE⟩ := hp
  have h16 := hN.1.2.1
  have hr := hN.1.2.2.1
  have hlt : ∀ x, Rd E N.root x → x < N.n := fun x hx => Rs.ind (X := fun x => x < N.n) (fun z s _ => by rw [s]; exact hr) (fun a b _ _ e _ => (hE.lt hN.1 e).2) hx
  have hnd : ∀ r, r = mW 0 → r = nI N.n := fun r q => q.trans hN.2.1
  refine ⟨N, E, fun _ => False, ⟨hN, hE, IsSet.zero⟩, fun r1 h1 J31 hJ31 X12 hX12 => ?_⟩
  have h1 : IsSet r1 (Rd E N.root) := h1
  refine up1 16 (fun k (g : Nat → Int32) => ∀ j, j < k → g j = 0) (fun k g hk hI hh => hX12 _ _ ⟨fun q => absurd q (by rw [n16, leN (by omega) (by omega)]; omega), fun _ => ⟨vp_in_nI hk (by decide), fun u hu => hh _ (fun j hj => ?_)⟩⟩) (fun g hI => hX12 _ _ ⟨fun _ => hJ31 g ?_, fun q => absurd (Int32.le_refl _) q⟩) 0 mG (Nat.zero_le _) (fun j hj => absurd hj (by omega))
  · rw [hu, clN (by omega)]
    by_cases e : j = k
    · subst e; rw [upd_s]
    · rw [upd_n e]; exact hI j (by omega)
  clear hX12
  intro J104 hJ104 X33 hX33
  refine up1 N.n (fun k (a : Nat → Int32) => ∀ x, x < 16 → IsSet (a x) (fun h => h < k ∧ Pd E N.root h x)) (fun k a hk hI hh => hX33 _ _ (fun r2 h2 => ?_)) (fun a hI => hX33 _ _ (fun r2 h2 => ?_)) 0 g (Nat.zero_le _) (fun x hx => by rw [hI x hx]; exact IsSet.zero.congr (fun j _ => ⟨fun q => q.elim, fun q => absurd q.1 (by omega)⟩))
  · rw [hnd r2 h2, leN (by omega) (by omega)]
    refine ⟨fun q => absurd q (by omega), fun _ => ⟨N, E, fun z => z = k, ⟨hN, hE, IsSet.bit (by omega)⟩, fun r3 h3 J98 hJ98 X59 hX59 => ?_⟩⟩
    have hl : IsSet (r1 &&& (r3 ^^^ (-1))) (fun x => Dm E N.root k x) := h1.andNot h3
    refine up1 N.n (fun y (a : Nat → Int32) => ∀ x, x < 16 → IsSet (a x) (fun h => (h < k ∨ (h = k ∧ x < y)) ∧ Pd E N.root h x)) (fun y a hy hI2 hh2 => hX59 _ _ (fun r4 h4 => ?_)) (fun a hI2 => hX59 _ _ (fun r4 h4 => ?_)) 0 a (Nat.zero_le _) (fun x hx => (hI x hx).congr (fun h _ => ⟨fun q => ⟨Or.inl q.1, q.2⟩, fun q => ⟨q.1.elim id (fun z => absurd z.2 (by omega)), q.2⟩⟩))
    · rw [hnd r4 h4, leN (by omega) (by omega)]
      have no : (¬ Pd E N.root k y) → X59 (nI y + 1) a := fun z => hh2 _ (fun x hx => (hI2 x hx).congr (fun h _ => ⟨fun q => ⟨q.1.elim Or.inl (fun w => Or.inr ⟨w.1, by omega⟩), q.2⟩, fun q => ⟨by
          rcases q.1 with w | ⟨w1, w2⟩
          · exact Or.inl w
          · by_cases e : x = y
            · subst e; subst w1; exact absurd q.2 z
            · exact Or.inr ⟨w1, by omega⟩, q.2⟩⟩))
      refine ⟨fun q => absurd q (by omega), fun _ => ⟨fun q => no (fun z => z.1 ((eqN (by omega) (by omega)).mp q).symm), fun q r5 h5 => ⟨fun z => no (fun w => hold_z h5 hl (by omega) z w.2), fun z => ⟨vp_in_nI (by omega) (by decide), fun u hu => hh2 _ (fun x hx => ?_)⟩⟩⟩⟩
      have hP : Pd E N.root k y := ⟨fun e => q (by rw [e]), hold_p h5 hl (by omega) z⟩
      rw [hu, clN (by omega)]
      by_cases e : x = y
      · subst e
        rw [upd_s]
        refine ((hI2 x hx).or (IsSet.bit (k := k) (by omega))).congr (fun h _ => ⟨?_, ?_⟩)
        · rintro (⟨w1, w2⟩ | w)
          · exact ⟨w1.elim Or.inl (fun w => Or.inr ⟨w.1, by omega⟩), w2⟩
          · subst w; exact ⟨Or.inr ⟨rfl, by omega⟩, hP⟩
        · rintro ⟨w1 | ⟨w1, w2⟩, w3⟩
          · exact Or.inl ⟨Or.inl w1, w3⟩
          · exact Or.inr w1
      · rw [upd_n e]
        exact (hI2 x hx).congr (fun h _ => ⟨fun q => ⟨q.1.elim Or.inl (fun w => Or.inr ⟨w.1, by omega⟩), q.2⟩, fun q => ⟨q.1.elim Or.inl (fun w => Or.inr ⟨w.1, by omega⟩), q.2⟩⟩)
    · rw [hnd r4 h4]
      refine ⟨fun _ => hJ98 _ (hh _ (fun x hx => (hI2 x hx).congr (fun h _ => ⟨fun q => ⟨by omega, q.2⟩, fun q => ⟨?_, q.2⟩⟩))), fun q => absurd (Int32.le_refl _) q⟩
      have := hlt x q.2.2.1
      omega
  · rw [hnd r2 h2]
    refine ⟨fun _ => hJ104 a ?_, fun q => absurd (Int32.le_refl _) q⟩
    have hG : ∀ x, x < 16 → IsSet (a x) (fun h => Pd E N.root h x) := fun x hx => (hI x hx).congr (fun h _ => ⟨fun q => q.2, fun q => ⟨hlt _ q.2.Rg, q⟩⟩)
    clear hX33
    intro J155 hJ155 X106 hX106
    refine up2 16 (fun k (p kk : Nat → Int32) => ∀ x, x < k → ((Rd E N.root x → p x = nI (dep E N.root N.n x)) ∧ (¬ Rd E N.root x → p x = -1)) ∧ kk x = -1) (fun k p kk hk hI hh => hX106 _ _ _ ⟨fun q => absurd q (by rw [n16, leN (by omega) (by omega)]; omega), fun _ r3 h3 => ?_⟩) (fun p kk hI => hX106 _ _ _ ⟨fun _ => hJ155 p kk ?_, fun q => absurd (Int32.le_refl _) q⟩) 0 mP mK (Nat.zero_le _) (fun x hx => absurd hx (by omega))
    · rw [clN (by omega)]
      have put : ∀ v u u2, u = upd p k v → u2 = upd kk k (-1) → ((Rd E N.root k → v = nI (dep E N.root N.n k)) ∧ (¬ Rd E N.root k → v = -1)) → X106 (nI k + 1) u u2 := fun v u u2 hu hu2 hv => hh _ _ (fun x hx => by
        rw [hu, hu2]
        by_cases e : x = k
        · subst e; rw [upd_s, upd_s]; exact ⟨hv, rfl⟩
        · rw [upd_n e, upd_n e]; exact hI x (by omega))
      refine ⟨fun z => ⟨vp_in_nI hk (by decide), fun u hu u2 hu2 => put _ u u2 hu hu2 ⟨fun q => absurd q (hold_z h3 h1 hk z), fun _ => rfl⟩⟩, fun z => ⟨vp_in_nI hk (by decide), fun r4 h4 u hu u2 hu2 => put _ u u2 hu hu2 ⟨fun q => ?_, fun q => absurd (hold_p h3 h1 hk z) q⟩⟩⟩
      have h4 : r4 = nI (pc (a k)) := h4
      rw [h4, pc_dep hlt h16 (hG k hk)]
    · clear hX106
      intro J224 hJ224 X157 hX157
      have hP := fun x (hx : x < 16) => (hI x hx).1
      refine up1 N.n (fun k (c : Nat → Int32) => ∀ x, x < 16 → (x < k → (c x = -1 ∧ ∀ g, ¬ Id E N.root g x) ∨ ∃ g, c x = nI g ∧ g < 16 ∧ Id E N.root g x) ∧ (k ≤ x → c x = -1)) (fun k c hk hI hh => hX157 _ _ (fun r3 h3 => ?_)) (fun c hI => hX157 _ _ (fun r3 h3 => ?_)) 0 kk (Nat.zero_le _) (fun x hx => ⟨fun q => absurd q (by omega), fun _ => (hI x hx).2⟩)
      · rw [hnd r3 h3, leN (by omega) (by omega)]
        refine ⟨fun q => absurd q (by omega), fun _ J218 hJ218 X167 hX167 => ?_⟩
        refine up1 N.n (fun y (c : Nat → Int32) => ∀ x, x < 16 → (x < k → (c x = -1 ∧ ∀ g, ¬ Id E N.root g x) ∨ ∃ g, c x = nI g ∧ g < 16 ∧ Id E N.root g x) ∧ (x = k → (c x = -1 ∧ ∀ g, g < y → ¬ Id E N.root g x) ∨ ∃ g, c x = nI g ∧ g < y ∧ Id E N.root g x) ∧ (k < x → c x = -1)) (fun y c hy hI2 hh2 => hX167 _ _ (fun r4 h4 => ?_)) (fun c hI2 => hX167 _ _ (fun r4 h4 => ?_)) 0 c (Nat.zero_le _) (fun x hx => ⟨(hI x hx).1, fun q => Or.inl ⟨(hI x hx).2 (by omega), fun g hg => absurd hg (by omega)⟩, fun q => (hI x hx).2 (by omega)⟩)
        · rw [hnd r4 h4, leN (by omega) (by omega), clN (k := k) (by omega), clN (k := y) (by omega)]
          have no : ¬ Id E N.root y k → X167 (nI y + 1) c := fun z => hh2 _ (fun x hx => ⟨(hI2 x hx).1, fun q => by
            rcases (hI2 x hx).2.1 q with ⟨w1, w2⟩ | ⟨g, w1, w2, w3⟩
            · refine Or.inl ⟨w1, fun g hg => ?_⟩
              by_cases e : g = y
              · subst e; subst q; exact z
              · exact w2 g (by omega)
            · exact Or.inr ⟨g, w1, by omega, w3⟩, (hI2 x hx).2.2⟩)
          refine ⟨fun q => absurd q (by omega), fun _ => ⟨vp_in_nI (by omega) (by decide), fun r5 h5 => ⟨fun z => no (fun w => hold_z h5 (hG k (by omega)) (by omega) z w.1), fun z => ⟨vp_in_nI (by omega) (by decide), ?_⟩⟩⟩⟩
          have hPd := hold_p h5 (hG k (by omega)) (by omega) z
          have hk1 := (hP k (by omega)).1 hPd.2.1
          have hy1 := (hP y (by omega)).1 hPd.2.Rg
          have hdl := dep_lt hlt hPd
          have hdn := dep_n hlt hPd.2.1
          have e1 : nI (dep E N.root N.n k) - 1 = nI (dep E N.root N.n k - 1) := by rw [n1, pk_sub (by omega)]
          rw [hk1, hy1, e1, eqN (by omega) (by omega)]
          have hid := Id_dep hlt hPd
          refine ⟨fun w => no (fun v => w (by have := hid.1 v; omega)), fun w u hu => hh2 _ (fun x hx => ?_)⟩
          rw [hu]
          by_cases e : x = k
          · subst e
            rw [upd_s]
            exact ⟨fun q => absurd q (by omega), fun _ => Or.inr ⟨y, rfl, by omega, hid.2 (by omega)⟩, fun q => absurd q (by omega)⟩
          · rw [upd_n e]
            exact ⟨(hI2 x hx).1, fun q => absurd q e, (hI2 x hx).2.2⟩
        · rw [hnd r4 h4]
          refine ⟨fun _ => hJ218 _ (hh _ (fun x hx => ⟨fun q => ?_, fun q => (hI2 x hx).2.2 (by omega)⟩)), fun q => absurd (Int32.le_refl _) q⟩
          by_cases e : x = k
          · rcases (hI2 x hx).2.1 e with ⟨w1, w2⟩ | ⟨g, w1, w2, w3⟩
            · exact Or.inl ⟨w1, fun g v => w2 g (hlt _ v.1.2.Rg) v⟩
            · exact Or.inr ⟨g, w1, by omega, w3⟩
          · exact (hI2 x hx).1 (by omega)
      · rw [hnd r3 h3]
        refine ⟨fun _ => hJ224 _ ⟨h1, hG, hP, fun x hx => ?_⟩, fun q => absurd (Int32.le_refl _) q⟩
        rcases Nat.lt_or_ge x N.n with q | q
        · exact (hI x hx).1 q
        · exact Or.inl ⟨(hI x hx).2 q, fun g v => by have := hlt x v.1.2.1; omega⟩
