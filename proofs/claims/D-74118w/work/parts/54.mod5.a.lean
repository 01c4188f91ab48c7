/-! flows along arcs, and the fewest that cut (own work) -/
noncomputable def chi (S : Nat → Prop) (x : Nat) : Int := @ite _ (S x) (Classical.propDecidable _) 1 0
theorem chi_1 {S : Nat → Prop} {x : Nat} (h : S x) : chi S x = 1 := if_pos h
theorem chi_0 {S : Nat → Prop} {x : Nat} (h : ¬ S x) : chi S x = 0 := if_neg h
noncomputable def sgF (N : NetM) (S : Nat → Prop) (f : Nat → Int32) : Nat → Int
  | 0 => 0
  | m + 1 => sgF N S f m + if f m = 1 then chi S (N.fr m) - chi S (N.to m) else 0
theorem sgF_s (N : NetM) (S : Nat → Prop) (f : Nat → Int32) (m : Nat) : sgF N S f (m + 1) = sgF N S f m + if f m = 1 then chi S (N.fr m) - chi S (N.to m) else 0 := rfl
theorem sgF_congr {N : NetM} {S : Nat → Prop} {f g : Nat → Int32} : ∀ m, (∀ a, a < m → f a = g a) → sgF N S f m = sgF N S g m
  | 0, _ => rfl
  | m + 1, h => by rw [sgF_s, sgF_s, sgF_congr m (fun a ha => h a (by omega)), h m (by omega)]
theorem sgF_up {N : NetM} {S : Nat → Prop} {f : Nat → Int32} {b : Nat} (h0 : f b = 0) : ∀ m, b < m → sgF N S (upd f b 1) m = sgF N S f m + (chi S (N.fr b) - chi S (N.to b))
  | 0, h => absurd h (by omega)
  | m + 1, h => by
    rw [sgF_s, sgF_s]
    by_cases e : b = m
    · subst e
      rw [upd_s, if_pos rfl, h0, if_neg (by decide), sgF_congr (g := f) b (fun a ha => upd_n (by omega))]
      omega
    · rw [sgF_up h0 m (by omega), upd_n (by omega)]; omega
theorem sgF_dn {N : NetM} {S : Nat → Prop} {f : Nat → Int32} {b : Nat} (h1 : f b = 1) : ∀ m, b < m → sgF N S (upd f b 0) m = sgF N S f m - (chi S (N.fr b) - chi S (N.to b))
  | 0, h => absurd h (by omega)
  | m + 1, h => by
    rw [sgF_s, sgF_s]
    by_cases e : b = m
    · subst e
      rw [upd_s, if_neg (by decide), h1, if_pos rfl, sgF_congr (g := f) b (fun a ha => upd_n (by omega))]
      omega
    · rw [sgF_dn h1 m (by omega), upd_n (by omega)]; omega
def FlowA (N : NetM) (V k : Nat) (f : Nat → Int32) : Prop := (∀ a, a < N.m → f a = 0 ∨ (f a = 1 ∧ N.op a = true)) ∧ ∀ S : Nat → Prop, S N.root → ¬ S V → sgF N S f N.m = k
theorem sgF_le {N : NetM} {S : Nat → Prop} {f : Nat → Int32} : ∀ m, (∀ a, a < m → f a = 0 ∨ (f a = 1 ∧ N.op a = true)) → sgF N S f m ≤ (cutA N S m : Nat)
  | 0, _ => Int.le_refl _
  | m + 1, h => by
    have ih := sgF_le (S := S) m (fun a ha => h a (by omega))
    rw [sgF_s]
    have hc : cutA N S m ≤ cutA N S (m + 1) := by
      unfold cutA
      by_cases q : N.op m = true ∧ S (N.fr m) ∧ ¬ S (N.to m)
      · rw [cnt_s q]; omega
      · rw [cnt_n q]; omega
    rcases h m (by omega) with e | ⟨e, ho⟩
    · rw [e, if_neg (by decide)]; omega
    · rw [if_pos e]
      by_cases a : S (N.fr m)
      · by_cases b : S (N.to m)
        · rw [chi_1 a, chi_1 b]; omega
        · have : cutA N S (m + 1) = cutA N S m + 1 := by unfold cutA; exact cnt_s ⟨ho, a, b⟩
          rw [chi_1 a, chi_0 b]; omega
      · by_cases b : S (N.to m)
        · rw [chi_0 a, chi_1 b]; omega
        · rw [chi_0 a, chi_0 b]; omega
def ClosedA (N : NetM) (f : Nat → Int32) (S : Nat → Prop) : Prop := ∀ a, a < N.m → N.op a = true → (f a = 0 → S (N.fr a) → S (N.to a)) ∧ (f a = 1 → S (N.to a) → S (N.fr a))
theorem sgF_eq {N : NetM} {S : Nat → Prop} {f : Nat → Int32} (hc : ClosedA N f S) : ∀ m, m ≤ N.m → (∀ a, a < m → f a = 0 ∨ (f a = 1 ∧ N.op a = true)) → sgF N S f m = (cutA N S m : Nat)
  | 0, _, _ => rfl
  | m + 1, hm, h => by
    have ih := sgF_eq hc m (by omega) (fun a ha => h a (by omega))
    have hs : ∀ p : Nat, cutA N S (m + 1) = cutA N S m + p → (cutA N S (m + 1) : Int) = (cutA N S m : Int) + (p : Int) := fun p e => by rw [e]; rfl
    have yes : N.op m = true ∧ S (N.fr m) ∧ ¬ S (N.to m) → cutA N S (m + 1) = cutA N S m + 1 := fun q => by unfold cutA; exact cnt_s q
    have no : ¬ (N.op m = true ∧ S (N.fr m) ∧ ¬ S (N.to m)) → cutA N S (m + 1) = cutA N S m + 0 := fun q => by unfold cutA; exact cnt_n q
    rw [sgF_s, ih]
    rcases h m (by omega) with e | ⟨e, ho⟩
    · rw [e, if_neg (by decide), hs 0 (no (fun q => q.2.2 ((hc m (by omega) q.1).1 e q.2.1)))]; rfl
    · rw [if_pos e]
      by_cases a : S (N.fr m)
      · by_cases b : S (N.to m)
        · rw [chi_1 a, chi_1 b, hs 0 (no (fun q => q.2.2 b))]; rfl
        · rw [chi_1 a, chi_0 b, hs 1 (yes ⟨ho, a, b⟩)]; rfl
      · rw [hs 0 (no (fun q => a q.2.1))]
        by_cases b : S (N.to m)
        · exact absurd ((hc m (by omega) ho).2 e b) a
        · rw [chi_0 a, chi_0 b]; rfl
theorem FlowA.cut {N : NetM} {V k : Nat} {f : Nat → Int32} (h : FlowA N V k f) {S : Nat → Prop} (h1 : S N.root) (h2 : ¬ S V) (hc : ClosedA N f S) : CutArc N V k := by
  refine ⟨⟨S, h1, h2, ?_⟩, fun S' q1 q2 => ?_⟩
  · have a := h.2 S h1 h2
    have b := sgF_eq hc N.m (Nat.le_refl _) h.1
    omega
  · have a := h.2 S' q1 q2
    have b := sgF_le (S := S') N.m h.1
    omega
theorem FlowA.le {N : NetM} {V k : Nat} {f : Nat → Int32} (h : FlowA N V k f) (hV : V ≠ N.root) : k ≤ N.m := by
  have a := h.2 (fun x => x = N.root) rfl hV
  have b := sgF_le (S := fun x => x = N.root) N.m h.1
  have c : cutA N (fun x => x = N.root) N.m ≤ N.m := cnt_le _ _
  omega
theorem FlowA.zero {N : NetM} {V : Nat} {f : Nat → Int32} (h : ∀ a, a < N.m → f a = 0) : FlowA N V 0 f := by
  refine ⟨fun a ha => Or.inl (h a ha), fun S _ _ => ?_⟩
  have : ∀ m, m ≤ N.m → sgF N S f m = 0 := by
    intro m
    induction m with
    | zero => exact fun _ => rfl
    | succ m ih => intro hm; rw [sgF_s, ih (by omega), h m (by omega), if_neg (by decide)]; rfl
  exact this N.m (Nat.le_refl _)
/-- by which arc a node came in, one gone along back or not -/
def ParI (N : NetM) (f : Nat → Int32) (S : Nat → Prop) (c : Nat → Int32) (rk : Nat → Nat) (T : Nat) : Prop := (∀ x, S x → x < N.n ∧ rk x < T) ∧ S N.root ∧ ∀ x, S x → x ≠ N.root → ∃ a, a < N.m ∧ N.op a = true ∧ c x = nI a ∧ ∃ u, S u ∧ rk u < rk x ∧ ((f a = 0 ∧ N.fr a = u ∧ N.to a = x) ∨ (f a = 1 ∧ N.to a = u ∧ N.fr a = x))
theorem ParI.add {N : NetM} {f : Nat → Int32} {S : Nat → Prop} {c : Nat → Int32} {rk : Nat → Nat} {T a u x : Nat} (h : ParI N f S c rk T) (ha : a < N.m) (ho : N.op a = true) (hu : S u) (hx : ¬ S x) (hn : x < N.n) (hd : (f a = 0 ∧ N.fr a = u ∧ N.to a = x) ∨ (f a = 1 ∧ N.to a = u ∧ N.fr a = x)) : ParI N f (fun z => S z ∨ z = x) (upd c x (nI a)) (fun z => if z = x then T else rk z) (T + 1) := by
  have hne : ∀ z, S z → z ≠ x := fun z q e => hx (by rw [← e]; exact q)
  refine ⟨fun z q => ?_, Or.inl h.2.1, fun z q nr => ?_⟩
  · rcases q with q | q
    · exact ⟨(h.1 z q).1, by show (if z = x then T else rk z) < T + 1; rw [if_neg (hne z q)]; have := (h.1 z q).2; omega⟩
    · subst q; exact ⟨hn, by show (if z = z then T else rk z) < T + 1; rw [if_pos rfl]; omega⟩
  · by_cases e : z = x
    · subst e
      refine ⟨a, ha, ho, upd_s, u, Or.inl hu, ?_, hd⟩
      show (if u = z then T else rk u) < (if z = z then T else rk z)
      rw [if_neg (hne u hu), if_pos rfl]
      exact (h.1 u hu).2
    · have q := q.resolve_right e
      obtain ⟨b, b1, b2, b3, w, b4, b5, b6⟩ := h.2.2 z q nr
      refine ⟨b, b1, b2, by rw [upd_n e]; exact b3, w, Or.inl b4, ?_, b6⟩
      show (if w = x then T else rk w) < (if z = x then T else rk z)
      rw [if_neg (hne w b4), if_neg e]
      exact b5
/-! sets as numbers -/
theorem set_ex16 (W : Nat → Prop) : ∃ s : Int32, IsSet s W := by
  obtain ⟨x, h⟩ := set_ex W 16 (Nat.le_refl _)
  exact ⟨x, h.congr (fun k hk => ⟨fun w => w.2, fun w => ⟨hk, w⟩⟩)⟩
theorem InnerIs.uniq {E : Nat → Nat → Prop} {ro n v m : Nat} {r r' : Int32} (h : InnerIs E ro n v m r) (h' : InnerIs E ro n v m r') : r = r' := by
  rcases h with ⟨a1, a2⟩ | ⟨a, a1, a2, a3, a4, a5⟩ <;> rcases h' with ⟨b1, b2⟩ | ⟨b, b1, b2, b3, b4, b5⟩
  · rw [a1, b1]
  · exact absurd ⟨b3, b4⟩ (a2 b b2)
  · exact absurd ⟨a3, a4⟩ (b2 a a2)
  · have e : a = b := by
      rcases a5 b b2 b3 b4 with q | q <;> rcases b5 a a2 a3 a4 with w | w <;> omega
    rw [a1, b1, e]
theorem shl_pow : ∀ n, n < 17 → (1 : Int32) <<< (nI n &&& 31) = nI (2 ^ n) := by decide +kernel
theorem btn {k i : Nat} (hi : i < 32) : bt (nI k) i = k.testBit i := by
  show ((BitVec.ofNat 32 k)).getLsbD i = k.testBit i
  rw [BitVec.getLsbD_ofNat]
  simp [hi]
theorem set_nI {k n : Nat} (hn : n ≤ 16) (hk : k < 2 ^ n) : IsSet (nI k) (fun x => bt (nI k) x = true) ∧ ∀ x, bt (nI k) x = true → x < n := by
  have lt : ∀ x, bt (nI k) x = true → x < n := by
    intro x hx
    by_cases h32 : x < 32
    · rw [btn h32] at hx
      apply Classical.byContradiction
      intro q
      have : k < 2 ^ x := Nat.lt_of_lt_of_le hk (Nat.pow_le_pow_right (by omega) (by omega))
      rw [Nat.testBit_lt_two_pow this] at hx
      exact absurd hx (by decide)
    · have : bt (nI k) x = false := BitVec.getLsbD_of_ge _ _ (by omega)
      rw [this] at hx
      exact absurd hx (by decide)
  exact ⟨fun x hx => ⟨fun q => ⟨by have := lt x q; omega, q⟩, fun q => q.2⟩, lt⟩
theorem num_set {W : Nat → Prop} {n : Nat} (hn : n ≤ 16) (hW : ∀ x, W x → x < n) : ∃ k, k < 2 ^ n ∧ ∀ x, bt (nI k) x = true ↔ W x := by
  obtain ⟨s, hs⟩ : ∃ s : Int32, IsSet s W := set_ex16 W
  refine ⟨s.toBitVec.toNat, ?_, ?_⟩
  · apply Nat.lt_pow_two_of_testBit
    intro i hi
    by_cases h32 : i < 32
    · have e : s.toBitVec.toNat.testBit i = bt s i := rfl
      rw [e]
      apply Bool.eq_false_iff.2
      intro q
      have := hW i ((hs i h32).1 q).2
      omega
    · exact Nat.testBit_lt_two_pow (Nat.lt_of_lt_of_le s.toBitVec.isLt (Nat.pow_le_pow_right (by omega) (by omega)))
  · intro x
    have e : nI s.toBitVec.toNat = s := by
      apply b_ext
      intro i hi
      rw [btn hi]; rfl
    rw [e]
    by_cases h32 : x < 32
    · exact ⟨fun q => ((hs x h32).1 q).2, fun q => (hs x h32).2 ⟨by have := hW x q; omega, q⟩⟩
    · have : bt s x = false := BitVec.getLsbD_of_ge _ _ (by omega)
      rw [this]
      exact ⟨fun q => absurd q (by decide), fun q => by have := hW x q; omega⟩
theorem Sep.congr {N : NetM} {v : Nat} {W W' : Nat → Prop} (h : ∀ x, W x ↔ W' x) (hs : Sep N v W) : Sep N v W' :=
  ⟨fun x q => hs.1 x ((h x).2 q), fun q => hs.2 ((Rs.congr (fun _ _ => Iff.rfl) (fun _ => Iff.rfl) (fun x => (h x).symm)).2 q)⟩
theorem Sep.all {N : NetM} {v : Nat} (hv : v ≠ N.root) (he : ¬ N.E N.root v) : Sep N v (fun x => x < N.n ∧ x ≠ N.root ∧ x ≠ v) ∨ ¬ (v < N.n ∧ N.ok) := by
  by_cases q : v < N.n ∧ N.ok
  · refine Or.inl ⟨fun x q => q, fun w => ?_⟩
    have : v = N.root := Rs.ind (X := fun x => x = N.root) (fun a e _ => e) (fun a b _ ih e nw => by
      subst ih
      apply Classical.byContradiction
      intro hb
      by_cases hbv : b = v
      · subst hbv; exact he e
      · exact nw ⟨(NetM.E_lt q.2 e).2, hb, hbv⟩) w
    exact hv this
  · exact Or.inr q
/-! mod5: contracts, pure predicates (printed by gen.py) -/
def pr_X7_flows (N : NetM) (V k0 : Nat) (jth jrm jwy jhi jmf jmt jla jre jwr jga jlo jmo jli jta jpt jen jbg jfa jwt jac jng jnl jnm jnv jwm : Int32) (mW mF mC : Nat → Int32) (v : Int32) : Prop := NetW N mW ∧ FlowA N V k0 mF ∧ V ≠ N.root ∧ v = nI V ∧ V < N.n
def ps_X7_flows (N : NetM) (V k0 : Nat) (jth jrm jwy jhi jmf jmt jla jre jwr jga jlo jmo jli jta jpt jen jbg jfa jwt jac jng jnl jnm jnv jwm : Int32) (mW mF mC : Nat → Int32) (v : Int32) (r : Int32) (mF' mC' : Nat → Int32) : Prop := (r = 1 ∧ FlowA N V (k0 + 1) mF') ∨ (r = 0 ∧ mF' = mF ∧ CutArc N V k0)
def wp_X7_flows_L208 (jth jrm jwy jhi jmf jmt jla jre jwr jga jlo jmo jli jta jpt jen jbg jfa jwt jac jng jnl jnm jnv jwm : Int32) (mW a_966 : Nat → Int32) (J296 : (Nat → Int32) → Prop) (ix4_1029 : Int32) (ia_1030 : Nat → Int32) : Prop :=
  ∀ X208 : Int32 → (Nat → Int32) → Prop, (∀ (x4_1029 : Int32) (a_1030 : Nat → Int32), (∀ (r_1032 : Int32), ps_X7_root jth jrm jwy jhi jmf jmt jla jre jwr jga jlo jmo jli jta jpt jen jbg jfa jwt jac jng jnl jnm jnv jwm mW r_1032 → (((x4_1029 = r_1032 → (J296 a_1030)) ∧
 (¬ (x4_1029 = r_1032) → (vp_in x4_1029 16 ∧ (∃ (N_1035 : NetM) (K_1035 : Nat), (pr_X7_toOf N_1035 K_1035 jth jrm jwy jhi jmf jmt jla jre jwr jga jlo jmo jli jta jpt jen jbg jfa jwt jac jng jnl jnm jnv jwm mW (a_966 x4_1029.toNatClampNeg) ∧ (∀ (r_1035 : Int32), ps_X7_toOf N_1035 K_1035 jth jrm jwy jhi jmf jmt jla jre jwr jga jlo jmo jli jta jpt jen jbg jfa jwt jac jng jnl jnm jnv jwm mW (a_966 x4_1029.toNatClampNeg) r_1035 → (((¬ r_1035 = x4_1029 → (∀ J270 : Prop, ((vp_in (a_966 x4_1029.toNatClampNeg) 60 ∧ (∀ u_1038 : Nat → Int32, u_1038 = upd a_1030 (a_966 x4_1029.toNatClampNeg).toNatClampNeg 0 → (∃ (N_1039 : NetM) (K_1039 : Nat), (pr_X7_toOf N_1039 K_1039 jth jrm jwy jhi jmf jmt jla jre jwr jga jlo jmo jli jta jpt jen jbg jfa jwt jac jng jnl jnm jnv jwm mW (a_966 x4_1029.toNatClampNeg) ∧ (∀ (r_1039 : Int32), ps_X7_toOf N_1039 K_1039 jth jrm jwy jhi jmf jmt jla jre jwr jga jlo jmo jli jta jpt jen jbg jfa jwt jac jng jnl jnm jnv jwm mW (a_966 x4_1029.toNatClampNeg) r_1039 → (X208 r_1039 u_1038)))))) → J270) →
J270)) ∧
 (r_1035 = x4_1029 → (vp_in (a_966 x4_1029.toNatClampNeg) 60 ∧ (((¬ (a_1030 (a_966 x4_1029.toNatClampNeg).toNatClampNeg) = 0 → (∀ J270 : Prop, ((∀ u_1043 : Nat → Int32, u_1043 = upd a_1030 (a_966 x4_1029.toNatClampNeg).toNatClampNeg 0 → (∃ (N_1044 : NetM) (K_1044 : Nat), (pr_X7_toOf N_1044 K_1044 jth jrm jwy jhi jmf jmt jla jre jwr jga jlo jmo jli jta jpt jen jbg jfa jwt jac jng jnl jnm jnv jwm mW (a_966 x4_1029.toNatClampNeg) ∧ (∀ (r_1044 : Int32), ps_X7_toOf N_1044 K_1044 jth jrm jwy jhi jmf jmt jla jre jwr jga jlo jmo jli jta jpt jen jbg jfa jwt jac jng jnl jnm jnv jwm mW (a_966 x4_1029.toNatClampNeg) r_1044 → (X208 r_1044 u_1043))))) → J270) →
J270)) ∧
 ((a_1030 (a_966 x4_1029.toNatClampNeg).toNatClampNeg) = 0 → (∀ J270 : Prop, ((∀ u_1046 : Nat → Int32, u_1046 = upd a_1030 (a_966 x4_1029.toNatClampNeg).toNatClampNeg 1 → (∃ (N_1047 : NetM) (K_1047 : Nat), (pr_X7_fromOf N_1047 K_1047 jth jrm jwy jhi jmf jmt jla jre jwr jga jlo jmo jli jta jpt jen jbg jfa jwt jac jng jnl jnm jnv jwm mW (a_966 x4_1029.toNatClampNeg) ∧ (∀ (r_1047 : Int32), ps_X7_fromOf N_1047 K_1047 jth jrm jwy jhi jmf jmt jla jre jwr jga jlo jmo jli jta jpt jen jbg jfa jwt jac jng jnl jnm jnv jwm mW (a_966 x4_1029.toNatClampNeg) r_1047 → (X208 r_1047 u_1046))))) → J270) →
J270)))))))))))))))) → X208 x4_1029 a_1030) → X208 ix4_1029 ia_1030
def wp_X7_flows_L27 (jth jrm jwy jhi jmf jmt jla jre jwr jga jlo jmo jli jta jpt jen jbg jfa jwt jac jng jnl jnm jnv jwm : Int32) (mW mF : Nat → Int32) (J192 : Int32 → (Nat → Int32) → Prop) (ix4_1293 ix2_1294 : Int32) (ia_1295 : Nat → Int32) : Prop :=
  ∀ X27 : Int32 → Int32 → (Nat → Int32) → Prop, (∀ (x4_1293 : Int32) (x2_1294 : Int32) (a_1295 : Nat → Int32), (∀ (r_1297 : Int32), ps_X7_arcs jth jrm jwy jhi jmf jmt jla jre jwr jga jlo jmo jli jta jpt jen jbg jfa jwt jac jng jnl jnm jnv jwm mW r_1297 → (((r_1297 ≤ x4_1293 → (J192 x2_1294 a_1295)) ∧
 (¬ (r_1297 ≤ x4_1293) → (∃ (N_1299 : NetM) (K_1299 : Nat), (pr_X7_isOpen N_1299 K_1299 jth jrm jwy jhi jmf jmt jla jre jwr jga jlo jmo jli jta jpt jen jbg jfa jwt jac jng jnl jnm jnv jwm mW x4_1293 ∧ (∀ (r_1299 : Int32), ps_X7_isOpen N_1299 K_1299 jth jrm jwy jhi jmf jmt jla jre jwr jga jlo jmo jli jta jpt jen jbg jfa jwt jac jng jnl jnm jnv jwm mW x4_1293 r_1299 → (((¬ r_1299 = 0 → (vp_in x4_1293 60 ∧ (∀ J89 : Int32 → Prop, (∀ (t_1309 : Int32), (∀ J132 : Prop, ((∀ J148 : Prop, ((∀ J168 : Int32 → Prop, (∀ (t_1334 : Int32), (vp_in t_1334 16 ∧ (∀ u_1336 : Nat → Int32, u_1336 = upd a_1295 t_1334.toNatClampNeg x4_1293 → (X27 (x4_1293 + 1) (x2_1294 ||| (1 <<< (t_1334 &&& 31))) u_1336))) → J168 t_1334) →
((t_1309 = 0 → (∃ (N_1339 : NetM) (K_1339 : Nat), (pr_X7_fromOf N_1339 K_1339 jth jrm jwy jhi jmf jmt jla jre jwr jga jlo jmo jli jta jpt jen jbg jfa jwt jac jng jnl jnm jnv jwm mW x4_1293 ∧ (∀ (r_1339 : Int32), ps_X7_fromOf N_1339 K_1339 jth jrm jwy jhi jmf jmt jla jre jwr jga jlo jmo jli jta jpt jen jbg jfa jwt jac jng jnl jnm jnv jwm mW x4_1293 r_1339 → (J168 r_1339))))) ∧
 (¬ (t_1309 = 0) → (∃ (N_1340 : NetM) (K_1340 : Nat), (pr_X7_toOf N_1340 K_1340 jth jrm jwy jhi jmf jmt jla jre jwr jga jlo jmo jli jta jpt jen jbg jfa jwt jac jng jnl jnm jnv jwm mW x4_1293 ∧ (∀ (r_1340 : Int32), ps_X7_toOf N_1340 K_1340 jth jrm jwy jhi jmf jmt jla jre jwr jga jlo jmo jli jta jpt jen jbg jfa jwt jac jng jnl jnm jnv jwm mW x4_1293 r_1340 → (J168 r_1340))))))) → J148) →
((¬ t_1309 = 0 → (J148)) ∧
 (t_1309 = 0 → (X27 (x4_1293 + 1) x2_1294 a_1295)))) → J132) →
((¬ (mF x4_1293.toNatClampNeg) = 1 → (J132)) ∧
 ((mF x4_1293.toNatClampNeg) = 1 → (∃ (N_1345 : NetM) (K_1345 : Nat), (pr_X7_toOf N_1345 K_1345 jth jrm jwy jhi jmf jmt jla jre jwr jga jlo jmo jli jta jpt jen jbg jfa jwt jac jng jnl jnm jnv jwm mW x4_1293 ∧ (∀ (r_1345 : Int32), ps_X7_toOf N_1345 K_1345 jth jrm jwy jhi jmf jmt jla jre jwr jga jlo jmo jli jta jpt jen jbg jfa jwt jac jng jnl jnm jnv jwm mW x4_1293 r_1345 → (∀ (r_1346 : Int32), ps_X7_holds x2_1294 r_1345 r_1346 → (((r_1346 = 0 → (J132)) ∧
 (¬ (r_1346 = 0) → (∃ (N_1348 : NetM) (K_1348 : Nat), (pr_X7_fromOf N_1348 K_1348 jth jrm jwy jhi jmf jmt jla jre jwr jga jlo jmo jli jta jpt jen jbg jfa jwt jac jng jnl jnm jnv jwm mW x4_1293 ∧ (∀ (r_1348 : Int32), ps_X7_fromOf N_1348 K_1348 jth jrm jwy jhi jmf jmt jla jre jwr jga jlo jmo jli jta jpt jen jbg jfa jwt jac jng jnl jnm jnv jwm mW x4_1293 r_1348 → (∀ (r_1349 : Int32), ps_X7_holds x2_1294 r_1348 r_1349 → (((¬ r_1349 = 0 → (J132)) ∧
 (r_1349 = 0 → (∀ J148 : Prop, ((∀ J168 : Int32 → Prop, (∀ (t_1355 : Int32), (vp_in t_1355 16 ∧ (∀ u_1357 : Nat → Int32, u_1357 = upd a_1295 t_1355.toNatClampNeg x4_1293 → (X27 (x4_1293 + 1) (x2_1294 ||| (1 <<< (t_1355 &&& 31))) u_1357))) → J168 t_1355) →
((t_1309 = 0 → (∃ (N_1360 : NetM) (K_1360 : Nat), (pr_X7_fromOf N_1360 K_1360 jth jrm jwy jhi jmf jmt jla jre jwr jga jlo jmo jli jta jpt jen jbg jfa jwt jac jng jnl jnm jnv jwm mW x4_1293 ∧ (∀ (r_1360 : Int32), ps_X7_fromOf N_1360 K_1360 jth jrm jwy jhi jmf jmt jla jre jwr jga jlo jmo jli jta jpt jen jbg jfa jwt jac jng jnl jnm jnv jwm mW x4_1293 r_1360 → (J168 r_1360))))) ∧
 (¬ (t_1309 = 0) → (∃ (N_1361 : NetM) (K_1361 : Nat), (pr_X7_toOf N_1361 K_1361 jth jrm jwy jhi jmf jmt jla jre jwr jga jlo jmo jli jta jpt jen jbg jfa jwt jac jng jnl jnm jnv jwm mW x4_1293 ∧ (∀ (r_1361 : Int32), ps_X7_toOf N_1361 K_1361 jth jrm jwy jhi jmf jmt jla jre jwr jga jlo jmo jli jta jpt jen jbg jfa jwt jac jng jnl jnm jnv jwm mW x4_1293 r_1361 → (J168 r_1361))))))) → J148) →
((¬ t_1309 = 0 → (J148)) ∧
 (t_1309 = 0 → (J148))))))))))))))))))))) → J89 t_1309) →
((¬ (mF x4_1293.toNatClampNeg) = 0 → (J89 0)) ∧
 ((mF x4_1293.toNatClampNeg) = 0 → (∃ (N_1366 : NetM) (K_1366 : Nat), (pr_X7_fromOf N_1366 K_1366 jth jrm jwy jhi jmf jmt jla jre jwr jga jlo jmo jli jta jpt jen jbg jfa jwt jac jng jnl jnm jnv jwm mW x4_1293 ∧ (∀ (r_1366 : Int32), ps_X7_fromOf N_1366 K_1366 jth jrm jwy jhi jmf jmt jla jre jwr jga jlo jmo jli jta jpt jen jbg jfa jwt jac jng jnl jnm jnv jwm mW x4_1293 r_1366 → (∀ (r_1367 : Int32), ps_X7_holds x2_1294 r_1366 r_1367 → (((r_1367 = 0 → (J89 0)) ∧
 (¬ (r_1367 = 0) → (∃ (N_1369 : NetM) (K_1369 : Nat), (pr_X7_toOf N_1369 K_1369 jth jrm jwy jhi jmf jmt jla jre jwr jga jlo jmo jli jta jpt jen jbg jfa jwt jac jng jnl jnm jnv jwm mW x4_1293 ∧ (∀ (r_1369 : Int32), ps_X7_toOf N_1369 K_1369 jth jrm jwy jhi jmf jmt jla jre jwr jga jlo jmo jli jta jpt jen jbg jfa jwt jac jng jnl jnm jnv jwm mW x4_1293 r_1369 → (∀ (r_1370 : Int32), ps_X7_holds x2_1294 r_1369 r_1370 → (((¬ r_1370 = 0 → (J89 0)) ∧
 (r_1370 = 0 → (J89 1)))))))))))))))))))) ∧
 (r_1299 = 0 → (X27 (x4_1293 + 1) x2_1294 a_1295))))))))))) → X27 x4_1293 x2_1294 a_1295) → X27 ix4_1293 ix2_1294 ia_1295
def wp_X7_flows_L9 (jth jrm jwy jhi jmf jmt jla jre jwr jga jlo jmo jli jta jpt jen jbg jfa jwt jac jng jnl jnm jnv jwm : Int32) (mW mF : Nat → Int32) (v : Int32) (J195 : Int32 → (Nat → Int32) → Prop) (ix3_1050 ix2_1051 : Int32) (ia_1052 : Nat → Int32) : Prop :=
  ∀ X9 : Int32 → Int32 → (Nat → Int32) → Prop, (∀ (x3_1050 : Int32) (x2_1051 : Int32) (a_1052 : Nat → Int32), (((x2_1051 = x3_1050 → (J195 x2_1051 a_1052)) ∧
 (¬ (x2_1051 = x3_1050) → (∀ (r_1055 : Int32), ps_X7_holds x2_1051 v r_1055 → (((¬ r_1055 = 0 → (J195 x2_1051 a_1052)) ∧
 (r_1055 = 0 → (∀ J192 : Int32 → (Nat → Int32) → Prop, (∀ (x2_1290 : Int32) (a_1291 : Nat → Int32), (X9 x2_1051 x2_1290 a_1291) → J192 x2_1290 a_1291) →
wp_X7_flows_L27 jth jrm jwy jhi jmf jmt jla jre jwr jga jlo jmo jli jta jpt jen jbg jfa jwt jac jng jnl jnm jnv jwm mW mF J192 0 x2_1051 a_1052)))))))) → X9 x3_1050 x2_1051 a_1052) → X9 ix3_1050 ix2_1051 ia_1052
def wp_X7_flows (jth jrm jwy jhi jmf jmt jla jre jwr jga jlo jmo jli jta jpt jen jbg jfa jwt jac jng jnl jnm jnv jwm : Int32) (mW mF mC : Nat → Int32) (v : Int32) (Q : Int32 → (Nat → Int32) → (Nat → Int32) → Prop) : Prop :=
  ∀ (r_1 : Int32), ps_X7_root jth jrm jwy jhi jmf jmt jla jre jwr jga jlo jmo jli jta jpt jen jbg jfa jwt jac jng jnl jnm jnv jwm mW r_1 → (∀ J195 : Int32 → (Nat → Int32) → Prop, (∀ (x2_965 : Int32) (a_966 : Nat → Int32), (∀ (r_967 : Int32), ps_X7_holds x2_965 v r_967 → (((¬ r_967 = 0 → (∀ J296 : (Nat → Int32) → Prop, (∀ (a_1027 : Nat → Int32), (Q 1 a_1027 a_966) → J296 a_1027) →
wp_X7_flows_L208 jth jrm jwy jhi jmf jmt jla jre jwr jga jlo jmo jli jta jpt jen jbg jfa jwt jac jng jnl jnm jnv jwm mW a_966 J296 v mF)) ∧
 (r_967 = 0 → (Q 0 mF a_966))))) → J195 x2_965 a_966) →
wp_X7_flows_L9 jth jrm jwy jhi jmf jmt jla jre jwr jga jlo jmo jli jta jpt jen jbg jfa jwt jac jng jnl jnm jnv jwm mW mF v J195 0 (1 <<< (r_1 &&& 31)) mC)
theorem pf_X7_flows (N : NetM) (V k0 : Nat) (jth jrm jwy jhi jmf jmt jla jre jwr jga jlo jmo jli jta jpt jen jbg jfa jwt jac jng jnl jnm jnv jwm : Int32) (mW mF mC : Nat → Int32) (v : Int32) (hp : pr_X7_flows N V k0 jth jrm jwy jhi jmf jmt jla jre jwr jga jlo jmo jli jta jpt jen jbg jfa jwt jac jng jnl jnm jnv jwm mW mF mC v) : wp_X7_flows jth jrm jwy jhi jmf jmt jla jre jwr jga jlo jmo jli jta jpt jen jbg jfa jwt jac jng jnl jnm jnv jwm mW mF mC v (ps_X7_flows N V k0 jth jrm jwy jhi jmf jmt jla jre jwr jga jlo jmo jli jta jpt jen jbg jfa jwt jac jng jnl jnm jnv jwm mW mF mC v) := by
  unfold wp_X7_flows
  obtain ⟨hN, hF, hVr, rfl, hV⟩ := hp
  have h16 := hN.1.2.1
  have h60 := hN.1.2.2.2.2.1
  have hro := hN.1.2.2.1
  intro r1 h1 J195 hJ195
  rw [rtW hN h1]
  -- how it ends
  have fin : ∀ (s : Int32) (c : Nat → Int32) (S : Nat → Prop) (rk : Nat → Nat) (T : Nat), IsSet s S → ParI N mF S c rk T → (¬ S V → ClosedA N mF S) → J195 s c := by
    intro s c S rk T hs hP hc
    refine hJ195 s c (fun r2 h2 => ⟨fun y J296 hJ296 X hX => ?_, fun y => Or.inr ⟨rfl, rfl, hF.cut hP.2.1 (hold_z h2 hs (by omega) y) (hc (hold_z h2 hs (by omega) y))⟩⟩)
    have hSV := hold_p h2 hs (by omega) y
    have key := dn1 (X := fun p : Int32 × (Nat → Int32) => X p.1 p.2) (fun p => ∃ x, p.1 = nI x ∧ S x ∧ (∀ a, a < N.m → p.2 a = 0 ∨ (p.2 a = 1 ∧ N.op a = true)) ∧ (∀ S' : Nat → Prop, S' N.root → ¬ S' V → sgF N S' p.2 N.m = (k0 : Int) + chi S' x) ∧ ∀ z, S z → rk z ≤ rk x → z ≠ N.root → ∀ a, a < N.m → c z = nI a → p.2 a = mF a) (fun p => rk p.1.toNatClampNeg) (fun p hp hh => ?_) (nI V, mF) ⟨V, rfl, hSV, hF.1, fun S' q1 q2 => by rw [hF.2 S' q1 q2, chi_0 q2, Int.add_zero], fun _ _ _ _ _ _ _ => rfl⟩
    · exact key
    · obtain ⟨at_, g⟩ := p
      obtain ⟨x, rfl, hx, hg, hs2, hsame⟩ := hp
      have hxn := (hP.1 x hx).1
      refine hX _ _ (fun r3 h3 => ?_)
      rw [rtW hN h3, eqN (by omega) (by omega)]
      refine ⟨fun e => hJ296 _ (Or.inl ⟨rfl, hg, fun S' q1 q2 => by rw [hs2 S' q1 q2, e, chi_1 q1]; rfl⟩), fun ne => ?_⟩
      obtain ⟨a, ha, ho, hca, u, hu, hru, hd⟩ := hP.2.2 x hx ne
      have hun := (hP.1 u hu).1
      have hga : g a = mF a := hsame x hx (Nat.le_refl _) ne a ha hca
      have hne : ∀ z, S z → rk z ≤ rk u → z ≠ N.root → ∀ b, b < N.m → c z = nI b → b ≠ a := by
        intro z hz hr hzr b hb hcb e
        subst e
        obtain ⟨b', b1, _, b3, w, _, _, b6⟩ := hP.2.2 z hz hzr
        have eb : b' = b := (eqN (by omega) (by omega)).mp (b3.symm.trans hcb)
        subst eb
        rcases hd with ⟨d1, d2, d3⟩ | ⟨d1, d2, d3⟩ <;> rcases b6 with ⟨c1, c2, c3⟩ | ⟨c1, c2, c3⟩
        · have : z = x := c3.symm.trans d3
          subst this; omega
        · exact absurd (d1.symm.trans c1) (by decide)
        · exact absurd (d1.symm.trans c1) (by decide)
        · have : z = x := c3.symm.trans d3
          subst this; omega
      have nxt : ∀ (t : Int32), (t = 0 ∨ (t = 1 ∧ N.op a = true)) → (∀ S' : Nat → Prop, sgF N S' (upd g a t) N.m = sgF N S' g N.m + (chi S' u - chi S' x)) → X (nI u) (upd g a t) := by
        intro t ht hsg
        refine hh (nI u, upd g a t) ⟨u, rfl, hu, fun b hb => ?_, fun S' q1 q2 => ?_, fun z hz hr hzr b hb hcb => ?_⟩ ?_
        · show upd g a t b = 0 ∨ (upd g a t b = 1 ∧ N.op b = true)
          by_cases e : b = a
          · subst e; rw [upd_s]; exact ht
          · rw [upd_n e]; exact hg b hb
        · show sgF N S' (upd g a t) N.m = _
          rw [hsg S', hs2 S' q1 q2]; omega
        · show upd g a t b = mF b
          rw [upd_n (hne z hz hr hzr b hb hcb)]
          exact hsame z hz (by omega) hzr b hb hcb
        · show rk (nI u).toNatClampNeg < rk (nI x).toNatClampNeg
          rw [clN (by omega), clN (by omega)]; exact hru
      rw [clN (k := x) (by omega), hca, clN (k := a) (by omega)]
      refine ⟨vp_in_nI (by omega) (by decide), N, a, ⟨hN, rfl, ha⟩, fun r4 h4 => ?_⟩
      have h4 : r4 = nI (N.to a) := h4
      have harc := hN.1.2.2.2.2.2.1 a ha
      rw [h4, eqN (by omega) (by omega)]
      refine ⟨fun nt J hJ => hJ ⟨vp_in_nI (by omega) (by decide), fun g2 hg2 => ⟨N, a, ⟨hN, rfl, ha⟩, fun r5 h5 => ?_⟩⟩, fun et => ⟨vp_in_nI (by omega) (by decide), fun nz => ?_, fun ez J hJ => hJ (fun g2 hg2 => ⟨N, a, ⟨hN, rfl, ha⟩, fun r5 h5 => ?_⟩)⟩⟩
      · have h5 : r5 = nI (N.to a) := h5
        rcases hd with ⟨d1, d2, d3⟩ | ⟨d1, d2, d3⟩
        · exact absurd d3 nt
        · rw [h5, d2, hg2]
          exact nxt 0 (Or.inl rfl) (fun S' => by rw [sgF_dn (hga.trans d1) N.m ha, d2, d3]; omega)
      · rcases hd with ⟨d1, d2, d3⟩ | ⟨d1, d2, d3⟩
        · exact absurd (hga.trans d1) nz
        · exact absurd hru (by rw [show u = x from d2.symm.trans et]; exact Nat.lt_irrefl _)
      · have h5 : r5 = nI (N.fr a) := h5
        rcases hd with ⟨d1, d2, d3⟩ | ⟨d1, d2, d3⟩
        · rw [h5, d2, hg2]
          exact nxt 1 (Or.inr ⟨rfl, ho⟩) (fun S' => by rw [sgF_up (hga.trans d1) N.m ha, d2, d3])
        · exact absurd hru (by rw [show u = x from d2.symm.trans et]; exact Nat.lt_irrefl _)
  intro X hX
  have key := dn1 (X := fun p : Int32 × Int32 × (Nat → Int32) => X p.1 p.2.1 p.2.2) (fun p => ∃ S rk T, IsSet p.2.1 S ∧ ParI N mF S p.2.2 rk T ∧ (p.2.1 = p.1 → ClosedA N mF S)) (fun p => 2 * (16 - pc p.2.1) + if p.2.1 = p.1 then 0 else 1) (fun p hp hh => ?_) (0, (1 : Int32) <<< (nI N.root &&& 31), mC) ⟨fun z => z = N.root, fun _ => 0, 1, IsSet.bit (by omega), ⟨fun x q => ⟨by rw [q]; exact hro, Nat.zero_lt_one⟩, rfl, fun x q1 q2 => absurd q1 q2⟩, fun e => absurd rfl ((IsSet.bit (k := N.root) (by omega)).eq0.1 e N.root (by omega))⟩
  · exact key
  · obtain ⟨was, s0, c0⟩ := p
    obtain ⟨S0, rk0, T0, hs0, hP0, hc0⟩ := hp
    refine hX _ _ _ ⟨fun e => fin s0 c0 S0 rk0 T0 hs0 hP0 (fun _ => hc0 e), fun ne r2 h2 => ⟨fun y => fin s0 c0 S0 rk0 T0 hs0 hP0 (fun q => absurd (hold_p h2 hs0 (by omega) y) q), fun y J192 hJ192 X27 hX27 => ?_⟩⟩
    refine up2 N.m (fun k s (c : Nat → Int32) => ∃ S rk T, IsSet s S ∧ ParI N mF S c rk T ∧ (∀ x, S0 x → S x) ∧ ((∀ x, S x → S0 x) → ∀ a, a < k → N.op a = true → (mF a = 0 → S0 (N.fr a) → S0 (N.to a)) ∧ (mF a = 1 → S0 (N.to a) → S0 (N.fr a)))) (fun k s c hk hI hh2 => hX27 _ _ _ (fun r3 h3 => ?_)) (fun s c hI => hX27 _ _ _ (fun r3 h3 => ?_)) 0 s0 c0 (Nat.zero_le _) ⟨S0, rk0, T0, hs0, hP0, fun _ q => q, fun _ a ha => absurd ha (by omega)⟩
    · rw [mnW hN h3, leN (by omega) (by omega)]
      obtain ⟨S, rk, T, hs, hP, hsub, hcl⟩ := hI
      have harc := hN.1.2.2.2.2.2.1 k hk
      have hfr : pr_X7_fromOf N k jth jrm jwy jhi jmf jmt jla jre jwr jga jlo jmo jli jta jpt jen jbg jfa jwt jac jng jnl jnm jnv jwm mW (nI k) := ⟨hN, rfl, hk⟩
      have hto : pr_X7_toOf N k jth jrm jwy jhi jmf jmt jla jre jwr jga jlo jmo jli jta jpt jen jbg jfa jwt jac jng jnl jnm jnv jwm mW (nI k) := ⟨hN, rfl, hk⟩
      have no : ((∀ x, S x → S0 x) → N.op k = true → (mF k = 0 → S0 (N.fr k) → S0 (N.to k)) ∧ (mF k = 1 → S0 (N.to k) → S0 (N.fr k))) → X27 (nI k + 1) s c := fun q => hh2 _ _ ⟨S, rk, T, hs, hP, hsub, fun e a ha => by
        by_cases e2 : a = k
        · subst e2; exact q e
        · exact hcl e a (by omega)⟩
      have hit : ∀ u x, S u → ¬ S x → x < N.n → N.op k = true → ((mF k = 0 ∧ N.fr k = u ∧ N.to k = x) ∨ (mF k = 1 ∧ N.to k = u ∧ N.fr k = x)) → X27 (nI k + 1) (s ||| ((1 : Int32) <<< (nI x &&& 31))) (upd c x (nI k)) := fun u x h1 h2 h3 h4 h5 => hh2 _ _ ⟨_, _, _, hs.or (IsSet.bit (by omega)), hP.add hk h4 h1 h2 h3 h5, fun z q => Or.inl (hsub z q), fun e => absurd (hsub x (e x (Or.inr rfl))) h2⟩
      refine ⟨fun q => absurd q (by omega), fun _ => ⟨N, k, ⟨hN, rfl, hk⟩, fun r4 h4 => ⟨fun yo => ⟨vp_in_nI (by omega) (by decide), ?_⟩, fun yo => no (fun _ w => absurd w (no_i1 h4 yo))⟩⟩⟩
      have hop := of_i1 h4 yo
      have h01 := hF.1 k hk
      rw [clN (by omega)]
      intro J89 hJ89
      -- 'forth' is t
      have put : ∀ t : Int32, ((t = 1 ∧ mF k = 0 ∧ S (N.fr k) ∧ ¬ S (N.to k)) ∨ (t = 0 ∧ ¬ (mF k = 0 ∧ S (N.fr k) ∧ ¬ S (N.to k)))) → J89 t := by
        intro t ht
        refine hJ89 t (fun J132 hJ132 => ?_)
        -- neither, or forth
        have nb : ¬ (mF k = 1 ∧ S (N.to k) ∧ ¬ S (N.fr k)) → J132 := fun hb => hJ132 (fun J148 hJ148 => by
          rcases ht with ⟨t1, f1, f2, f3⟩ | ⟨t0, nf⟩
          · refine ⟨fun _ => hJ148 (fun J168 hJ168 => ⟨fun q => absurd (t1.symm.trans q) (by decide), fun _ => ⟨N, k, hto, fun r5 h5 => hJ168 _ ?_⟩⟩), fun q => absurd (t1.symm.trans q) (by decide)⟩
            have h5 : r5 = nI (N.to k) := h5
            rw [h5, clN (by omega)]
            refine ⟨vp_in_nI (by omega) (by decide), fun u hu => ?_⟩
            rw [hu]
            exact hit (N.fr k) (N.to k) f2 f3 harc.2 hop (Or.inl ⟨f1, rfl, rfl⟩)
          · refine ⟨fun q => absurd t0 q, fun _ => no (fun e _ => ⟨fun q1 q2 => ?_, fun q1 q2 => ?_⟩)⟩
            · exact e _ (Classical.byContradiction (fun q3 => nf ⟨q1, hsub _ q2, q3⟩))
            · exact e _ (Classical.byContradiction (fun q3 => hb ⟨q1, hsub _ q2, q3⟩)))
        refine ⟨fun n1 => nb (fun w => n1 w.1), fun f1 => ⟨N, k, hto, fun r5 h5 r6 h6 => ?_⟩⟩
        have h5 : r5 = nI (N.to k) := h5
        subst h5
        refine ⟨fun y1 => nb (fun w => hold_z h6 hs (by omega) y1 w.2.1), fun y1 => ⟨N, k, hfr, fun r7 h7 r8 h8 => ?_⟩⟩
        have h7 : r7 = nI (N.fr k) := h7
        subst h7
        refine ⟨fun y2 => nb (fun w => w.2.2 (hold_p h8 hs (by omega) y2)), fun y2 J148 hJ148 => ?_⟩
        have t0 : t = 0 := by
          rcases ht with ⟨_, f0, _⟩ | ⟨t0, _⟩
          · exact absurd (f0.symm.trans f1) (by decide)
          · exact t0
        have go := hJ148 (fun J168 hJ168 => ⟨fun _ => ⟨N, k, hfr, fun r9 h9 => hJ168 _ (by
          have h9 : r9 = nI (N.fr k) := h9
          rw [h9, clN (by omega)]
          refine ⟨vp_in_nI (by omega) (by decide), fun u hu => ?_⟩
          rw [hu]
          exact hit (N.to k) (N.fr k) (hold_p h6 hs (by omega) y1) (hold_z h8 hs (by omega) y2) harc.1 hop (Or.inr ⟨f1, rfl, rfl⟩))⟩, fun q => absurd t0 q⟩)
        exact ⟨fun q => absurd t0 q, fun _ => go⟩
      refine ⟨fun n0 => put 0 (Or.inr ⟨rfl, fun w => n0 w.1⟩), fun f0 => ⟨N, k, hfr, fun r5 h5 r6 h6 => ?_⟩⟩
      have h5 : r5 = nI (N.fr k) := h5
      subst h5
      refine ⟨fun y1 => put 0 (Or.inr ⟨rfl, fun w => hold_z h6 hs (by omega) y1 w.2.1⟩), fun y1 => ⟨N, k, hto, fun r7 h7 r8 h8 => ?_⟩⟩
      have h7 : r7 = nI (N.to k) := h7
      subst h7
      exact ⟨fun y2 => put 0 (Or.inr ⟨rfl, fun w => w.2.2 (hold_p h8 hs (by omega) y2)⟩), fun y2 => put 1 (Or.inl ⟨rfl, f0, hold_p h6 hs (by omega) y1, hold_z h8 hs (by omega) y2⟩)⟩
    · rw [mnW hN h3]
      obtain ⟨S, rk, T, hs, hP, hsub, hcl⟩ := hI
      refine ⟨fun _ => hJ192 _ _ (hh (_, _, _) ⟨S, rk, T, hs, hP, fun e => ?_⟩ ?_), fun q => absurd (Int32.le_refl _) q⟩
      · have e : s = s0 := e
        have heq : ∀ x, S x → S0 x := fun x q => by
          have hx := (hP.1 x q).1
          have := (hs x (by omega)).2 ⟨by omega, q⟩
          rw [e] at this
          exact ((hs0 x (by omega)).1 this).2
        intro a ha ho
        have := hcl heq a ha ho
        exact ⟨fun q1 q2 => hsub _ (this.1 q1 (heq _ q2)), fun q1 q2 => hsub _ (this.2 q1 (heq _ q2))⟩
      · show 2 * (16 - pc s) + (if s = s0 then 0 else 1) < 2 * (16 - pc s0) + if s0 = was then 0 else 1
        rw [if_neg ne]
        by_cases e : s = s0
        · rw [if_pos e, e]; omega
        · rw [if_neg e, pc_set hs, pc_set hs0]
          have h1 : cnt 16 S0 < cnt 16 S := by
            apply Classical.byContradiction
            intro hq
            apply e
            refine hs.uniq (hs0.congr (fun x hx => ⟨hsub x, fun q => ?_⟩))
            apply Classical.byContradiction
            intro q2
            exact hq (cnt_lt hx (fun k _ w => hsub k w) q2 q)
          have h2 := cnt_le 16 S
          omega
def pr_X7_hardOf (N : NetM) (V : Nat) (jth jrm jwy jhi jmf jmt jla jre jwr jga jlo jmo jli jta jpt jen jbg jfa jwt jac jng jnl jnm jnv jwm : Int32) (mW mF mC : Nat → Int32) (v : Int32) : Prop := NetW N mW ∧ v = nI V ∧ V < N.n
def ps_X7_hardOf (N : NetM) (V : Nat) (jth jrm jwy jhi jmf jmt jla jre jwr jga jlo jmo jli jta jpt jen jbg jfa jwt jac jng jnl jnm jnv jwm : Int32) (mW mF mC : Nat → Int32) (v : Int32) (r : Int32) (mF' mC' : Nat → Int32) : Prop := HardIs N V r
def wp_X7_hardOf_L34 (jth jrm jwy jhi jmf jmt jla jre jwr jga jlo jmo jli jta jpt jen jbg jfa jwt jac jng jnl jnm jnv jwm : Int32) (mW : Nat → Int32) (v : Int32) (J48 : Int32 → (Nat → Int32) → (Nat → Int32) → Prop) (ix2_37 : Int32) (ia_38 ia_39 : Nat → Int32) : Prop :=
  ∀ X34 : Int32 → (Nat → Int32) → (Nat → Int32) → Prop, (∀ (x2_37 : Int32) (a_38 : Nat → Int32) (a_39 : Nat → Int32), (∃ (N_41 : NetM) (V_41 k0_41 : Nat), (pr_X7_flows N_41 V_41 k0_41 jth jrm jwy jhi jmf jmt jla jre jwr jga jlo jmo jli jta jpt jen jbg jfa jwt jac jng jnl jnm jnv jwm mW a_38 a_39 v ∧ (∀ (r_41 : Int32) (mF_41 mC_41 : Nat → Int32), ps_X7_flows N_41 V_41 k0_41 jth jrm jwy jhi jmf jmt jla jre jwr jga jlo jmo jli jta jpt jen jbg jfa jwt jac jng jnl jnm jnv jwm mW a_38 a_39 v r_41 mF_41 mC_41 → (((r_41 = 0 → (J48 x2_37 mF_41 mC_41)) ∧
 (¬ (r_41 = 0) → (X34 (x2_37 + 1) mF_41 mC_41))))))) → X34 x2_37 a_38 a_39) → X34 ix2_37 ia_38 ia_39
def wp_X7_hardOf_L13 (J32 : (Nat → Int32) → Prop) (ix2_44 : Int32) (ia_45 : Nat → Int32) : Prop :=
  ∀ X13 : Int32 → (Nat → Int32) → Prop, (∀ (x2_44 : Int32) (a_45 : Nat → Int32), (((60 ≤ x2_44 → (J32 a_45)) ∧
 (¬ (60 ≤ x2_44) → (vp_in x2_44 60 ∧ (∀ u_49 : Nat → Int32, u_49 = upd a_45 x2_44.toNatClampNeg 0 → (X13 (x2_44 + 1) u_49)))))) → X13 x2_44 a_45) → X13 ix2_44 ia_45
def wp_X7_hardOf (jth jrm jwy jhi jmf jmt jla jre jwr jga jlo jmo jli jta jpt jen jbg jfa jwt jac jng jnl jnm jnv jwm : Int32) (mW mF mC : Nat → Int32) (v : Int32) (Q : Int32 → (Nat → Int32) → (Nat → Int32) → Prop) : Prop :=
  ∀ (r_1 : Int32), ps_X7_root jth jrm jwy jhi jmf jmt jla jre jwr jga jlo jmo jli jta jpt jen jbg jfa jwt jac jng jnl jnm jnv jwm mW r_1 → (((¬ v = r_1 → (∀ J32 : (Nat → Int32) → Prop, (∀ (a_17 : Nat → Int32), (∀ J48 : Int32 → (Nat → Int32) → (Nat → Int32) → Prop, (∀ (x2_33 : Int32) (a_34 : Nat → Int32) (a_35 : Nat → Int32), (Q x2_33 a_34 a_35) → J48 x2_33 a_34 a_35) →
wp_X7_hardOf_L34 jth jrm jwy jhi jmf jmt jla jre jwr jga jlo jmo jli jta jpt jen jbg jfa jwt jac jng jnl jnm jnv jwm mW v J48 0 a_17 mC) → J32 a_17) →
wp_X7_hardOf_L13 J32 0 mF)) ∧
 (v = r_1 → (Q 99 mF mC))))
theorem pf_X7_hardOf (N : NetM) (V : Nat) (jth jrm jwy jhi jmf jmt jla jre jwr jga jlo jmo jli jta jpt jen jbg jfa jwt jac jng jnl jnm jnv jwm : Int32) (mW mF mC : Nat → Int32) (v : Int32) (hp : pr_X7_hardOf N V jth jrm jwy jhi jmf jmt jla jre jwr jga jlo jmo jli jta jpt jen jbg jfa jwt jac jng jnl jnm jnv jwm mW mF mC v) : wp_X7_hardOf jth jrm jwy jhi jmf jmt jla jre jwr jga jlo jmo jli jta jpt jen jbg jfa jwt jac jng jnl jnm jnv jwm mW mF mC v (ps_X7_hardOf N V jth jrm jwy jhi jmf jmt jla jre jwr jga jlo jmo jli jta jpt jen jbg jfa jwt jac jng jnl jnm jnv jwm mW mF mC v) := by
  unfold wp_X7_hardOf
  obtain ⟨hN, rfl, hV⟩ := hp
  have h16 := hN.1.2.1
  have h60 := hN.1.2.2.2.2.1
  have hro := hN.1.2.2.1
  intro r1 h1
  rw [rtW hN h1, eqN (by omega) (by omega)]
  refine ⟨fun ne J32 hJ32 X hX => ?_, fun e => Or.inl ⟨e, rfl⟩⟩
  refine up1 60 (fun k (a : Nat → Int32) => ∀ j, j < k → a j = 0) (fun k a hk hI hh => hX _ _ ⟨fun q => absurd q (by rw [show (60 : Int32) = nI 60 from rfl, leN (by omega) (by omega)]; omega), fun _ => ⟨vp_in_nI hk (by decide), fun u hu => hh _ (fun j hj => ?_)⟩⟩) (fun a hI => hX _ _ ⟨fun _ => hJ32 a (fun J48 hJ48 X34 hX34 => ?_), fun q => absurd (Int32.le_refl _) q⟩) 0 mF (Nat.zero_le _) (fun j hj => absurd hj (by omega))
  · rw [hu, clN (by omega)]
    by_cases e : j = k
    · subst e; rw [upd_s]
    · rw [upd_n e]; exact hI j (by omega)
  · have key := dn1 (X := fun p : Int32 × (Nat → Int32) × (Nat → Int32) => X34 p.1 p.2.1 p.2.2) (fun p : Int32 × (Nat → Int32) × (Nat → Int32) => ∃ k, p.1 = nI k ∧ FlowA N V k p.2.1) (fun p : Int32 × (Nat → Int32) × (Nat → Int32) => 61 - p.1.toNatClampNeg) (fun p hp hh => ?_) (0, a, mC) ⟨0, rfl, FlowA.zero (fun j hj => hI j (by omega))⟩
    · exact key
    · obtain ⟨x, f, c⟩ := p
      obtain ⟨k, rfl, hF⟩ := hp
      have hk := hF.le ne
      refine hX34 _ _ _ ⟨N, V, k, ⟨hN, hF, ne, rfl, hV⟩, fun r f' c' h => ⟨fun z => hJ48 _ _ _ ?_, fun z => hh (_, _, _) ⟨k + 1, nI_1 k, ?_⟩ ?_⟩⟩
      · rcases h with ⟨q, _⟩ | ⟨_, _, q⟩
        · exact absurd (q.symm.trans z) (by decide)
        · exact Or.inr ⟨ne, k, by omega, rfl, q⟩
      · rcases h with ⟨_, q⟩ | ⟨q, _⟩
        · exact q
        · exact absurd q z
      · show 61 - (nI k + 1).toNatClampNeg < 61 - (nI k).toNatClampNeg
        rw [nI_1, clN (by omega), clN (by omega)]
        omega
def pr_X7_wallOf (N : NetM) (V : Nat) (jth jrm jwy jhi jmf jmt jla jre jwr jga jlo jmo jli jta jpt jen jbg jfa jwt jac jng jnl jnm jnv jwm : Int32) (mW : Nat → Int32) (v : Int32) : Prop := NetW N mW ∧ jmf = -1 ∧ jla = -1 ∧ v = nI V ∧ V < N.n
def ps_X7_wallOf (N : NetM) (V : Nat) (jth jrm jwy jhi jmf jmt jla jre jwr jga jlo jmo jli jta jpt jen jbg jfa jwt jac jng jnl jnm jnv jwm : Int32) (mW : Nat → Int32) (v : Int32) (r : Int32)  : Prop := WallIs N V r
def wp_X7_wallOf_L87 (jth jrm jwy jhi jmf jmt jla jre jwr jga jlo jmo jli jta jpt jen jbg jfa jwt jac jng jnl jnm jnv jwm : Int32) (mW : Nat → Int32) (v r_36 r_37 : Int32) (J145 : Int32 → Prop) (ix4_74 ix3_75 : Int32) : Prop :=
  ∀ X87 : Int32 → Int32 → Prop, (∀ (x4_74 : Int32) (x3_75 : Int32), (∀ (r_77 : Int32), ps_X7_nodes jth jrm jwy jhi jmf jmt jla jre jwr jga jlo jmo jli jta jpt jen jbg jfa jwt jac jng jnl jnm jnv jwm mW r_77 → (((((1 : Int32) <<< (r_77 &&& 31)) ≤ x4_74 → (J145 x3_75)) ∧
 (¬ (((1 : Int32) <<< (r_77 &&& 31)) ≤ x4_74) → ((¬ (x4_74 &&& ((((((1 : Int32) <<< (r_36 &&& 31)) - 1) &&& (((1 : Int32) <<< (v &&& 31)) ^^^ (-1))) &&& (((1 : Int32) <<< (r_37 &&& 31)) ^^^ (-1))) ^^^ (-1))) = 0 → (X87 (x4_74 + 1) x3_75)) ∧
 ((x4_74 &&& ((((((1 : Int32) <<< (r_36 &&& 31)) - 1) &&& (((1 : Int32) <<< (v &&& 31)) ^^^ (-1))) &&& (((1 : Int32) <<< (r_37 &&& 31)) ^^^ (-1))) ^^^ (-1))) = 0 → (∀ (r_80 : Int32), ps_X7_bits x4_74 r_80 → (((r_80 < x3_75 → (∃ (N_82 : NetM) (E_82 : Nat → Nat → Prop) (B_82 : Nat → Prop), (pr_X7_reachedBut N_82 E_82 B_82 jth jrm jwy jhi jmf jmt jla jre jwr jga jlo jmo jli jta jpt jen jbg jfa jwt jac jng jnl jnm jnv jwm mW x4_74 (-1) ∧ (∀ (r_82 : Int32), ps_X7_reachedBut N_82 E_82 B_82 jth jrm jwy jhi jmf jmt jla jre jwr jga jlo jmo jli jta jpt jen jbg jfa jwt jac jng jnl jnm jnv jwm mW x4_74 (-1) r_82 → (∀ (r_83 : Int32), ps_X7_holds r_82 v r_83 → (((¬ r_83 = 0 → (X87 (x4_74 + 1) x3_75)) ∧
 (r_83 = 0 → (∀ (r_85 : Int32), ps_X7_bits x4_74 r_85 → (X87 (x4_74 + 1) r_85)))))))))) ∧
 (¬ (r_80 < x3_75) → (X87 (x4_74 + 1) x3_75))))))))))) → X87 x4_74 x3_75) → X87 ix4_74 ix3_75
def wp_X7_wallOf_L12 (jth jrm jwy jhi jmf jmt jla jre jwr jga jlo jmo jli jta jpt jen jbg jfa jwt jac jng jnl jnm jnv jwm : Int32) (mW : Nat → Int32) (v : Int32) (J49 J57 : Prop) (ix2_87 : Int32) : Prop :=
  ∀ X12 : Int32 → Prop, (∀ (x2_87 : Int32), (∀ (r_89 : Int32), ps_X7_arcs jth jrm jwy jhi jmf jmt jla jre jwr jga jlo jmo jli jta jpt jen jbg jfa jwt jac jng jnl jnm jnv jwm mW r_89 → (((r_89 ≤ x2_87 → (J57)) ∧
 (¬ (r_89 ≤ x2_87) → (∃ (N_91 : NetM) (K_91 : Nat), (pr_X7_isOpen N_91 K_91 jth jrm jwy jhi jmf jmt jla jre jwr jga jlo jmo jli jta jpt jen jbg jfa jwt jac jng jnl jnm jnv jwm mW x2_87 ∧ (∀ (r_91 : Int32), ps_X7_isOpen N_91 K_91 jth jrm jwy jhi jmf jmt jla jre jwr jga jlo jmo jli jta jpt jen jbg jfa jwt jac jng jnl jnm jnv jwm mW x2_87 r_91 → (((r_91 = 0 → (X12 (x2_87 + 1))) ∧
 (¬ (r_91 = 0) → (∃ (N_93 : NetM) (K_93 : Nat), (pr_X7_fromOf N_93 K_93 jth jrm jwy jhi jmf jmt jla jre jwr jga jlo jmo jli jta jpt jen jbg jfa jwt jac jng jnl jnm jnv jwm mW x2_87 ∧ (∀ (r_93 : Int32), ps_X7_fromOf N_93 K_93 jth jrm jwy jhi jmf jmt jla jre jwr jga jlo jmo jli jta jpt jen jbg jfa jwt jac jng jnl jnm jnv jwm mW x2_87 r_93 → (∀ (r_94 : Int32), ps_X7_root jth jrm jwy jhi jmf jmt jla jre jwr jga jlo jmo jli jta jpt jen jbg jfa jwt jac jng jnl jnm jnv jwm mW r_94 → (((¬ r_93 = r_94 → (X12 (x2_87 + 1))) ∧
 (r_93 = r_94 → (∃ (N_96 : NetM) (K_96 : Nat), (pr_X7_toOf N_96 K_96 jth jrm jwy jhi jmf jmt jla jre jwr jga jlo jmo jli jta jpt jen jbg jfa jwt jac jng jnl jnm jnv jwm mW x2_87 ∧ (∀ (r_96 : Int32), ps_X7_toOf N_96 K_96 jth jrm jwy jhi jmf jmt jla jre jwr jga jlo jmo jli jta jpt jen jbg jfa jwt jac jng jnl jnm jnv jwm mW x2_87 r_96 → (((¬ r_96 = v → (X12 (x2_87 + 1))) ∧
 (r_96 = v → (J49)))))))))))))))))))))))) → X12 x2_87) → X12 ix2_87
def wp_X7_wallOf (jth jrm jwy jhi jmf jmt jla jre jwr jga jlo jmo jli jta jpt jen jbg jfa jwt jac jng jnl jnm jnv jwm : Int32) (mW : Nat → Int32) (v : Int32) (Q : Int32 → Prop) : Prop :=
  ∀ (r_1 : Int32), ps_X7_root jth jrm jwy jhi jmf jmt jla jre jwr jga jlo jmo jli jta jpt jen jbg jfa jwt jac jng jnl jnm jnv jwm mW r_1 → (((¬ v = r_1 → (∀ J49 : Prop, ((Q (-1)) → J49) →
∀ J57 : Prop, ((∀ (r_36 : Int32), ps_X7_nodes jth jrm jwy jhi jmf jmt jla jre jwr jga jlo jmo jli jta jpt jen jbg jfa jwt jac jng jnl jnm jnv jwm mW r_36 → (∀ (r_37 : Int32), ps_X7_root jth jrm jwy jhi jmf jmt jla jre jwr jga jlo jmo jli jta jpt jen jbg jfa jwt jac jng jnl jnm jnv jwm mW r_37 → (∀ J145 : Int32 → Prop, (∀ (x3_72 : Int32), (Q x3_72) → J145 x3_72) →
wp_X7_wallOf_L87 jth jrm jwy jhi jmf jmt jla jre jwr jga jlo jmo jli jta jpt jen jbg jfa jwt jac jng jnl jnm jnv jwm mW v r_36 r_37 J145 0 16))) → J57) →
wp_X7_wallOf_L12 jth jrm jwy jhi jmf jmt jla jre jwr jga jlo jmo jli jta jpt jen jbg jfa jwt jac jng jnl jnm jnv jwm mW v J49 J57 0)) ∧
 (v = r_1 → (Q (-1)))))
theorem pf_X7_wallOf (N : NetM) (V : Nat) (jth jrm jwy jhi jmf jmt jla jre jwr jga jlo jmo jli jta jpt jen jbg jfa jwt jac jng jnl jnm jnv jwm : Int32) (mW : Nat → Int32) (v : Int32) (hp : pr_X7_wallOf N V jth jrm jwy jhi jmf jmt jla jre jwr jga jlo jmo jli jta jpt jen jbg jfa jwt jac jng jnl jnm jnv jwm mW v) : wp_X7_wallOf jth jrm jwy jhi jmf jmt jla jre jwr jga jlo jmo jli jta jpt jen jbg jfa jwt jac jng jnl jnm jnv jwm mW v (ps_X7_wallOf N V jth jrm jwy jhi jmf jmt jla jre jwr jga jlo jmo jli jta jpt jen jbg jfa jwt jac jng jnl jnm jnv jwm mW v) := by
  unfold wp_X7_wallOf
  obtain ⟨hN, rfl, rfl, rfl, hV⟩ := hp
  have h16 := hN.1.2.1
  have h60 := hN.1.2.2.2.2.1
  have hro := hN.1.2.2.1
  intro r1 h1
  rw [rtW hN h1, eqN (by omega) (by omega)]
  refine ⟨fun ne J49 hJ49 J57 hJ57 X hX => ?_, fun e => Or.inl ⟨Or.inl e, rfl⟩⟩
  refine up0 N.m (fun k => ∀ j, j < k → N.op j = true → N.fr j = N.root → ¬ N.to j = V) (fun k hk hI hh => hX _ (fun r2 h2 => ?_)) (fun hI => hX _ (fun r2 h2 => ?_)) 0 (Nat.zero_le _) (fun j hj => absurd hj (by omega))
  · rw [mnW hN h2, leN (by omega) (by omega)]
    have harc := hN.1.2.2.2.2.2.1 k hk
    have no : (N.op k = true → N.fr k = N.root → ¬ N.to k = V) → X (nI k + 1) := fun q => hh (fun j hj => by
      by_cases e : j = k
      · subst e; exact q
      · exact hI j (by omega))
    refine ⟨fun z => absurd z (by omega), fun _ => ⟨N, k, ⟨hN, rfl, hk⟩, fun r4 h4 => ⟨fun y => no (fun w => absurd w (no_i1 h4 y)), fun y4 => ⟨N, k, ⟨hN, rfl, hk⟩, fun r5 h5 r6 h6 => ?_⟩⟩⟩⟩
    have h5 : r5 = nI (N.fr k) := h5
    rw [h5, rtW hN h6, eqN (by omega) (by omega)]
    refine ⟨fun w => no (fun _ w2 => absurd w2 w), fun e => ⟨N, k, ⟨hN, rfl, hk⟩, fun r7 h7 => ?_⟩⟩
    have h7 : r7 = nI (N.to k) := h7
    rw [h7, eqN (by omega) (by omega)]
    exact ⟨fun w => no (fun _ _ => w), fun w => hJ49 (Or.inl ⟨Or.inr ⟨k, hk, of_i1 h4 y4, e, w⟩, rfl⟩)⟩
  · rw [mnW hN h2]
    refine ⟨fun _ => hJ57 (fun r3 h3 r4 h4 J145 hJ145 X87 hX87 => ?_), fun z => absurd (Int32.le_refl _) z⟩
    have hE : ¬ N.E N.root V := fun ⟨j, a, b, c, d⟩ => hI j a b c d
    rw [ndW hN h3, rtW hN h4] at hX87
    have hlow : IsSet (((1 : Int32) <<< (nI N.n &&& 31)) - 1) (fun j => j < N.n) := fun j hj => by
      rw [low_k N.n (by omega) j hj]
      exact ⟨fun q => ⟨by have := of_decide_eq_true q; omega, of_decide_eq_true q⟩, fun q => decide_eq_true q.2⟩
    rw [shl_pow N.n (by omega)] at hlow
    have hO := (hlow.andNot (IsSet.bit (k := V) (by omega))).andNot (IsSet.bit (k := N.root) (by omega))
    have p16 : 2 ^ N.n ≤ 2 ^ 16 := Nat.pow_le_pow_right (by omega) h16
    refine up1 (2 ^ N.n) (fun k (l : Int32) => ∃ L, l = nI L ∧ L ≤ 16 ∧ (L = 16 ∨ ∃ W, Sep N V W ∧ cnt 16 W = L) ∧ ∀ j, j < k → Sep N V (fun x => bt (nI j) x = true) → L ≤ cnt 16 (fun x => bt (nI j) x = true)) (fun k l hk hI hh => hX87 _ _ (fun r5 h5 => ?_)) (fun l hI => hX87 _ _ (fun r5 h5 => ?_)) 0 16 (Nat.zero_le _) ⟨16, rfl, Nat.le_refl _, Or.inl rfl, fun j hj => absurd hj (by omega)⟩
    · rw [ndW hN h5, shl_pow N.n (by omega), leN (by omega) (by omega)]
      obtain ⟨L, rfl, hL, hex, hmin⟩ := hI
      obtain ⟨hset, hlt⟩ := set_nI h16 hk
      have no : (Sep N V (fun x => bt (nI k) x = true) → L ≤ cnt 16 (fun x => bt (nI k) x = true)) → X87 (nI k + 1) (nI L) := fun q => hh _ ⟨L, rfl, hL, hex, fun j hj => by
        by_cases e : j = k
        · subst e; exact q
        · exact hmin j (by omega)⟩
      refine ⟨fun z => absurd z (by omega), fun _ => ?_⟩
      rw [(hset.andNot hO).eq0]
      refine ⟨fun q => no (fun w => absurd (fun j _ z => z.2 ⟨⟨(w.1 j z.1).1, (w.1 j z.1).2.2⟩, (w.1 j z.1).2.1⟩) q), fun q r6 h6 => ?_⟩
      · have hW : ∀ x, bt (nI k) x = true → x < N.n ∧ x ≠ N.root ∧ x ≠ V := fun x hx => by
          have := Classical.byContradiction (fun w => q x (by have := hlt x hx; omega) ⟨hx, w⟩)
          exact ⟨this.1.1, this.2, this.1.2⟩
        have hc := cnt_le 16 (fun x => bt (nI k) x = true)
        have hb : r6 = nI (cnt 16 (fun x => bt (nI k) x = true)) := h6
        rw [hb, ltN (by omega) (by omega)]
        refine ⟨fun lt => ⟨N, N.E, _, ⟨hN, EGa.base hN.1 _, hset⟩, fun r7 h7 r8 h8 => ⟨fun y => no (fun w => absurd (hold_p h8 h7 (by omega) y) w.2), fun y r9 h9 => ?_⟩⟩, fun nl => no (fun _ => by omega)⟩
        have h9 : r9 = nI (cnt 16 (fun x => bt (nI k) x = true)) := h9
        rw [h9]
        refine hh _ ⟨_, rfl, hc, Or.inr ⟨_, ⟨hW, hold_z h8 h7 (by omega) y⟩, rfl⟩, fun j hj w => ?_⟩
        by_cases e : j = k
        · subst e; exact Nat.le_refl _
        · have := hmin j (by omega) w
          omega
    · rw [ndW hN h5, shl_pow N.n (by omega)]
      refine ⟨fun _ => hJ145 _ ?_, fun z => absurd (Int32.le_refl _) z⟩
      obtain ⟨L, rfl, hL, hex, hmin⟩ := hI
      have all : ∀ W, Sep N V W → L ≤ cnt 16 W := fun W hW => by
        obtain ⟨k, hk, hkW⟩ := num_set h16 (fun x q => (hW.1 x q).1)
        have := hmin k hk (hW.congr (fun x => (hkW x).symm))
        rwa [cnt_congr (fun x _ => hkW x)] at this
      refine Or.inr ⟨ne, hE, L, by omega, rfl, ?_, all⟩
      rcases hex with e | e
      · have hS := (Sep.all ne hE).resolve_right (fun q => q ⟨hV, hN.1⟩)
        have h1 := all _ hS
        have h2 : cnt 16 (fun x => x < N.n ∧ x ≠ N.root ∧ x ≠ V) < cnt 16 (fun _ => True) := cnt_lt (g := V) (by omega) (fun _ _ _ => trivial) (fun w => w.2.2 rfl) trivial
        have h3 := cnt_le 16 (fun _ => True)
        omega
      · exact e
def pr_X7_innerOf (dd : Nat) (N : NetM) (V : Nat) (jth jrm jwy jhi jmf jmt jla jre jwr jga jlo jmo jli jta jpt jen jbg jfa jwt jac jng jnl jnm jnv jwm : Int32) (mW mG : Nat → Int32) (v z : Int32) : Prop := NetW N mW ∧ IsSet jre (Rd N.E N.root) ∧ (∀ x, x < 16 → IsSet (mG x) (fun z => Pd N.E N.root z x)) ∧ v = nI V ∧ V < N.n ∧ ((z = 0 ∧ 1 ≤ dd) ∨ (z = 1 ∧ 2 ≤ dd))
def ps_X7_innerOf (N : NetM) (V : Nat) (jth jrm jwy jhi jmf jmt jla jre jwr jga jlo jmo jli jta jpt jen jbg jfa jwt jac jng jnl jnm jnv jwm : Int32) (mW mG : Nat → Int32) (v z : Int32) (r : Int32)  : Prop := (z = 0 ∧ InnerIs N.E N.root N.n V 0 r) ∨ (z = 1 ∧ OuterIs N.E N.root N.n V r)
def wp_X7_innerOf_L47 (jth jrm jwy jhi jmf jmt jla jre jwr jga jlo jmo jli jta jpt jen jbg jfa jwt jac jng jnl jnm jnv jwm : Int32) (mW mG : Nat → Int32) (v r_6 : Int32) (J112 : Int32 → Prop) (ix6_48 ix4_49 ix3_50 : Int32) : Prop :=
  ∀ X47 : Int32 → Int32 → Int32 → Prop, (∀ (x6_48 : Int32) (x4_49 : Int32) (x3_50 : Int32), (∀ (r_52 : Int32), ps_X7_nodes jth jrm jwy jhi jmf jmt jla jre jwr jga jlo jmo jli jta jpt jen jbg jfa jwt jac jng jnl jnm jnv jwm mW r_52 → (((r_52 ≤ x6_48 → (J112 x3_50)) ∧
 (¬ (r_52 ≤ x6_48) → (∃ (N_54 : NetM) (V_54 : Nat), (pr_X7_bodyOf N_54 V_54 jth jrm jwy jhi jmf jmt jla jre jwr jga jlo jmo jli jta jpt jen jbg jfa jwt jac jng jnl jnm jnv jwm mW mG x6_48 ∧ (∀ (r_54 : Int32), ps_X7_bodyOf N_54 V_54 jth jrm jwy jhi jmf jmt jla jre jwr jga jlo jmo jli jta jpt jen jbg jfa jwt jac jng jnl jnm jnv jwm mW mG x6_48 r_54 → (∀ (r_55 : Int32), ps_X7_holds r_54 v r_55 → (((r_55 = 0 → (X47 (x6_48 + 1) x4_49 x3_50)) ∧
 (¬ (r_55 = 0) → (∀ (r_57 : Int32), ps_X7_bits r_54 r_57 → (((r_57 ≤ r_6 → (X47 (x6_48 + 1) x4_49 x3_50)) ∧
 (¬ (r_57 ≤ r_6) → (∀ (r_59 : Int32), ps_X7_bits r_54 r_59 → (((r_59 < x4_49 → (∀ (r_61 : Int32), ps_X7_bits r_54 r_61 → (X47 (x6_48 + 1) r_61 x6_48))) ∧
 (¬ (r_59 < x4_49) → (X47 (x6_48 + 1) x4_49 x3_50)))))))))))))))))))) → X47 x6_48 x4_49 x3_50) → X47 ix6_48 ix4_49 ix3_50
def wp_X7_innerOf_L47_2 (jth jrm jwy jhi jmf jmt jla jre jwr jga jlo jmo jli jta jpt jen jbg jfa jwt jac jng jnl jnm jnv jwm : Int32) (mW mG : Nat → Int32) (v : Int32) (J112 : Int32 → Prop) (ix6_103 ix4_104 ix3_105 : Int32) : Prop :=
  ∀ X47 : Int32 → Int32 → Int32 → Prop, (∀ (x6_103 : Int32) (x4_104 : Int32) (x3_105 : Int32), (∀ (r_107 : Int32), ps_X7_nodes jth jrm jwy jhi jmf jmt jla jre jwr jga jlo jmo jli jta jpt jen jbg jfa jwt jac jng jnl jnm jnv jwm mW r_107 → (((r_107 ≤ x6_103 → (J112 x3_105)) ∧
 (¬ (r_107 ≤ x6_103) → (∃ (N_109 : NetM) (V_109 : Nat), (pr_X7_bodyOf N_109 V_109 jth jrm jwy jhi jmf jmt jla jre jwr jga jlo jmo jli jta jpt jen jbg jfa jwt jac jng jnl jnm jnv jwm mW mG x6_103 ∧ (∀ (r_109 : Int32), ps_X7_bodyOf N_109 V_109 jth jrm jwy jhi jmf jmt jla jre jwr jga jlo jmo jli jta jpt jen jbg jfa jwt jac jng jnl jnm jnv jwm mW mG x6_103 r_109 → (∀ (r_110 : Int32), ps_X7_holds r_109 v r_110 → (((r_110 = 0 → (X47 (x6_103 + 1) x4_104 x3_105)) ∧
 (¬ (r_110 = 0) → (∀ (r_112 : Int32), ps_X7_bits r_109 r_112 → (((r_112 ≤ 16 → (X47 (x6_103 + 1) x4_104 x3_105)) ∧
 (¬ (r_112 ≤ 16) → (∀ (r_114 : Int32), ps_X7_bits r_109 r_114 → (((r_114 < x4_104 → (∀ (r_116 : Int32), ps_X7_bits r_109 r_116 → (X47 (x6_103 + 1) r_116 x6_103))) ∧
 (¬ (r_114 < x4_104) → (X47 (x6_103 + 1) x4_104 x3_105)))))))))))))))))))) → X47 x6_103 x4_104 x3_105) → X47 ix6_103 ix4_104 ix3_105
def wp_X7_innerOf_L47_3 (jth jrm jwy jhi jmf jmt jla jre jwr jga jlo jmo jli jta jpt jen jbg jfa jwt jac jng jnl jnm jnv jwm : Int32) (mW mG : Nat → Int32) (v : Int32) (J112 : Int32 → Prop) (ix6_158 ix4_159 ix3_160 : Int32) : Prop :=
  ∀ X47 : Int32 → Int32 → Int32 → Prop, (∀ (x6_158 : Int32) (x4_159 : Int32) (x3_160 : Int32), (∀ (r_162 : Int32), ps_X7_nodes jth jrm jwy jhi jmf jmt jla jre jwr jga jlo jmo jli jta jpt jen jbg jfa jwt jac jng jnl jnm jnv jwm mW r_162 → (((r_162 ≤ x6_158 → (J112 x3_160)) ∧
 (¬ (r_162 ≤ x6_158) → (∃ (N_164 : NetM) (V_164 : Nat), (pr_X7_bodyOf N_164 V_164 jth jrm jwy jhi jmf jmt jla jre jwr jga jlo jmo jli jta jpt jen jbg jfa jwt jac jng jnl jnm jnv jwm mW mG x6_158 ∧ (∀ (r_164 : Int32), ps_X7_bodyOf N_164 V_164 jth jrm jwy jhi jmf jmt jla jre jwr jga jlo jmo jli jta jpt jen jbg jfa jwt jac jng jnl jnm jnv jwm mW mG x6_158 r_164 → (∀ (r_165 : Int32), ps_X7_holds r_164 v r_165 → (((r_165 = 0 → (X47 (x6_158 + 1) x4_159 x3_160)) ∧
 (¬ (r_165 = 0) → (∀ (r_167 : Int32), ps_X7_bits r_164 r_167 → (((r_167 ≤ 0 → (X47 (x6_158 + 1) x4_159 x3_160)) ∧
 (¬ (r_167 ≤ 0) → (∀ (r_169 : Int32), ps_X7_bits r_164 r_169 → (((r_169 < x4_159 → (∀ (r_171 : Int32), ps_X7_bits r_164 r_171 → (X47 (x6_158 + 1) r_171 x6_158))) ∧
 (¬ (r_169 < x4_159) → (X47 (x6_158 + 1) x4_159 x3_160)))))))))))))))))))) → X47 x6_158 x4_159 x3_160) → X47 ix6_158 ix4_159 ix3_160
def wp_X7_innerOf (dd : Nat) (jth jrm jwy jhi jmf jmt jla jre jwr jga jlo jmo jli jta jpt jen jbg jfa jwt jac jng jnl jnm jnv jwm : Int32) (mW mG : Nat → Int32) (v z : Int32) (Q : Int32 → Prop) : Prop :=
  ((¬ z = 0 → (∃ (N_2 : NetM) (V_2 : Nat), (pr_X7_innerOf dd N_2 V_2 jth jrm jwy jhi jmf jmt jla jre jwr jga jlo jmo jli jta jpt jen jbg jfa jwt jac jng jnl jnm jnv jwm mW mG v 0 ∧ (∀ (r_2 : Int32), ps_X7_innerOf N_2 V_2 jth jrm jwy jhi jmf jmt jla jre jwr jga jlo jmo jli jta jpt jen jbg jfa jwt jac jng jnl jnm jnv jwm mW mG v 0 r_2 → (((¬ r_2 = (-1) → (∃ (N_4 : NetM) (V_4 : Nat), (pr_X7_innerOf dd N_4 V_4 jth jrm jwy jhi jmf jmt jla jre jwr jga jlo jmo jli jta jpt jen jbg jfa jwt jac jng jnl jnm jnv jwm mW mG v 0 ∧ (∀ (r_4 : Int32), ps_X7_innerOf N_4 V_4 jth jrm jwy jhi jmf jmt jla jre jwr jga jlo jmo jli jta jpt jen jbg jfa jwt jac jng jnl jnm jnv jwm mW mG v 0 r_4 → (∃ (N_5 : NetM) (V_5 : Nat), (pr_X7_bodyOf N_5 V_5 jth jrm jwy jhi jmf jmt jla jre jwr jga jlo jmo jli jta jpt jen jbg jfa jwt jac jng jnl jnm jnv jwm mW mG r_4 ∧ (∀ (r_5 : Int32), ps_X7_bodyOf N_5 V_5 jth jrm jwy jhi jmf jmt jla jre jwr jga jlo jmo jli jta jpt jen jbg jfa jwt jac jng jnl jnm jnv jwm mW mG r_4 r_5 → (∀ (r_6 : Int32), ps_X7_bits r_5 r_6 → (∀ J112 : Int32 → Prop, (∀ (x3_46 : Int32), (Q x3_46) → J112 x3_46) →
wp_X7_innerOf_L47 jth jrm jwy jhi jmf jmt jla jre jwr jga jlo jmo jli jta jpt jen jbg jfa jwt jac jng jnl jnm jnv jwm mW mG v r_6 J112 0 17 (-1)))))))))) ∧
 (r_2 = (-1) → (∀ J112 : Int32 → Prop, (∀ (x3_101 : Int32), (Q x3_101) → J112 x3_101) →
wp_X7_innerOf_L47_2 jth jrm jwy jhi jmf jmt jla jre jwr jga jlo jmo jli jta jpt jen jbg jfa jwt jac jng jnl jnm jnv jwm mW mG v J112 0 17 (-1))))))))) ∧
 (z = 0 → (∀ J112 : Int32 → Prop, (∀ (x3_156 : Int32), (Q x3_156) → J112 x3_156) →
wp_X7_innerOf_L47_3 jth jrm jwy jhi jmf jmt jla jre jwr jga jlo jmo jli jta jpt jen jbg jfa jwt jac jng jnl jnm jnv jwm mW mG v J112 0 17 (-1))))
theorem pz_X7_innerOf (N : NetM) (V : Nat) (jth jrm jwy jhi jmf jmt jla jre jwr jga jlo jmo jli jta jpt jen jbg jfa jwt jac jng jnl jnm jnv jwm : Int32) (mW mG : Nat → Int32) (v z : Int32) : ¬ pr_X7_innerOf 0 N V jth jrm jwy jhi jmf jmt jla jre jwr jga jlo jmo jli jta jpt jen jbg jfa jwt jac jng jnl jnm jnv jwm mW mG v z := by
  intro h
  rcases h.2.2.2.2.2 with ⟨_, q⟩ | ⟨_, q⟩ <;> omega
theorem pf_X7_innerOf (dd : Nat) (N : NetM) (V : Nat) (jth jrm jwy jhi jmf jmt jla jre jwr jga jlo jmo jli jta jpt jen jbg jfa jwt jac jng jnl jnm jnv jwm : Int32) (mW mG : Nat → Int32) (v z : Int32) (hp : pr_X7_innerOf (dd + 1) N V jth jrm jwy jhi jmf jmt jla jre jwr jga jlo jmo jli jta jpt jen jbg jfa jwt jac jng jnl jnm jnv jwm mW mG v z) : wp_X7_innerOf dd jth jrm jwy jhi jmf jmt jla jre jwr jga jlo jmo jli jta jpt jen jbg jfa jwt jac jng jnl jnm jnv jwm mW mG v z (ps_X7_innerOf N V jth jrm jwy jhi jmf jmt jla jre jwr jga jlo jmo jli jta jpt jen jbg jfa jwt jac jng jnl jnm jnv jwm mW mG v z) := by
  obtain ⟨hN, hr, hG, rfl, hV, hz⟩ := hp
  have h16 := hN.1.2.1
  -- the loop, for those above so many
  have loop : ∀ (ab : Nat) (a : Int32) (X : Int32 → Int32 → Int32 → Prop) (J : Int32 → Prop), ab ≤ 16 → (∀ (x l b : Int32), (∀ r, ps_X7_nodes jth jrm jwy jhi jmf jmt jla jre jwr jga jlo jmo jli jta jpt jen jbg jfa jwt jac jng jnl jnm jnv jwm mW r → ((r ≤ x → J b) ∧ (¬ r ≤ x → ∃ (N_ : NetM) (V_ : Nat), pr_X7_bodyOf N_ V_ jth jrm jwy jhi jmf jmt jla jre jwr jga jlo jmo jli jta jpt jen jbg jfa jwt jac jng jnl jnm jnv jwm mW mG x ∧ ∀ r2, ps_X7_bodyOf N_ V_ jth jrm jwy jhi jmf jmt jla jre jwr jga jlo jmo jli jta jpt jen jbg jfa jwt jac jng jnl jnm jnv jwm mW mG x r2 → ∀ r3, ps_X7_holds r2 (nI V) r3 → ((r3 = 0 → X (x + 1) l b) ∧ (¬ r3 = 0 → ∀ r4, ps_X7_bits r2 r4 → ((r4 ≤ a → X (x + 1) l b) ∧ (¬ r4 ≤ a → ∀ r5, ps_X7_bits r2 r5 → ((r5 < l → ∀ r6, ps_X7_bits r2 r6 → X (x + 1) r6 x) ∧ (¬ r5 < l → X (x + 1) l b))))))))) → X x l b) → a = nI ab → (∀ b, InnerIs N.E N.root N.n V ab b → J b) → X 0 17 (-1) := by
    intro ab a X J hab hX ha hJ
    subst ha
    refine up2 N.n (fun k (l b : Int32) => (l = 17 ∧ b = -1 ∧ ∀ h, h < k → ¬ (Body N.E N.root h V ∧ ab < cnt 16 (Body N.E N.root h))) ∨ ∃ h, b = nI h ∧ l = nI (cnt 16 (Body N.E N.root h)) ∧ h < k ∧ Body N.E N.root h V ∧ ab < cnt 16 (Body N.E N.root h) ∧ ∀ g, g < k → Body N.E N.root g V → ab < cnt 16 (Body N.E N.root g) → cnt 16 (Body N.E N.root h) < cnt 16 (Body N.E N.root g) ∨ (cnt 16 (Body N.E N.root h) = cnt 16 (Body N.E N.root g) ∧ h ≤ g)) (fun k l b hk hI hh => hX _ _ _ (fun r1 h1 => ?_)) (fun l b hI => hX _ _ _ (fun r1 h1 => ?_)) 0 17 (-1) (Nat.zero_le _) (Or.inl ⟨rfl, rfl, fun h hh => absurd hh (by omega)⟩)
    · rw [ndW hN h1, leN (by omega) (by omega)]
      have no : ¬ (Body N.E N.root k V ∧ ab < cnt 16 (Body N.E N.root k)) → X (nI k + 1) l b := fun q => hh _ _ (by
        rcases hI with ⟨e1, e2, e3⟩ | ⟨h, e1, e2, e3, e4, e5, e6⟩
        · refine Or.inl ⟨e1, e2, fun h hk2 => ?_⟩
          by_cases e : h = k
          · subst e; exact q
          · exact e3 h (by omega)
        · refine Or.inr ⟨h, e1, e2, by omega, e4, e5, fun g hg => ?_⟩
          by_cases e : g = k
          · subst e; exact fun w1 w2 => absurd ⟨w1, w2⟩ q
          · exact e6 g (by omega))
      refine ⟨fun z => absurd z (by omega), fun _ => ⟨N, k, ⟨hN, hr, hG, rfl, hk⟩, fun r2 h2 r3 h3 => ⟨fun y => no (fun w => hold_z h3 h2 (by omega) y w.1), fun y r4 h4 => ?_⟩⟩⟩
      have hb := hold_p h3 h2 (by omega) y
      have h2 : IsSet r2 (Body N.E N.root k) := h2
      have c16 := cnt_le 16 (Body N.E N.root k)
      have hc : ∀ r, ps_X7_bits r2 r → r = nI (cnt 16 (Body N.E N.root k)) := fun r hr => Eq.trans (show r = nI (pc r2) from hr) (by rw [pc_set h2])
      rw [hc r4 h4, leN (by omega) (by omega)]
      refine ⟨fun q => no (fun w => absurd w.2 (by omega)), fun q r5 h5 => ?_⟩
      rw [hc r5 h5]
      refine ⟨fun lt r6 h6 => ?_, fun nl => hh _ _ ?_⟩
      · rw [hc r6 h6]
        refine hh _ _ (Or.inr ⟨k, rfl, rfl, by omega, hb, by omega, fun g hg w1 w2 => ?_⟩)
        by_cases e : g = k
        · subst e; exact Or.inr ⟨rfl, Nat.le_refl _⟩
        · rcases hI with ⟨e1, e2, e3⟩ | ⟨h, e1, e2, e3, e4, e5, e6⟩
          · exact absurd ⟨w1, w2⟩ (e3 g (by omega))
          · have d16 := cnt_le 16 (Body N.E N.root h)
            rw [e2, ltN (by omega) (by omega)] at lt
            rcases e6 g (by omega) w1 w2 with w | w
            · exact Or.inl (by omega)
            · exact Or.inl (by omega)
      · rcases hI with ⟨e1, e2, e3⟩ | ⟨h, e1, e2, e3, e4, e5, e6⟩
        · exact absurd (by rw [e1, show (17 : Int32) = nI 17 from rfl, ltN (by omega) (by omega)]; omega) nl
        · have d16 := cnt_le 16 (Body N.E N.root h)
          rw [e2, ltN (by omega) (by omega)] at nl
          refine Or.inr ⟨h, e1, e2, by omega, e4, e5, fun g hg w1 w2 => ?_⟩
          by_cases e : g = k
          · subst e
            by_cases e7 : cnt 16 (Body N.E N.root h) = cnt 16 (Body N.E N.root g)
            · exact Or.inr ⟨e7, by omega⟩
            · exact Or.inl (by omega)
          · exact e6 g (by omega) w1 w2
    · rw [ndW hN h1]
      refine ⟨fun _ => hJ _ ?_, fun z => absurd (Int32.le_refl _) z⟩
      rcases hI with ⟨e1, e2, e3⟩ | ⟨h, e1, e2, e3, e4, e5, e6⟩
      · exact Or.inl ⟨e2, e3⟩
      · exact Or.inr ⟨h, e1, e3, e4, e5, e6⟩
  have none16 : ∀ r, InnerIs N.E N.root N.n V 16 r → r = -1 := fun r hr => by
    rcases hr with ⟨e, _⟩ | ⟨h, _, _, _, e, _⟩
    · exact e
    · have := cnt_le 16 (Body N.E N.root h); omega
  have sub : z = 1 → pr_X7_innerOf dd N V jth jrm jwy jhi jmf jmt jla jre jwr jga jlo jmo jli jta jpt jen jbg jfa jwt jac jng jnl jnm jnv jwm mW mG (nI V) 0 := fun e => ⟨hN, hr, hG, rfl, hV, Or.inl ⟨rfl, by
    rcases hz with ⟨q, _⟩ | ⟨_, q⟩
    · exact absurd (q.symm.trans e) (by decide)
    · omega⟩⟩
  refine ⟨fun nz => ?_, fun e J hJ X hX => ?_⟩
  · have z1 : z = 1 := hz.elim (fun q => absurd q.1 nz) (fun q => q.1)
    refine ⟨N, V, sub z1, fun r2 h2 => ?_⟩
    have hi : InnerIs N.E N.root N.n V 0 r2 := h2.elim (fun q => q.2) (fun q => absurd q.1 (by decide))
    refine ⟨fun n1 => ⟨N, V, sub z1, fun r4 h4 => ?_⟩, fun e1 J hJ X hX => ?_⟩
    · have hi4 : InnerIs N.E N.root N.n V 0 r4 := h4.elim (fun q => q.2) (fun q => absurd q.1 (by decide))
      have e42 : r4 = r2 := hi4.uniq hi
      subst e42
      rcases hi with ⟨q, _⟩ | ⟨h, q1, q2, q3, q4, q5⟩
      · exact absurd q n1
      · subst q1
        refine ⟨N, h, ⟨hN, hr, hG, rfl, q2⟩, fun r5 h5 r6 h6 J hJ X hX => ?_⟩
        have h6 : r6 = nI (pc r5) := h6
        rw [pc_set h5] at h6
        exact loop (cnt 16 (Body N.E N.root h)) r6 X J (cnt_le _ _) hX h6 (fun b hb => hJ b (Or.inr ⟨z1, Or.inr ⟨h, q2, hi4, hb⟩⟩))
    · refine loop 16 16 X J (Nat.le_refl _) hX rfl (fun b hb => hJ b (Or.inr ⟨z1, Or.inl ⟨by rw [← e1]; exact hi, none16 b hb⟩⟩))
  · exact loop 0 0 X J (Nat.zero_le _) hX rfl (fun b hb => hJ b (Or.inl ⟨e, hb⟩))
