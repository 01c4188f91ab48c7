/-! flows and cuts: the plain laws (own work) -/
theorem smP_put {P : Nat → Prop} {f g : Nat → Nat} {k : Nat} : ∀ n, k < n → (∀ j, j < n → j ≠ k → g j = f j) → (P k → smP n P g + f k = smP n P f + g k) ∧ (¬ P k → smP n P g = smP n P f)
  | 0, h, _ => absurd h (by omega)
  | n + 1, h, hj => by
    by_cases e : k = n
    · subst e
      have e1 : smP k P g = smP k P f := by
        have : ∀ m, m ≤ k → smP m P g = smP m P f := by
          intro m
          induction m with
          | zero => intro _; rfl
          | succ m ih =>
            intro hm
            by_cases q : P m
            · rw [smP_s q, smP_s q, ih (by omega), hj m (by omega) (by omega)]
            · rw [smP_n q, smP_n q, ih (by omega)]
        exact this k (Nat.le_refl _)
      exact ⟨fun q => by rw [smP_s q, smP_s q, e1]; omega, fun q => by rw [smP_n q, smP_n q, e1]⟩
    · have ih := smP_put (P := P) n (by omega) (fun j h1 h2 => hj j (by omega) h2)
      have e1 : g n = f n := hj n (by omega) (fun q => e q.symm)
      by_cases q : P n
      · rw [smP_s q, smP_s q, e1]
        exact ⟨fun z => by have := ih.1 z; omega, fun z => by rw [ih.2 z]⟩
      · rw [smP_n q, smP_n q]
        exact ih
theorem smP_mono {P : Nat → Prop} {f g : Nat → Nat} : ∀ n, (∀ k, k < n → P k → f k ≤ g k) → smP n P f ≤ smP n P g
  | 0, _ => Nat.le_refl _
  | n + 1, h => by
    have ih := smP_mono (P := P) n (fun k hk => h k (by omega))
    by_cases q : P n
    · rw [smP_s q, smP_s q]; have := h n (by omega) q; omega
    · rw [smP_n q, smP_n q]; exact ih
theorem smP_zero {P : Nat → Prop} {f : Nat → Nat} : ∀ n, (∀ k, k < n → P k → f k = 0) → smP n P f = 0
  | 0, _ => rfl
  | n + 1, h => by
    have ih := smP_zero (P := P) n (fun k hk => h k (by omega))
    by_cases q : P n
    · rw [smP_s q, ih, h n (by omega) q]
    · rw [smP_n q, ih]
theorem smP_one {P : Nat → Prop} {f : Nat → Nat} {k : Nat} : ∀ n, k < n → P k → f k ≤ smP n P f
  | 0, h, _ => absurd h (by omega)
  | n + 1, h, hP => by
    by_cases e : k = n
    · subst e; rw [smP_s hP]; omega
    · have ih := smP_one (f := f) n (by omega) hP
      by_cases q : P n
      · rw [smP_s q]; omega
      · rw [smP_n q]; exact ih
theorem smP_fcongr {P : Nat → Prop} {f g : Nat → Nat} (n : Nat) (h : ∀ k, k < n → P k → f k = g k) : smP n P f = smP n P g := Nat.le_antisymm (smP_mono n (fun k hk hp => by rw [h k hk hp]; exact Nat.le_refl _)) (smP_mono n (fun k hk hp => by rw [h k hk hp]; exact Nat.le_refl _))
theorem smP_cnt {P Q : Nat → Prop} {f : Nat → Nat} : ∀ n, (∀ k, k < n → P k → (Q k → f k ≤ 1) ∧ (¬ Q k → f k = 0)) → smP n P f ≤ cnt n Q
  | 0, _ => Nat.le_refl _
  | n + 1, h => by
    have ih := smP_cnt (P := P) (Q := Q) n (fun k hk => h k (by omega))
    by_cases q : P n
    · have h1 := h n (by omega) q
      rw [smP_s q]
      by_cases z : Q n
      · rw [cnt_s z]; have := h1.1 z; omega
      · rw [cnt_n z, h1.2 z]; exact ih
    · rw [smP_n q]
      by_cases z : Q n
      · rw [cnt_s z]; omega
      · rw [cnt_n z]; exact ih
theorem cnt_smP {P Q : Nat → Prop} {f : Nat → Nat} : ∀ n, (∀ k, k < n → Q k → P k ∧ 1 ≤ f k) → cnt n Q ≤ smP n P f
  | 0, _ => Nat.le_refl _
  | n + 1, h => by
    have ih := cnt_smP (P := P) (Q := Q) n (fun k hk => h k (by omega))
    by_cases z : Q n
    · have h1 := h n (by omega) z
      rw [cnt_s z, smP_s h1.1]; omega
    · rw [cnt_n z]
      by_cases q : P n
      · rw [smP_s q]; omega
      · rw [smP_n q]; exact ih
/-- what goes from a set out -/
noncomputable def cutV (S : Nat → Prop) (f : Nat → Nat → Nat) : Nat := smP 32 S (fun a => smP 32 (fun b => ¬ S b) (f a))
def putM (R : Nat → Nat → Nat) (a b v : Nat) : Nat → Nat → Nat := fun x y => if x = a ∧ y = b then v else R x y
theorem putM_s {R : Nat → Nat → Nat} {a b v : Nat} : putM R a b v a b = v := if_pos ⟨rfl, rfl⟩
theorem putM_n {R : Nat → Nat → Nat} {a b v x y : Nat} (h : ¬ (x = a ∧ y = b)) : putM R a b v x y = R x y := if_neg h
theorem cutV_put {S : Nat → Prop} {R : Nat → Nat → Nat} {a b v : Nat} (ha : a < 32) (hb : b < 32) : (S a ∧ ¬ S b → cutV S (putM R a b v) + R a b = cutV S R + v) ∧ (¬ (S a ∧ ¬ S b) → cutV S (putM R a b v) = cutV S R) := by
  have inn := smP_put (P := fun y => ¬ S y) (f := R a) (g := putM R a b v a) (k := b) 32 hb (fun j _ hj => putM_n (fun q => hj q.2))
  rw [putM_s] at inn
  have out := smP_put (P := S) (f := fun x => smP 32 (fun y => ¬ S y) (R x)) (g := fun x => smP 32 (fun y => ¬ S y) (putM R a b v x)) (k := a) 32 ha (fun j _ hj => smP_fcongr 32 (fun y _ _ => putM_n (fun q => hj q.1)))
  unfold cutV
  constructor
  · rintro ⟨h1, h2⟩
    have o := out.1 h1
    have i := inn.1 h2
    omega
  · intro h
    by_cases h1 : S a
    · have o := out.1 h1
      have i := inn.2 (fun q => h ⟨h1, q⟩)
      omega
    · exact out.2 h1
theorem cutV_ge {S : Nat → Prop} {R : Nat → Nat → Nat} {a b : Nat} (ha : a < 32) (hb : b < 32) (h1 : S a) (h2 : ¬ S b) : R a b ≤ cutV S R :=
  Nat.le_trans (smP_one (P := fun y => ¬ S y) (f := R a) 32 hb h2) (smP_one (P := S) (f := fun x => smP 32 (fun y => ¬ S y) (R x)) 32 ha h1)
theorem cutV_zero {S : Nat → Prop} {R : Nat → Nat → Nat} (h : ∀ a b, a < 32 → b < 32 → S a → ¬ S b → R a b = 0) : cutV S R = 0 := smP_zero 32 (fun a ha h1 => smP_zero 32 (fun b hb h2 => h a b ha hb h1 h2))
theorem cutV_congr {S : Nat → Prop} {R R' : Nat → Nat → Nat} (h : ∀ a b, a < 32 → b < 32 → R a b = R' a b) : cutV S R = cutV S R' := smP_fcongr 32 (fun a ha _ => smP_fcongr 32 (fun b hb _ => h a b ha hb))
theorem cutV_le {S : Nat → Prop} {R : Nat → Nat → Nat} {c : Nat} (h : ∀ a b, a < 32 → b < 32 → R a b ≤ c) : cutV S R ≤ 1024 * c := by
  have h1 : ∀ a, a < 32 → smP 32 (fun b => ¬ S b) (R a) ≤ 32 * c := fun a ha => smP_le 32 (fun b hb => h a b ha hb)
  have h2 := smP_le (P := S) (f := fun a => smP 32 (fun b => ¬ S b) (R a)) (c := 32 * c) 32 (fun a ha => h1 a ha)
  unfold cutV
  omega
/-- the least cut between two -/
def CutMin (C : Nat → Nat → Nat) (F T k : Nat) : Prop := (∃ S : Nat → Prop, S F ∧ ¬ S T ∧ cutV S C = k) ∧ ∀ S : Nat → Prop, S F → ¬ S T → k ≤ cutV S C
/-- what room is left when so many have gone -/
def FlowR (C : Nat → Nat → Nat) (R : Nat → Nat → Nat) (rm : Nat → Nat → Int32) : Prop := (∀ a b, a < 32 → b < 32 → C a b ≤ 120) ∧ ∀ a b, a < 32 → b < 32 → rm a b = nI (R a b) ∧ R a b + R b a = C a b + C b a
def FlowI (C : Nat → Nat → Nat) (F T K : Nat) (rm : Nat → Nat → Int32) : Prop := ∃ R : Nat → Nat → Nat, FlowR C R rm ∧ ∀ S : Nat → Prop, S F → ¬ S T → cutV S R + K = cutV S C
theorem FlowR.le {C R : Nat → Nat → Nat} {rm : Nat → Nat → Int32} (h : FlowR C R rm) {a b : Nat} (ha : a < 32) (hb : b < 32) : R a b ≤ 240 := by
  have h1 := (h.2 a b ha hb).2
  have h2 := h.1 a b ha hb
  have h3 := h.1 b a hb ha
  omega
theorem upd2_s {M : Nat → Nat → Int32} {a b : Nat} {v : Int32} : upd2 M a (upd (M a) b v) a b = v := by
  show (if a = a then upd (M a) b v else M a) b = v
  rw [if_pos rfl, upd_s]
theorem upd2_n {M : Nat → Nat → Int32} {a b x y : Nat} {v : Int32} (h : ¬ (x = a ∧ y = b)) : upd2 M a (upd (M a) b v) x y = M x y := by
  show (if x = a then upd (M a) b v else M x) y = M x y
  by_cases e : x = a
  · subst e
    rw [if_pos rfl, upd_n (fun q => h ⟨rfl, q⟩)]
  · rw [if_neg e]
theorem FlowI.le {C : Nat → Nat → Nat} {F T K : Nat} {rm : Nat → Nat → Int32} (h : FlowI C F T K rm) (hFT : F ≠ T) : K ≤ cutV (fun x => x = F) C ∧ cutV (fun x => x = F) C ≤ 122880 := by
  obtain ⟨R, h1, h2⟩ := h
  have := h2 (fun x => x = F) rfl (fun q => hFT q.symm)
  have h3 := cutV_le (S := fun x => x = F) (R := C) (c := 120) (fun a b ha hb => h1.1 a b ha hb)
  omega
/-- one more along an arc of a way: room there is less, back more -/
def stepM (R : Nat → Nat → Nat) (p x : Nat) : Nat → Nat → Nat := putM (putM R p x (R p x - 1)) x p (R x p + 1)
theorem stepM_cut {S : Nat → Prop} {R : Nat → Nat → Nat} {p x : Nat} (hp : p < 32) (hx : x < 32) (hpx : p ≠ x) (hR : 0 < R p x) :
    (S p ∧ ¬ S x → cutV S (stepM R p x) + 1 = cutV S R) ∧ (¬ S p ∧ S x → cutV S (stepM R p x) = cutV S R + 1) ∧ ((S p ↔ S x) → cutV S (stepM R p x) = cutV S R) := by
  have e1 : putM R p x (R p x - 1) x p = R x p := putM_n (fun q => hpx q.2)
  have a := cutV_put (S := S) (R := R) (a := p) (b := x) (v := R p x - 1) hp hx
  have b := cutV_put (S := S) (R := putM R p x (R p x - 1)) (a := x) (b := p) (v := R x p + 1) hx hp
  rw [e1] at b
  unfold stepM
  refine ⟨fun h => ?_, fun h => ?_, fun h => ?_⟩
  · have h1 := a.1 h
    have h2 := b.2 (fun q => q.2 h.1)
    omega
  · have h1 := a.2 (fun q => h.1 q.1)
    have h2 := b.1 ⟨h.2, h.1⟩
    omega
  · have h1 := a.2 (fun q => q.2 (h.1 q.1))
    have h2 := b.2 (fun q => q.2 (h.2 q.1))
    omega
theorem stepM_R {C R : Nat → Nat → Nat} {rm : Nat → Nat → Int32} (h : FlowR C R rm) {p x : Nat} (hp : p < 32) (hx : x < 32) (hpx : p ≠ x) (hR : 0 < R p x) :
    FlowR C (stepM R p x) (upd2 (upd2 rm p (upd (rm p) x (rm p x - 1))) x (upd (upd2 rm p (upd (rm p) x (rm p x - 1)) x) p (upd2 rm p (upd (rm p) x (rm p x - 1)) x p + 1))) := by
  have nx : ¬ (x = p ∧ p = x) := fun q => hpx q.2
  have e1 : upd2 rm p (upd (rm p) x (rm p x - 1)) x p = rm x p := upd2_n nx
  refine ⟨h.1, fun a b ha hb => ?_⟩
  have hab := h.2 a b ha hb
  have hba := h.2 b a hb ha
  have hpx' := h.2 p x hp hx
  have hxp' := h.2 x p hx hp
  have hl := h.le hp hx
  unfold stepM
  by_cases c1 : a = x ∧ b = p
  · obtain ⟨rfl, rfl⟩ := c1
    have n2 : ¬ (b = a ∧ a = b) := fun q => hpx q.1
    rw [upd2_s, e1, putM_s, hxp'.1, putM_n n2, putM_s]
    exact ⟨nI_1 _, by omega⟩
  · rw [upd2_n c1, putM_n c1]
    by_cases c2 : a = p ∧ b = x
    · obtain ⟨rfl, rfl⟩ := c2
      rw [upd2_s, putM_s, putM_s, hpx'.1]
      refine ⟨?_, by omega⟩
      obtain ⟨m, hm⟩ : ∃ m, R a b = m + 1 := ⟨R a b - 1, by omega⟩
      rw [hm, nI_pred]; rfl
    · rw [upd2_n c2, putM_n c2]
      have c3 : ¬ (b = x ∧ a = p) := fun q => c2 ⟨q.2, q.1⟩
      have c4 : ¬ (b = p ∧ a = x) := fun q => c1 ⟨q.2, q.1⟩
      rw [putM_n c3, putM_n c4]
      exact hab
/-- what has been come to, row by row -/
def Bf (R : Nat → Nat → Nat) (F M : Nat) (q : Nat → Nat) (a rw_ : Nat → Int32) : Prop :=
  (0 < M ∧ q 0 = F) ∧ (∀ j, j < M → rw_ j = nI (q j) ∧ q j < 32 ∧ ¬ a (q j) = -1) ∧ (∀ x, x < 32 → ¬ a x = -1 → ∃ j, j < M ∧ q j = x) ∧ (∀ j, 0 < j → j < M → ∃ i, i < j ∧ a (q j) = nI (q i) ∧ 0 < R (q i) (q j)) ∧ M = cnt 32 (fun x => ¬ a x = -1) ∧ ∀ i j, i < M → j < M → q i = q j → i = j
theorem Bf.ins {R : Nat → Nat → Nat} {F M : Nat} {q : Nat → Nat} {a rw_ : Nat → Int32} (h : Bf R F M q a rw_) {k n : Nat} (hk : k < M) (hn : n < 32) (hnew : a n = -1) (hR : 0 < R (q k) n) : M < 32 ∧ Bf R F (M + 1) (fun j => if j = M then n else q j) (upd a n (nI (q k))) (upd rw_ M (nI n)) := by
  obtain ⟨⟨h0, h0'⟩, h1, h2, h3, h4, h5⟩ := h
  have hqk := h1 k hk
  have hne : ∀ j, j < M → q j ≠ n := fun j hj e => (h1 j hj).2.2 (by rw [e]; exact hnew)
  have hc : cnt 32 (fun x => ¬ upd a n (nI (q k)) x = -1) = cnt 32 (fun x => ¬ a x = -1) + 1 := cnt_add hn (fun z => z hnew) (fun x hx => by
    by_cases e : x = n
    · subst e; rw [upd_s]; exact ⟨fun _ => Or.inr rfl, fun _ => nI_m1 (by omega)⟩
    · rw [upd_n e]; exact ⟨fun z => Or.inl z, fun z => z.elim id (fun z2 => absurd z2 e)⟩)
  have hle := cnt_le 32 (fun x => ¬ upd a n (nI (q k)) x = -1)
  have hM : M < 32 := by omega
  refine ⟨hM, ⟨by omega, ?_⟩, fun j hj => ?_, fun x hx hax => ?_, fun j h0j hj => ?_, by rw [hc]; omega, fun i j hi hj e => ?_⟩
  · show (if 0 = M then n else q 0) = F
    rw [if_neg (by omega)]; exact h0'
  · dsimp only
    by_cases e : j = M
    · subst e
      rw [if_pos rfl, upd_s, upd_s]
      exact ⟨rfl, hn, nI_m1 (by omega)⟩
    · rw [if_neg e, upd_n e, upd_n (hne j (by omega))]
      exact h1 j (by omega)
  · by_cases e : x = n
    · exact ⟨M, by omega, by dsimp only; rw [if_pos rfl]; exact e.symm⟩
    · rw [upd_n e] at hax
      obtain ⟨j, hj, e2⟩ := h2 x hx hax
      exact ⟨j, by omega, by dsimp only; rw [if_neg (by omega)]; exact e2⟩
  · dsimp only
    by_cases e : j = M
    · subst e
      rw [if_pos rfl]
      exact ⟨k, hk, by rw [upd_s, if_neg (by omega)], by rw [if_neg (by omega)]; exact hR⟩
    · rw [if_neg e, upd_n (hne j (by omega))]
      obtain ⟨i, hi, e1, e2⟩ := h3 j h0j (by omega)
      exact ⟨i, hi, by rw [if_neg (by omega)]; exact e1, by rw [if_neg (by omega)]; exact e2⟩
  · dsimp only at e
    by_cases e1 : i = M
    · by_cases e2 : j = M
      · omega
      · rw [if_pos e1, if_neg e2] at e
        exact absurd e.symm (hne j (by omega))
    · by_cases e2 : j = M
      · rw [if_neg e1, if_pos e2] at e
        exact absurd e (hne i (by omega))
      · rw [if_neg e1, if_neg e2] at e
        exact h5 i j (by omega) (by omega) e
theorem Bf.start {R : Nat → Nat → Nat} {F : Nat} {a rw_ : Nat → Int32} (hF : F < 32) (ha : ∀ x, x < 32 → a x = -1) : Bf R F 1 (fun _ => F) (upd a F (nI F)) (upd rw_ 0 (nI F)) := by
  refine ⟨⟨by omega, rfl⟩, fun j hj => ?_, fun x hx hax => ?_, fun j h0 hj => absurd hj (by omega), ?_, fun i j hi hj _ => by omega⟩
  · obtain rfl : j = 0 := by omega
    rw [upd_s, upd_s]
    exact ⟨rfl, hF, nI_m1 (by omega)⟩
  · by_cases e : x = F
    · exact ⟨0, by omega, e.symm⟩
    · rw [upd_n e] at hax; exact absurd (ha x hx) hax
  · rw [cnt_add (Q := fun _ => False) hF (fun z => z) (fun x hx => by
      by_cases e : x = F
      · subst e; rw [upd_s]; exact ⟨fun _ => Or.inr rfl, fun _ => nI_m1 (by omega)⟩
      · rw [upd_n e]; exact ⟨fun z => absurd (ha x hx) z, fun z => z.elim False.elim (fun z2 => absurd z2 e)⟩), cnt_0 (fun _ _ f => f)]
/-- no way more: what was come to is a cut -/
theorem Bf.cut {C R : Nat → Nat → Nat} {F T K M : Nat} {q : Nat → Nat} {a rw_ : Nat → Int32} {rm : Nat → Nat → Int32} (h : Bf R F M q a rw_) (hT : T < 32) (hR : FlowR C R rm) (hS : ∀ S : Nat → Prop, S F → ¬ S T → cutV S R + K = cutV S C) (hno : a T = -1) (hall : ∀ i n, i < M → n < 32 → 0 < R (q i) n → ¬ a n = -1) : CutMin C F T K := by
  obtain ⟨⟨h0, h0'⟩, h1, h2, -⟩ := h
  have hF := h1 0 h0
  rw [h0'] at hF
  refine ⟨⟨fun x => ¬ a x = -1, hF.2.2, fun z => z hno, ?_⟩, fun S s1 s2 => by have := hS S s1 s2; omega⟩
  have hc := hS (fun x => ¬ a x = -1) hF.2.2 (fun z => z hno)
  rw [cutV_zero (fun x y hx hy s1 s2 => ?_)] at hc
  · omega
  · obtain ⟨j, hj, rfl⟩ := h2 x hx s1
    rcases Nat.eq_zero_or_pos (R (q j) y) with z | z
    · exact z
    · exact absurd (hall j y hj hy z) s2
/-- how many arcs go from a set out -/
noncomputable def cutA (N : NetM) (S : Nat → Prop) (m : Nat) : Nat := cnt m (fun k => N.op k = true ∧ S (N.fr k) ∧ ¬ S (N.to k))
def CutArc (N : NetM) (v k : Nat) : Prop := (∃ S : Nat → Prop, S N.root ∧ ¬ S v ∧ cutA N S N.m = k) ∧ ∀ S : Nat → Prop, S N.root → ¬ S v → k ≤ cutA N S N.m
def HardIs (N : NetM) (v : Nat) (r : Int32) : Prop := (v = N.root ∧ r = 99) ∨ (v ≠ N.root ∧ ∃ k, k < 2 ^ 31 ∧ r = nI k ∧ CutArc N v k)
/-- the nodes that are left out so that there is no way -/
def Sep (N : NetM) (v : Nat) (W : Nat → Prop) : Prop := (∀ x, W x → x < N.n ∧ x ≠ N.root ∧ x ≠ v) ∧ ¬ Rs N.E (fun z => z = N.root) W v
def WallIs (N : NetM) (v : Nat) (r : Int32) : Prop := ((v = N.root ∨ N.E N.root v) ∧ r = -1) ∨ (v ≠ N.root ∧ ¬ N.E N.root v ∧ ∃ k, k < 2 ^ 31 ∧ r = nI k ∧ (∃ W, Sep N v W ∧ cnt 16 W = k) ∧ ∀ W, Sep N v W → k ≤ cnt 16 W)
/-- the room for arcs, the first m laid -/
noncomputable def capA (N : NetM) (m : Nat) (a b : Nat) : Nat := cnt m (fun k => N.op k = true ∧ N.fr k = a ∧ N.to k = b)
theorem capA_s {N : NetM} {m : Nat} (h : N.op m = true) : capA N (m + 1) = putM (capA N m) (N.fr m) (N.to m) (capA N m (N.fr m) (N.to m) + 1) := by
  funext a b
  unfold capA
  by_cases e : a = N.fr m ∧ b = N.to m
  · obtain ⟨rfl, rfl⟩ := e
    rw [putM_s, cnt_s ⟨h, rfl, rfl⟩]
  · rw [putM_n e, cnt_n (fun q => e ⟨q.2.1.symm, q.2.2.symm⟩)]
theorem capA_n {N : NetM} {m : Nat} (h : ¬ N.op m = true) : capA N (m + 1) = capA N m := by
  funext a b
  exact cnt_n (fun q => h q.1)
theorem capA_cut {N : NetM} {S : Nat → Prop} : ∀ m, (∀ k, k < m → N.fr k < 32 ∧ N.to k < 32) → cutV S (capA N m) = cutA N S m
  | 0, _ => cutV_zero (fun a b _ _ _ _ => rfl)
  | m + 1, h => by
    have ih := capA_cut (S := S) m (fun k hk => h k (by omega))
    have hm := h m (by omega)
    by_cases q : N.op m = true
    · rw [capA_s q]
      have := cutV_put (S := S) (R := capA N m) (v := capA N m (N.fr m) (N.to m) + 1) hm.1 hm.2
      unfold cutA at ih ⊢
      by_cases z : S (N.fr m) ∧ ¬ S (N.to m)
      · rw [cnt_s ⟨q, z⟩]; have := this.1 z; omega
      · rw [cnt_n (fun y => z y.2), this.2 z, ih]
    · rw [capA_n q, ih]
      exact (cnt_n (fun y => q y.1)).symm
theorem hard_of {N : NetM} (hN : N.ok) {v k : Nat} (h : CutMin (capA N N.m) N.root v k) : CutArc N v k := by
  have hl : ∀ k, k < N.m → N.fr k < 32 ∧ N.to k < 32 := fun k hk => by have := hN.2.2.2.2.2.1 k hk; have := hN.2.1; omega
  obtain ⟨⟨S, h1, h2, h3⟩, h4⟩ := h
  exact ⟨⟨S, h1, h2, by rw [← h3, capA_cut N.m hl]⟩, fun S s1 s2 => by rw [← capA_cut N.m hl]; exact h4 S s1 s2⟩
/-- the room for nodes: through each but one, by arcs without bound -/
def WallC (N : NetM) (v : Nat) (C : Nat → Nat → Nat) : Prop := (∀ n, n < 16 → C n (16 + n) = (if n < N.n then (if n = N.root ∨ n = v then 16 else 1) else 0)) ∧ (∀ n b, n < 16 → b < 32 → b ≠ 16 + n → C n b = 0) ∧ (∀ n b, n < 16 → b < 16 → (N.E n b → C (16 + n) b = 16) ∧ (¬ N.E n b → C (16 + n) b = 0)) ∧ ∀ n b, n < 16 → 16 ≤ b → b < 32 → C (16 + n) b = 0
theorem cnt_32 {Q : Nat → Prop} (h : ∀ k, 16 ≤ k → ¬ Q k) : cnt 32 Q = cnt 16 Q := by
  have : ∀ m, cnt (16 + m) Q = cnt 16 Q := by
    intro m
    induction m with
    | zero => rfl
    | succ m ih => rw [show 16 + (m + 1) = (16 + m) + 1 by omega, cnt_n (h _ (by omega)), ih]
  exact this 16
theorem wall_of {N : NetM} (hN : N.ok) {v k : Nat} (hv : v < N.n) (hvr : v ≠ N.root) (hE : ¬ N.E N.root v) {C : Nat → Nat → Nat} (hC : WallC N v C) (h : CutMin C N.root v k) : k < 2 ^ 31 ∧ (∃ W, Sep N v W ∧ cnt 16 W = k) ∧ ∀ W, Sep N v W → k ≤ cnt 16 W := by
  obtain ⟨c1, c2, c3, c4⟩ := hC
  have h16 := hN.2.1
  have hr := hN.2.2.1
  have low : ∀ W, Sep N v W → k ≤ cnt 16 W := by
    intro W hW
    obtain ⟨w1, w2⟩ := hW
    let D : Nat → Prop := fun x => Rs N.E (fun z => z = N.root) W x
    have hDlt : ∀ x, D x → x < N.n := fun x hx => NetM.Rd_lt hN (Rd.of hx)
    let S : Nat → Prop := fun x => (x < 16 ∧ (D x ∨ (W x ∧ ∃ u, D u ∧ N.E u x))) ∨ (16 ≤ x ∧ D (x - 16))
    have hSr : S N.root := Or.inl ⟨by omega, Or.inl (Rs.base rfl (fun q => (w1 _ q).2.1 rfl))⟩
    have hSv : ¬ S v := by
      rintro (⟨-, q | ⟨q, -⟩⟩ | ⟨q, -⟩)
      · exact w2 q
      · exact (w1 _ q).2.2 rfl
      · omega
    refine Nat.le_trans (h.2 S hSr hSv) ?_
    rw [← cnt_32 (Q := W) (fun k hk q => by have := (w1 k q).1; omega)]
    refine smP_cnt 32 (fun a ha hSa => ?_)
    rcases Nat.lt_or_ge a 16 with q | q
    · have hz : ∀ b, b < 32 → ¬ S b → b ≠ 16 + a → C a b = 0 := fun b hb _ hne => c2 a b q hb hne
      rcases hSa with ⟨-, y | ⟨y, -⟩⟩ | ⟨y, -⟩
      · have e0 : smP 32 (fun b => ¬ S b) (C a) = 0 := smP_zero 32 (fun b hb hSb => hz b hb hSb (fun e => hSb (Or.inr ⟨by omega, by rw [e, show 16 + a - 16 = a by omega]; exact y⟩)))
        exact ⟨fun _ => by omega, fun _ => e0⟩
      · refine ⟨fun _ => ?_, fun z => absurd y z⟩
        have hw := w1 a y
        have e1 : C a (16 + a) = 1 := by rw [c1 a q, if_pos hw.1, if_neg (fun z => z.elim hw.2.1 hw.2.2)]
        have e2 := smP_put (P := fun b => ¬ S b) (f := fun _ => 0) (g := C a) (k := 16 + a) 32 (by omega) (fun j hj hne => by
          exact c2 a j q hj hne)
        have e3 : smP 32 (fun b => ¬ S b) (fun _ => 0) = 0 := smP_zero 32 (fun _ _ _ => rfl)
        by_cases z : ¬ S (16 + a)
        · have := e2.1 z; omega
        · have := e2.2 z; omega
      · omega
    · have e0 : smP 32 (fun b => ¬ S b) (C a) = 0 := smP_zero 32 (fun b hb hSb => by
        obtain ⟨n, rfl⟩ : ∃ n, a = 16 + n := ⟨a - 16, by omega⟩
        rcases Nat.lt_or_ge b 16 with z | z
        · refine (c3 n b (by omega) z).2 (fun e => hSb (Or.inl ⟨z, ?_⟩))
          have hDn : D n := by
            rcases hSa with ⟨y, -⟩ | ⟨-, y⟩
            · omega
            · rwa [show 16 + n - 16 = n by omega] at y
          by_cases hWb : W b
          · exact Or.inr ⟨hWb, n, hDn, e⟩
          · exact Or.inl (hDn.step e hWb)
        · exact c4 n b (by omega) z hb)
      exact ⟨fun _ => by omega, fun _ => e0⟩
  have hoth : Sep N v (fun x => x < N.n ∧ x ≠ N.root ∧ x ≠ v) := by
    refine ⟨fun x q => q, fun q => ?_⟩
    have : ∀ x, Rs N.E (fun z => z = N.root) (fun x => x < N.n ∧ x ≠ N.root ∧ x ≠ v) x → x = N.root := fun x hx => Rs.ind (X := fun x => x = N.root) (fun a s _ => s) (fun a b _ i e w => by
      subst i
      refine Classical.byContradiction (fun ne => w ⟨(NetM.E_lt hN e).2, ne, fun e2 => hE (by rw [← e2]; exact e)⟩)) hx
    exact hvr (this v q)
  have hk16 : k < 16 := by
    have h1 := low _ hoth
    have h2 : cnt 16 (fun x => x < N.n ∧ x ≠ N.root ∧ x ≠ v) < cnt 16 (fun _ => True) := cnt_lt (g := N.root) (by omega) (fun _ _ _ => trivial) (fun q => q.2.1 rfl) trivial
    have h3 := cnt_le 16 (fun _ => True)
    omega
  refine ⟨by omega, ?_, low⟩
  obtain ⟨⟨S, s1, s2, s3⟩, -⟩ := h
  have big : ∀ a b, a < 32 → b < 32 → S a → ¬ S b → C a b ≠ 16 := fun a b ha hb q1 q2 e => by
    have := cutV_ge (R := C) ha hb q1 q2
    omega
  have hsep : Sep N v (fun n => n < N.n ∧ S n ∧ ¬ S (16 + n)) := by
    refine ⟨fun x q => ⟨q.1, fun e => ?_, fun e => s2 (e ▸ q.2.1)⟩, fun q => ?_⟩
    · refine big x (16 + x) (by omega) (by omega) q.2.1 q.2.2 ?_
      rw [c1 x (by omega), if_pos q.1, if_pos (Or.inl e)]
    · have : ∀ x, Rs N.E (fun z => z = N.root) (fun n => n < N.n ∧ S n ∧ ¬ S (16 + n)) x → S x := fun x hx => Rs.ind (X := fun x => S x) (fun a s _ => by rw [s]; exact s1) (fun a b ha i e w => by
        have hl := NetM.E_lt hN e
        have hSa : S (16 + a) := Classical.byContradiction (fun z => ha.notW ⟨hl.1, i, z⟩)
        refine Classical.byContradiction (fun z => big (16 + a) b (by omega) (by omega) hSa z ?_)
        exact (c3 a b (by omega) (by omega)).1 e) hx
      exact s2 (this v q)
  refine ⟨_, hsep, Nat.le_antisymm ?_ (low _ hsep)⟩
  rw [← cnt_32 (fun k hk q => by have := q.1; omega), ← s3]
  refine cnt_smP 32 (fun n hn q => ⟨q.2.1, ?_⟩)
  have h1 : 1 ≤ C n (16 + n) := by
    rw [c1 n (by omega), if_pos q.1]
    split <;> omega
  exact Nat.le_trans h1 (smP_one (P := fun b => ¬ S b) (f := C n) 32 (by omega) q.2.2)
