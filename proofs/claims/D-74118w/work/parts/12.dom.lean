/-! gates and keepers of a net: the plain laws (own work) -/
/-- how many below n are so -/
noncomputable def cnt : Nat → (Nat → Prop) → Nat
  | 0, _ => 0
  | n + 1, P => cnt n P + @ite Nat (P n) (Classical.propDecidable _) 1 0
theorem cnt_s {n : Nat} {P : Nat → Prop} (h : P n) : cnt (n + 1) P = cnt n P + 1 := by
  show cnt n P + _ = _; rw [if_pos h]
theorem cnt_n {n : Nat} {P : Nat → Prop} (h : ¬ P n) : cnt (n + 1) P = cnt n P := by
  show cnt n P + _ = _; rw [if_neg h]; rfl
theorem cnt_congr {n : Nat} {P Q : Nat → Prop} (h : ∀ k, k < n → (P k ↔ Q k)) : cnt n P = cnt n Q := by
  induction n with
  | zero => rfl
  | succ n ih =>
    have e := ih (fun k hk => h k (by omega))
    by_cases hp : P n
    · rw [cnt_s hp, cnt_s ((h n (by omega)).1 hp), e]
    · rw [cnt_n hp, cnt_n (fun q => hp ((h n (by omega)).2 q)), e]
theorem cnt_mono {n : Nat} {P Q : Nat → Prop} (h : ∀ k, k < n → P k → Q k) : cnt n P ≤ cnt n Q := by
  induction n with
  | zero => exact Nat.le_refl _
  | succ n ih =>
    have e := ih (fun k hk => h k (by omega))
    by_cases hp : P n
    · rw [cnt_s hp, cnt_s (h n (by omega) hp)]; omega
    · rw [cnt_n hp]
      by_cases hq : Q n
      · rw [cnt_s hq]; omega
      · rw [cnt_n hq]; exact e
theorem cnt_le (n : Nat) (P : Nat → Prop) : cnt n P ≤ n := by
  induction n with
  | zero => exact Nat.le_refl _
  | succ n ih =>
    by_cases hp : P n
    · rw [cnt_s hp]; omega
    · rw [cnt_n hp]; omega
theorem cnt_0 {n : Nat} {P : Nat → Prop} (h : ∀ k, k < n → ¬ P k) : cnt n P = 0 := by
  induction n with
  | zero => rfl
  | succ n ih => rw [cnt_n (h n (by omega)), ih (fun k hk => h k (by omega))]
theorem cnt_pos {n : Nat} {P : Nat → Prop} {k : Nat} (hk : k < n) (h : P k) : 0 < cnt n P := by
  induction n with
  | zero => omega
  | succ n ih =>
    by_cases e : k = n
    · subst e; rw [cnt_s h]; omega
    · have := ih (by omega)
      by_cases hp : P n
      · rw [cnt_s hp]; omega
      · rw [cnt_n hp]; exact this
/-- one more -/
theorem cnt_add {n : Nat} {P Q : Nat → Prop} {g : Nat} (hg : g < n) (hq : ¬ Q g) (h : ∀ k, k < n → (P k ↔ Q k ∨ k = g)) : cnt n P = cnt n Q + 1 := by
  induction n with
  | zero => omega
  | succ n ih =>
    by_cases e : g = n
    · subst e
      have e1 : cnt g P = cnt g Q := cnt_congr (fun k hk => (h k (by omega)).trans ⟨fun a => a.resolve_right (by omega), Or.inl⟩)
      rw [cnt_s ((h g (by omega)).2 (Or.inr rfl)), cnt_n hq, e1]
    · have := ih (by omega) (fun k hk => h k (by omega))
      by_cases hp : Q n
      · rw [cnt_s hp, cnt_s ((h n (by omega)).2 (Or.inl hp)), this]
      · rw [cnt_n hp, cnt_n (fun z => ((h n (by omega)).1 z).elim hp (fun z => e z.symm)), this]
theorem cnt_lt {n : Nat} {P Q : Nat → Prop} {g : Nat} (hg : g < n) (h : ∀ k, k < n → P k → Q k) (hp : ¬ P g) (hq : Q g) : cnt n P < cnt n Q := by
  have h1 : cnt n (fun k => P k ∨ k = g) = cnt n P + 1 := cnt_add hg hp (fun k _ => Iff.rfl)
  have h2 : cnt n (fun k => P k ∨ k = g) ≤ cnt n Q := cnt_mono (fun k hk a => a.elim (h k hk) (fun e => by rw [e]; exact hq))
  omega
section DOM
variable {E : Nat → Nat → Prop} {r : Nat}
theorem Dm.R {g x : Nat} (h : Dm E r g x) : Rd E r x := h.1
theorem Rd.root : Rd E r r := Rs.base rfl (fun f => f)
theorem Rd.step {a b : Nat} (h : Rd E r a) (e : E a b) : Rd E r b := Rs.step h e (fun f => f)
theorem Rd.of {W : Nat → Prop} {x : Nat} (h : Rs E (fun z => z = r) W x) : Rd E r x := h.mono (fun _ _ e => e) (fun _ s => s) (fun _ f => f.elim)
theorem Dm.refl {x : Nat} (h : Rd E r x) : Dm E r x x := ⟨h, fun q => q.notW rfl⟩
theorem Dm.root {x : Nat} (h : Rd E r x) : Dm E r r x := ⟨h, fun q => by
  obtain ⟨a, e, w, -⟩ := q.from
  exact w e⟩
theorem Dm.Rg {g x : Nat} (h : Dm E r g x) : Rd E r g := by
  by_cases hg : Rd E r g
  · exact hg
  · exfalso
    apply h.2
    exact Rs.ind (X := fun x => Rs E (fun z => z = r) (fun z => z = g) x) (fun a s _ => Rs.base s (fun e => hg (by rw [← e, s]; exact Rd.root))) (fun a b ha ih e _ => ih.step e (fun eb => hg (by rw [← eb]; exact Rd.step ha e))) h.1
theorem Dm.trans {a b c : Nat} (h1 : Dm E r a b) (h2 : Dm E r b c) : Dm E r a c := by
  refine ⟨h2.1, fun q => ?_⟩
  have : Rs E (fun z => z = r) (fun z => z = b) c ∨ Rs E (fun z => z = r) (fun z => z = a) b := Rs.ind (X := fun x => Rs E (fun z => z = r) (fun z => z = b) x ∨ Rs E (fun z => z = r) (fun z => z = a) b) (fun z s w => by
      by_cases e : z = b
      · right; rw [← e]; exact Rs.base s w
      · exact Or.inl (Rs.base s e)) (fun u v hu ih e w => by
      rcases ih with ih | ih
      · by_cases ev : v = b
        · right; rw [← ev]; exact hu.step e w
        · exact Or.inl (ih.step e ev)
      · exact Or.inr ih) q
  exact this.elim h2.2 h1.2
theorem Dm.antisymm {a b : Nat} (h1 : Dm E r a b) (h2 : Dm E r b a) : a = b := by
  apply Classical.byContradiction
  intro ne
  have : Rs E (fun z => z = r) (fun z => z = a ∨ z = b) a ∨ Rs E (fun z => z = r) (fun z => z = b) a ∨ Rs E (fun z => z = r) (fun z => z = a) b := Rs.ind (X := fun x => Rs E (fun z => z = r) (fun z => z = a ∨ z = b) x ∨ Rs E (fun z => z = r) (fun z => z = b) a ∨ Rs E (fun z => z = r) (fun z => z = a) b) (fun z s _ => by
      by_cases ea : z = a
      · right; left; rw [← ea]; exact Rs.base s (fun e => ne (ea.symm.trans e))
      · by_cases eb : z = b
        · right; right; rw [← eb]; exact Rs.base s ea
        · exact Or.inl (Rs.base s (fun e => e.elim ea eb))) (fun u v _ ih e _ => by
      rcases ih with ih | ih
      · by_cases ea : v = a
        · right; left; rw [← ea]; exact (ih.mono (fun _ _ e => e) (fun _ s => s) (fun _ e => Or.inr e)).step e (fun eb => ne (ea.symm.trans eb))
        · by_cases eb : v = b
          · right; right; rw [← eb]; exact (ih.mono (fun _ _ e => e) (fun _ s => s) (fun _ e => Or.inl e)).step e ea
          · exact Or.inl (ih.step e (fun z => z.elim ea eb))
      · exact Or.inr ih) h2.1
  rcases this with h | h | h
  · exact h.notW (Or.inl rfl)
  · exact h2.2 h
  · exact h1.2 h
theorem Dm.chain {a b x : Nat} (h1 : Dm E r a x) (h2 : Dm E r b x) : Dm E r a b ∨ Dm E r b a := by
  by_cases ne : a = b
  · subst ne; exact Or.inl (Dm.refl h1.Rg)
  by_cases p1 : Rs E (fun z => z = r) (fun z => z = a) b
  · by_cases p2 : Rs E (fun z => z = r) (fun z => z = b) a
    · exfalso
      have : Rs E (fun z => z = r) (fun z => z = a ∨ z = b) x ∨ Rs E (fun z => z = a) (fun z => z = b) x ∨ Rs E (fun z => z = b) (fun z => z = a) x := Rs.ind (X := fun x => Rs E (fun z => z = r) (fun z => z = a ∨ z = b) x ∨ Rs E (fun z => z = a) (fun z => z = b) x ∨ Rs E (fun z => z = b) (fun z => z = a) x) (fun z s _ => by
          by_cases ea : z = a
          · exact Or.inr (Or.inl (Rs.base ea (fun e => ne (ea.symm.trans e))))
          · by_cases eb : z = b
            · exact Or.inr (Or.inr (Rs.base eb ea))
            · exact Or.inl (Rs.base s (fun e => e.elim ea eb))) (fun u v _ ih e _ => by
          by_cases ea : v = a
          · exact Or.inr (Or.inl (Rs.base ea (fun e => ne (ea.symm.trans e))))
          · by_cases eb : v = b
            · exact Or.inr (Or.inr (Rs.base eb ea))
            · rcases ih with ih | ih | ih
              · exact Or.inl (ih.step e (fun z => z.elim ea eb))
              · exact Or.inr (Or.inl (ih.step e eb))
              · exact Or.inr (Or.inr (ih.step e ea))) h1.1
      rcases this with h | h | h
      · exact h1.2 (h.mono (fun _ _ e => e) (fun _ s => s) (fun _ e => Or.inl e))
      · exact h2.2 (Rs.trans p2 h)
      · exact h1.2 (Rs.trans p1 h)
    · exact Or.inr ⟨h1.Rg, p2⟩
  · exact Or.inl ⟨h2.Rg, p1⟩
/-- a gate that isn't the node itself -/
def Pd (E : Nat → Nat → Prop) (r : Nat) (g x : Nat) : Prop := g ≠ x ∧ Dm E r g x
/-- the nearest -/
def Id (E : Nat → Nat → Prop) (r : Nat) (g x : Nat) : Prop := Pd E r g x ∧ ∀ h, Pd E r h x → Dm E r h g
theorem Id.uniq {g h x : Nat} (h1 : Id E r g x) (h2 : Id E r h x) : g = h := (h2.2 g h1.1).antisymm (h1.2 h h2.1)
theorem Pd.trans {a b c : Nat} (h1 : Pd E r a b) (h2 : Dm E r b c) : Pd E r a c := ⟨fun e => by
  subst e; exact h1.1 (h1.2.antisymm h2), h1.2.trans h2⟩
theorem Id.iff {g x : Nat} (h : Id E r g x) {k : Nat} : Pd E r k x ↔ Pd E r k g ∨ k = g := by
  constructor
  · intro hk
    by_cases e : k = g
    · exact Or.inr e
    · exact Or.inl ⟨e, h.2 k hk⟩
  · rintro (hk | e)
    · exact hk.trans h.1.2
    · rw [e]; exact h.1
theorem Id.ex {n : Nat} (hn : ∀ x, Rd E r x → x < n) {x : Nat} (hx : Rd E r x) (hr : x ≠ r) : ∃ g, Id E r g x := by
  have : ∀ k, (∃ g, g < k ∧ Pd E r g x) → ∃ g, g < k ∧ Pd E r g x ∧ ∀ h, h < k → Pd E r h x → Dm E r h g := by
    intro k
    induction k with
    | zero => rintro ⟨g, hg, -⟩; omega
    | succ k ih =>
      rintro ⟨g, hg, hp⟩
      by_cases hk : Pd E r k x
      · by_cases h1 : ∃ g, g < k ∧ Pd E r g x
        · obtain ⟨g1, hg1, hp1, hm1⟩ := ih h1
          rcases hp1.2.chain hk.2 with c | c
          · refine ⟨k, by omega, hk, fun h hh hph => ?_⟩
            by_cases e : h = k
            · subst e; exact Dm.refl hk.2.Rg
            · exact (hm1 h (by omega) hph).trans c
          · refine ⟨g1, by omega, hp1, fun h hh hph => ?_⟩
            by_cases e : h = k
            · subst e; exact c
            · exact hm1 h (by omega) hph
        · refine ⟨k, by omega, hk, fun h hh hph => ?_⟩
          by_cases e : h = k
          · subst e; exact Dm.refl hk.2.Rg
          · exact absurd ⟨h, by omega, hph⟩ h1
      · obtain ⟨g1, hg1, hp1, hm1⟩ := ih ⟨g, by have : g ≠ k := fun e => hk (by rw [← e]; exact hp); omega, hp⟩
        refine ⟨g1, by omega, hp1, fun h hh hph => ?_⟩
        by_cases e : h = k
        · subst e; exact absurd hph hk
        · exact hm1 h (by omega) hph
  obtain ⟨g, hg, hp, hm⟩ := this n ⟨r, hn r Rd.root, ⟨fun e => hr e.symm, Dm.root hx⟩⟩
  exact ⟨g, hp, fun h hh => hm h (hn h hh.2.Rg) hh⟩
/-- how deep -/
noncomputable def dep (E : Nat → Nat → Prop) (r n x : Nat) : Nat := cnt n (fun g => Pd E r g x)
theorem dep_root {n : Nat} : dep E r n r = 0 := cnt_0 (fun k _ h => h.1 (h.2.antisymm (Dm.root h.2.Rg)))
theorem dep_id {n g x : Nat} (hn : ∀ x, Rd E r x → x < n) (h : Id E r g x) : dep E r n x = dep E r n g + 1 :=
  cnt_add (hn g h.1.2.Rg) (fun q => q.1 rfl) (fun k _ => h.iff)
theorem dep_lt {n a b : Nat} (hn : ∀ x, Rd E r x → x < n) (h : Pd E r a b) : dep E r n a < dep E r n b :=
  cnt_lt (hn a h.2.Rg) (fun k _ hk => hk.trans h.2) (fun q => q.1 rfl) h
theorem dep_n {n x : Nat} (hn : ∀ x, Rd E r x → x < n) (hx : Rd E r x) : dep E r n x < n := by
  have h1 : cnt n (fun g => Pd E r g x) < cnt n (fun _ => True) := cnt_lt (hn x hx) (fun _ _ _ => trivial) (fun q => q.1 rfl) trivial
  have h2 := cnt_le n (fun _ => True)
  exact Nat.lt_of_lt_of_le h1 h2
theorem dep_le {n a b : Nat} (hn : ∀ x, Rd E r x → x < n) (h : Dm E r a b) : dep E r n a ≤ dep E r n b := by
  by_cases e : a = b
  · subst e; exact Nat.le_refl _
  · exact Nat.le_of_lt (dep_lt hn ⟨e, h⟩)
/-- of two gates of one node the one that is less deep is a gate of the other -/
theorem Dm.of_dep {n a b x : Nat} (hn : ∀ x, Rd E r x → x < n) (h1 : Dm E r a x) (h2 : Dm E r b x) (h : dep E r n a ≤ dep E r n b) : Dm E r a b := by
  rcases h1.chain h2 with c | c
  · exact c
  · by_cases e : b = a
    · subst e; exact c
    · have := dep_lt hn (⟨e, c⟩ : Pd E r b a); omega
/-- a node's gates, one for each depth -/
theorem Dm.at {n x : Nat} (hn : ∀ x, Rd E r x → x < n) : ∀ d, Rd E r x → d ≤ dep E r n x → ∃ g, Dm E r g x ∧ dep E r n g = d := by
  have : ∀ j x, Rd E r x → ∀ d, d + j = dep E r n x → ∃ g, Dm E r g x ∧ dep E r n g = d := by
    intro j
    induction j with
    | zero => intro x hx d e; exact ⟨x, Dm.refl hx, by omega⟩
    | succ j ih =>
      intro x hx d e
      have hr : x ≠ r := fun er => by rw [er, dep_root] at e; omega
      obtain ⟨g, hg⟩ := Id.ex hn hx hr
      have e2 := dep_id hn hg
      obtain ⟨k, hk, ek⟩ := ih g hg.1.2.Rg d (by omega)
      exact ⟨k, hk.trans hg.1.2, ek⟩
  intro d hx hd
  exact this (dep E r n x - d) x hx d (by omega)
end DOM
