/-! an arc comes: what becomes of the gates (own work) -/
/-- one step more -/
def Ins (E : Nat → Nat → Prop) (a b u v : Nat) : Prop := E u v ∨ (u = a ∧ v = b)
section INS
variable {E : Nat → Nat → Prop} {r a b : Nat}
theorem Ins.lost {g x : Nat} (h : Rs (Ins E a b) (fun z => z = r) (fun z => z = g) x) : Rs E (fun z => z = r) (fun z => z = g) x ∨ (Rs E (fun z => z = r) (fun z => z = g) a ∧ g ≠ b ∧ Rs E (fun z => z = b) (fun z => z = g) x) :=
  Rs.ind (X := fun x => Rs E (fun z => z = r) (fun z => z = g) x ∨ (Rs E (fun z => z = r) (fun z => z = g) a ∧ g ≠ b ∧ Rs E (fun z => z = b) (fun z => z = g) x)) (fun z s w => Or.inl (Rs.base s w)) (fun u v _ ih e w => by
    rcases e with e | ⟨eu, ev⟩
    · rcases ih with ih | ⟨h1, h2, h3⟩
      · exact Or.inl (ih.step e w)
      · exact Or.inr ⟨h1, h2, h3.step e w⟩
    · right
      have hb : b ≠ g := fun z => w (ev.trans z)
      rcases ih with ih | ⟨h1, h2, h3⟩
      · exact ⟨by rw [← eu]; exact ih, fun z => hb z.symm, by rw [ev]; exact Rs.base rfl hb⟩
      · exact ⟨h1, h2, by rw [ev]; exact Rs.base rfl hb⟩) h
theorem Ins.rd (hb : Rd E r b) {x : Nat} : Rd (Ins E a b) r x ↔ Rd E r x := by
  constructor
  · intro h
    exact Rs.ind (X := fun x => Rd E r x) (fun z s w => Rs.base s w) (fun u v _ ih e w => by
      rcases e with e | ⟨eu, ev⟩
      · exact Rd.step ih e
      · rw [ev]; exact hb) h
  · exact fun h => h.mono (fun _ _ e => Or.inl e) (fun _ s => s) (fun _ f => f)
theorem Ins.dm (hb : Rd E r b) {g x : Nat} (h : Dm (Ins E a b) r g x) : Dm E r g x := ⟨(Ins.rd hb).1 h.1, fun q => h.2 (q.mono (fun _ _ e => Or.inl e) (fun _ s => s) (fun _ f => f))⟩
theorem Ins.keep (hb : Rd E r b) {g x : Nat} (h : Dm E r g x) (hk : Dm E r g a ∨ g = b ∨ ¬ Rs E (fun z => z = b) (fun z => z = g) x) : Dm (Ins E a b) r g x := by
  refine ⟨(Ins.rd hb).2 h.1, fun q => ?_⟩
  rcases Ins.lost q with q | ⟨q1, q2, q3⟩
  · exact h.2 q
  · rcases hk with k | k | k
    · exact k.2 q1
    · exact q2 k
    · exact k q3
theorem Ins.gone (ha : Rd E r a) {g x : Nat} (h1 : ¬ Dm E r g a) (h2 : g ≠ b) (h3 : Rs E (fun z => z = b) (fun z => z = g) x) : ¬ Dm (Ins E a b) r g x := by
  intro q
  have p : Rs E (fun z => z = r) (fun z => z = g) a := Classical.byContradiction fun z => h1 ⟨ha, z⟩
  have p1 : Rs (Ins E a b) (fun z => z = r) (fun z => z = g) a := p.mono (fun _ _ e => Or.inl e) (fun _ s => s) (fun _ f => f)
  exact q.2 (Rs.trans (p1.step (Or.inr ⟨rfl, rfl⟩) (fun z => h2 z.symm)) (h3.mono (fun _ _ e => Or.inl e) (fun _ s => s) (fun _ f => f)))
/-- the nearest gate that two have in common -/
def Near (E : Nat → Nat → Prop) (r a b z : Nat) : Prop := Dm E r z a ∧ Dm E r z b ∧ ∀ g, Dm E r g a → Dm E r g b → Dm E r g z
/-- who is lifted -/
def Af (E : Nat → Nat → Prop) (r n b z x : Nat) : Prop := dep E r n z + 1 < dep E r n x ∧ Rs E (fun w => w = b) (fun w => dep E r n w < dep E r n x) x
theorem Af.R {n z x : Nat} (hb : Rd E r b) (h : Af E r n b z x) : Rd E r x := Rs.trans hb (h.2.mono (fun _ _ e => e) (fun _ s => s) (fun _ f => f.elim))
theorem Af.leb {n z x : Nat} (h : Af E r n b z x) : dep E r n x ≤ dep E r n b := by
  obtain ⟨c, e, w, -⟩ := h.2.from
  subst e; omega
theorem Af.id {n z x : Nat} (hn : ∀ x, Rd E r x → x < n) (ha : Rd E r a) (hb : Rd E r b) (hz : Near E r a b z) (h : Af E r n b z x) : Id (Ins E a b) r z x := by
  obtain ⟨hz1, hz2, hz3⟩ := hz
  have hR := h.R hb
  have av : ∀ g, dep E r n g < dep E r n x → Rs E (fun w => w = b) (fun w => w = g) x := fun g hg => h.2.mono (fun _ _ e => e) (fun _ s => s) (fun w e => by rw [e]; exact hg)
  have i : ∀ g, Pd E r g x → Dm E r g b := fun g hg => ⟨hb, fun q => hg.2.2 (Rs.trans q (av g (dep_lt hn hg)))⟩
  have zx : Pd E r z x := by
    obtain ⟨k, hk, ek⟩ := Dm.at hn (dep E r n z) hR (by have := h.1; omega)
    have kx : k ≠ x := fun e => by rw [e] at ek; have := h.1; omega
    have kb := i k ⟨kx, hk⟩
    have e : k = z := (Dm.of_dep hn kb hz2 (by omega)).antisymm (Dm.of_dep hn hz2 kb (by omega))
    subst e; exact ⟨kx, hk⟩
  refine ⟨⟨zx.1, Ins.keep hb zx.2 (Or.inl hz1)⟩, fun g hg => ?_⟩
  have hg1 : Pd E r g x := ⟨hg.1, Ins.dm hb hg.2⟩
  have gb := i g hg1
  by_cases ga : Dm E r g a
  · exact Ins.keep hb (hz3 g ga gb) (Or.inl ga)
  · refine absurd hg.2 (Ins.gone ha ga (fun e => ?_) (av g (dep_lt hn hg1)))
    subst e
    have := h.leb; have := dep_lt hn hg1; omega
theorem Af.same {n z x i : Nat} (hn : ∀ x, Rd E r x → x < n) (hb : Rd E r b) (hz : Near E r a b z) (h : ¬ Af E r n b z x) (hi : Id E r i x) : Id (Ins E a b) r i x := by
  obtain ⟨hz1, hz2, hz3⟩ := hz
  have hD : Dm (Ins E a b) r i x := by
    by_cases ia : Dm E r i a
    · exact Ins.keep hb hi.1.2 (Or.inl ia)
    by_cases ib : i = b
    · exact Ins.keep hb hi.1.2 (Or.inr (Or.inl ib))
    by_cases p : Rs E (fun z => z = b) (fun z => z = i) x
    · exfalso
      apply h
      have ed := dep_id hn hi
      have ib2 : Dm E r i b := ⟨hb, fun q => hi.1.2.2 (Rs.trans q p)⟩
      have lz : dep E r n z < dep E r n i := by
        rcases Nat.lt_or_ge (dep E r n z) (dep E r n i) with q | q
        · exact q
        · exact absurd ((Dm.of_dep hn ib2 hz2 q).trans hz1) ia
      refine ⟨by omega, ?_⟩
      have key := Rs.ind (X := fun w => Rs E (fun z => z = w) (fun z => z = i) x → Rs E (fun w => w = b) (fun w => dep E r n w < dep E r n x) w) (fun w s _ _ => by
          subst s
          have := dep_lt hn (⟨ib, ib2⟩ : Pd E r i w)
          exact Rs.base rfl (by omega)) (fun u v hu ih e w q => by
          have q2 : Rs E (fun z => z = u) (fun z => z = i) x := Rs.cons e hu.notW q
          have hv : Dm E r i v := ⟨Rs.trans (E := E) (S := fun z => z = r) hb ((hu.step e w).mono (fun _ _ e => e) (fun _ s => s) (fun _ f => f.elim)), fun z => hi.1.2.2 (Rs.trans z q)⟩
          have := dep_lt hn (⟨fun e => w e.symm, hv⟩ : Pd E r i v)
          exact (ih q2).step e (by omega)) p
      exact key (Rs.base rfl (fun e => hi.1.1 e.symm))
    · exact Ins.keep hb hi.1.2 (Or.inr (Or.inr p))
  refine ⟨⟨hi.1.1, hD⟩, fun g hg => ?_⟩
  rcases hg.2.chain hD with c | c
  · exact c
  · have e : i = g := (Ins.dm hb c).antisymm (hi.2 g ⟨hg.1, Ins.dm hb hg.2⟩)
    subst e; exact c
end INS
/-! a part is reached at last, by one step from a to b -/
section JOIN
variable {E : Nat → Nat → Prop} {r a b : Nat}
/-- the part: what b comes to without those that are reached already -/
def Part (E : Nat → Nat → Prop) (r b x : Nat) : Prop := Rs E (fun z => z = b) (fun z => Rd E r z) x
/-- the net without the part's steps to the rest -/
def Ej (E : Nat → Nat → Prop) (r a b u v : Nat) : Prop := Ins E a b u v ∧ ¬ (Part E r b u ∧ Rd E r v)
/-- the part's own steps -/
def Ep (E : Nat → Nat → Prop) (r b u v : Nat) : Prop := E u v ∧ Part E r b u ∧ Part E r b v
theorem Part.not {x : Nat} (h : Part E r b x) : ¬ Rd E r x := h.notW
theorem Ej.into {u v : Nat} (e : Ej E r a b u v) (hu : Rd E r u ∨ Part E r b u) : (Rd E r u ∧ Rd E r v ∧ E u v) ∨ (u = a ∧ v = b) ∨ Ep E r b u v := by
  obtain ⟨e, hn⟩ := e
  rcases e with e | e
  · rcases hu with hu | hu
    · exact Or.inl ⟨hu, Rd.step hu e, e⟩
    · have hv : ¬ Rd E r v := fun z => hn ⟨hu, z⟩
      exact Or.inr (Or.inr ⟨e, hu, hu.step e hv⟩)
  · exact Or.inr (Or.inl e)
theorem Ej.R (ha : Rd E r a) (hb : ¬ Rd E r b) {x : Nat} : Rd (Ej E r a b) r x ↔ Rd E r x ∨ Part E r b x := by
  constructor
  · intro h
    exact Rs.ind (X := fun x => Rd E r x ∨ Part E r b x) (fun z s w => Or.inl (Rs.base s w)) (fun u v _ ih e _ => by
      rcases Ej.into e ih with ⟨-, h, -⟩ | ⟨-, h⟩ | ⟨-, -, h⟩
      · exact Or.inl h
      · rw [h]; exact Or.inr (Rs.base rfl hb)
      · exact Or.inr h) h
  · have h1 : ∀ x, Rd E r x → Rd (Ej E r a b) r x := fun x h => Rs.ind (X := fun x => Rd (Ej E r a b) r x) (fun z s w => Rs.base s w) (fun u v hu ih e _ => Rd.step ih ⟨Or.inl e, fun z => z.1.not hu⟩) h
    rintro (h | h)
    · exact h1 x h
    · have hb1 : Rd (Ej E r a b) r b := Rd.step (h1 a ha) ⟨Or.inr ⟨rfl, rfl⟩, fun z => z.1.not ha⟩
      exact Rs.ind (X := fun x => Rd (Ej E r a b) r x) (fun z s w => by rw [s]; exact hb1) (fun u v hu ih e w => Rd.step ih ⟨Or.inl e, fun z => w z.2⟩) h
/-- within the rest nothing changes -/
theorem Ej.rest (ha : Rd E r a) (hb : ¬ Rd E r b) {W : Nat → Prop} {x : Nat} (hx : Rd E r x) : Rs (Ej E r a b) (fun z => z = r) W x ↔ Rs E (fun z => z = r) W x := by
  constructor
  · intro h
    exact Rs.ind (X := fun x => Rd E r x → Rs E (fun z => z = r) W x) (fun z s w _ => Rs.base s w) (fun u v hu ih e w hv => by
      rcases Ej.into e ((Ej.R ha hb).1 (Rd.of hu)) with ⟨h1, -, h3⟩ | ⟨-, h⟩ | ⟨-, -, h⟩
      · exact (ih h1).step h3 w
      · rw [h] at hv; exact absurd hv hb
      · exact absurd hv h.not) h hx
  · intro h
    exact Rs.ind (X := fun x => Rs (Ej E r a b) (fun z => z = r) W x) (fun z s w => Rs.base s w) (fun u v hu ih e w => ih.step ⟨Or.inl e, fun z => z.1.not (Rd.of hu)⟩ w) h
theorem Ej.dmRest (ha : Rd E r a) (hb : ¬ Rd E r b) {g x : Nat} (hx : Rd E r x) : Dm (Ej E r a b) r g x ↔ Dm E r g x := by
  constructor
  · exact fun h => ⟨hx, fun q => h.2 ((Ej.rest ha hb hx).2 q)⟩
  · exact fun h => ⟨(Ej.R ha hb).2 (Or.inl hx), fun q => h.2 ((Ej.rest ha hb hx).1 q)⟩
theorem Ej.idRest (ha : Rd E r a) (hb : ¬ Rd E r b) {g x : Nat} (h : Id E r g x) : Id (Ej E r a b) r g x := by
  have hx := h.1.2.1
  refine ⟨⟨h.1.1, (Ej.dmRest ha hb hx).2 h.1.2⟩, fun k hk => ?_⟩
  exact (Ej.dmRest ha hb h.1.2.Rg).2 (h.2 k ⟨hk.1, (Ej.dmRest ha hb hx).1 hk.2⟩)
theorem Ej.idB (ha : Rd E r a) (hb : ¬ Rd E r b) : Id (Ej E r a b) r a b := by
  have hRb : Rd (Ej E r a b) r b := (Ej.R ha hb).2 (Or.inr (Rs.base rfl hb))
  refine ⟨⟨fun e => hb (by rw [← e]; exact ha), hRb, fun q => ?_⟩, fun h hh => ⟨(Ej.R ha hb).2 (Or.inl ha), fun q => ?_⟩⟩
  · have := Rs.ind (X := fun x => Rd E r x) (fun z s _ => Rs.base s (fun f => f)) (fun u v hu ih e w => by
      rcases Ej.into e (Or.inl ih) with ⟨-, h, -⟩ | ⟨h, -⟩ | ⟨-, h, -⟩
      · exact h
      · exact absurd h hu.notW
      · exact absurd ih h.not) q
    exact hb this
  · exact hh.2.2 (q.step ⟨Or.inr ⟨rfl, rfl⟩, fun z => z.1.not ha⟩ (fun e => hh.1 e.symm))
/-- into the part there is one way in -/
theorem Ej.inPart (ha : Rd E r a) (hb : ¬ Rd E r b) {W : Nat → Prop} {x : Nat} (h : Rs (Ej E r a b) (fun z => z = r) W x) (hx : Part E r b x) : Rs (Ep E r b) (fun z => z = b) W x :=
  Rs.ind (X := fun x => Part E r b x → Rs (Ep E r b) (fun z => z = b) W x) (fun z s _ hp => absurd (by rw [s]; exact Rd.root) hp.not) (fun u v hu ih e w hv => by
    rcases Ej.into e ((Ej.R ha hb).1 (Rd.of hu)) with ⟨-, h, -⟩ | ⟨-, h⟩ | h
    · exact absurd h hv.not
    · rw [h]; rw [h] at w; exact Rs.base rfl w
    · exact (ih h.2.1).step h w) h hx
theorem Ep.ej {u v : Nat} (e : Ep E r b u v) : Ej E r a b u v := ⟨Or.inl e.1, fun z => e.2.2.not z.2⟩
theorem Ep.part (hb : ¬ Rd E r b) {x : Nat} : Rd (Ep E r b) b x ↔ Part E r b x := by
  constructor
  · intro h
    exact Rs.ind (X := fun x => Part E r b x) (fun z s _ => by rw [s]; exact Rs.base rfl hb) (fun u v _ _ e _ => e.2.2) h
  · intro h
    exact Rs.ind (X := fun x => Rd (Ep E r b) b x) (fun z s _ => by rw [s]; exact Rd.root) (fun u v hu ih e w => Rd.step ih ⟨e, hu, hu.step e w⟩) h
/-- from a gate a way goes on -/
theorem Dm.way {E : Nat → Nat → Prop} {r g x : Nat} (h : Dm E r g x) : Rs E (fun z => z = g) (fun _ => False) x := by
  have : Rs E (fun z => z = r) (fun z => z = g) x ∨ Rs E (fun z => z = g) (fun _ => False) x := Rs.ind (X := fun x => Rs E (fun z => z = r) (fun z => z = g) x ∨ Rs E (fun z => z = g) (fun _ => False) x) (fun z s _ => by
      by_cases e : z = g
      · exact Or.inr (Rs.base e (fun f => f))
      · exact Or.inl (Rs.base s e)) (fun u v _ ih e _ => by
      rcases ih with ih | ih
      · by_cases ev : v = g
        · exact Or.inr (Rs.base ev (fun f => f))
        · exact Or.inl (ih.step e ev)
      · exact Or.inr (ih.step e (fun f => f))) h.1
  exact this.resolve_left h.2
theorem Ej.idPart (ha : Rd E r a) (hb : ¬ Rd E r b) {i x : Nat} (h : Id (Ep E r b) b i x) : Id (Ej E r a b) r i x := by
  have hx : Part E r b x := (Ep.part hb).1 h.1.2.1
  have hi : Part E r b i := (Ep.part hb).1 h.1.2.Rg
  have hRx : Rd (Ej E r a b) r x := (Ej.R ha hb).2 (Or.inr hx)
  have ent : ∀ W : Nat → Prop, (∀ z, W z → Part E r b z) → ¬ W b → ∀ y, Rs (Ep E r b) (fun z => z = b) W y → Rs (Ej E r a b) (fun z => z = r) W y := fun W hW hWb y hy => by
    have h1 : Rs (Ej E r a b) (fun z => z = r) W a := (Ej.rest ha hb ha).2 (Rs.ind (X := fun x => Rs E (fun z => z = r) W x) (fun z s _ => Rs.base s (fun w => (hW z w).not (by rw [s]; exact Rd.root))) (fun u v hu ih e _ => ih.step e (fun w => (hW v w).not (Rd.step hu e))) ha)
    exact Rs.trans (h1.step ⟨Or.inr ⟨rfl, rfl⟩, fun z => z.1.not ha⟩ hWb) (hy.mono (fun _ _ e => e.ej) (fun _ s => s) (fun _ f => f))
  refine ⟨⟨h.1.1, hRx, fun q => h.1.2.2 (Ej.inPart ha hb q hx)⟩, fun g hg => ⟨(Ej.R ha hb).2 (Or.inr hi), fun q => ?_⟩⟩
  by_cases gp : Part E r b g
  · have g1 : Dm (Ep E r b) b g x := ⟨(Ep.part hb).2 hx, fun z => by
      by_cases eb : g = b
      · subst eb; exact (Dm.root (Rd.of z)).2 z
      · exact hg.2.2 (ent _ (fun z e => by rw [e]; exact gp) (fun e => eb e.symm) x z)⟩
    exact (h.2 g ⟨hg.1, g1⟩).2 (Ej.inPart ha hb q hi)
  · have w := (Dm.way h.1.2)
    have w2 : Rs (Ej E r a b) (fun z => z = i) (fun z => z = g) x := Rs.ind (X := fun x => Rs (Ej E r a b) (fun z => z = i) (fun z => z = g) x) (fun z s _ => Rs.base s (fun e => gp (by rw [← e, s]; exact hi))) (fun u v _ ih e _ => ih.step e.ej (fun ev => gp (by rw [← ev]; exact e.2.2))) w
    exact hg.2.2 (Rs.trans q w2)
end JOIN
