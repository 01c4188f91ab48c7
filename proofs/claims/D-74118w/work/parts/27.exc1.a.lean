/-! exc1: contracts, pure predicates (printed by gen.py) -/
def ps_X1_must (z : Int32)  : Prop := ¬ z = 0
def px_X1_must (z : Int32) (E : String)  : Prop := z = 0 ∧ E = "java/lang/IllegalArgumentException"
def wp_X1_must (z : Int32) (Q : Prop) (QX : String → Prop) : Prop :=
  ((¬ z = 0 → (Q)) ∧
 (z = 0 → (QX ("java/lang/IllegalArgumentException"))))
theorem pf_X1_must (z : Int32) : wp_X1_must z (ps_X1_must z) (px_X1_must z) := by
  exact ⟨fun z => z, fun z => ⟨z, rfl⟩⟩
def ps_X1_mustBe (z : Int32)  : Prop := ¬ z = 0
def px_X1_mustBe (z : Int32) (E : String)  : Prop := z = 0 ∧ E = "java/lang/IndexOutOfBoundsException"
def wp_X1_mustBe (z : Int32) (Q : Prop) (QX : String → Prop) : Prop :=
  ((¬ z = 0 → (Q)) ∧
 (z = 0 → (QX ("java/lang/IndexOutOfBoundsException"))))
theorem pf_X1_mustBe (z : Int32) : wp_X1_mustBe z (ps_X1_mustBe z) (px_X1_mustBe z) := by
  exact ⟨fun z => z, fun z => ⟨z, rfl⟩⟩
def ps_X1_isNode (wa wy un ga lo mo li kt wk wd : Int32) (f t w c o : Nat → Int32) (nd rt ex mn : Int32) (kp dp tw wt st : Nat → Int32) (tn tr tre tm ts v : Int32)  : Prop := 0 ≤ v ∧ v < nd
def px_X1_isNode (wa wy un ga lo mo li kt wk wd : Int32) (f t w c o : Nat → Int32) (nd rt ex mn : Int32) (kp dp tw wt st : Nat → Int32) (tn tr tre tm ts v : Int32) (E : String)  : Prop := ¬ (0 ≤ v ∧ v < nd) ∧ E = "java/lang/IndexOutOfBoundsException"
def wp_X1_isNode (wa wy un ga lo mo li kt wk wd : Int32) (f t w c o : Nat → Int32) (nd rt ex mn : Int32) (kp dp tw wt st : Nat → Int32) (tn tr tre tm ts v : Int32) (Q : Prop) (QX : String → Prop) : Prop :=
  ∀ (r_1 : Int32), ps_X3_isNode f t w c o nd rt ex mn v r_1 → ((∀ (E_2 : String), px_X1_mustBe r_1 E_2 → QX E_2) ∧ (ps_X1_mustBe r_1 → (Q)))
theorem pf_X1_isNode (wa wy un ga lo mo li kt wk wd : Int32) (f t w c o : Nat → Int32) (nd rt ex mn : Int32) (kp dp tw wt st : Nat → Int32) (tn tr tre tm ts v : Int32) : wp_X1_isNode wa wy un ga lo mo li kt wk wd f t w c o nd rt ex mn kp dp tw wt st tn tr tre tm ts v (ps_X1_isNode wa wy un ga lo mo li kt wk wd f t w c o nd rt ex mn kp dp tw wt st tn tr tre tm ts v) (px_X1_isNode wa wy un ga lo mo li kt wk wd f t w c o nd rt ex mn kp dp tw wt st tn tr tre tm ts v) := by
  intro r hr
  have hr : r = i1 (0 ≤ v ∧ v < nd) := hr
  refine ⟨fun E hE => ⟨?_, hE.2⟩, fun z => ?_⟩
  · have := hE.1
    rwa [hr, i1_eq0] at this
  · have z : ¬ r = 0 := z
    rw [hr, i1_eq0] at z
    exact Classical.not_not.1 z
