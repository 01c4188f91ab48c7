/-! the net as numbers (own work) -/
abbrev NetM : Type := (Nat × Nat × Nat × Nat) × (Nat → Nat) × (Nat → Nat) × (Nat → Bool) × (Nat → Nat)
def NetM.n (N : NetM) : Nat := N.1.1
def NetM.root (N : NetM) : Nat := N.1.2.1
def NetM.exit (N : NetM) : Nat := N.1.2.2.1
def NetM.m (N : NetM) : Nat := N.1.2.2.2
def NetM.fr (N : NetM) : Nat → Nat := N.2.1
def NetM.to (N : NetM) : Nat → Nat := N.2.2.1
def NetM.op (N : NetM) : Nat → Bool := N.2.2.2.1
def NetM.tl (N : NetM) : Nat → Nat := N.2.2.2.2
/-- its numbers are in their bounds -/
def NetM.ok (N : NetM) : Prop := 2 ≤ N.n ∧ N.n ≤ 16 ∧ N.root < N.n ∧ N.exit < N.n ∧ N.m ≤ 60 ∧ (∀ k, k < N.m → N.fr k < N.n ∧ N.to k < N.n) ∧ ∀ a, a < 16 → N.tl a ≤ 99
/-- who goes to whom by arcs that are not shut -/
def NetM.E (N : NetM) (a b : Nat) : Prop := ∃ k, k < N.m ∧ N.op k = true ∧ N.fr k = a ∧ N.to k = b
/-- the same, one arc left out -/
def NetM.Eb (N : NetM) (x a b : Nat) : Prop := ∃ k, k < N.m ∧ k ≠ x ∧ N.op k = true ∧ N.fr k = a ∧ N.to k = b
theorem NetM.E_lt {N : NetM} (h : N.ok) {a b : Nat} (e : N.E a b) : a < N.n ∧ b < N.n := by
  obtain ⟨k, hk, -, rfl, rfl⟩ := e; exact h.2.2.2.2.2.1 k hk
theorem NetM.Eb_E {N : NetM} {x a b : Nat} (e : N.Eb x a b) : N.E a b := by
  obtain ⟨k, hk, -, h⟩ := e; exact ⟨k, hk, h⟩
/-- a net's arrays and numbers hold N -/
def NetR (N : NetM) (f t w c o : Nat → Int32) (nd rt ex mn : Int32) : Prop :=
  N.ok ∧ nd = nI N.n ∧ rt = nI N.root ∧ ex = nI N.exit ∧ mn = nI N.m ∧ (∀ k, k < N.m → f k = nI (N.fr k) ∧ t k = nI (N.to k)) ∧ (∀ k, k < 60 → o k = 0 ∨ o k = 1) ∧ (∀ k, k < N.m → (N.op k = true ↔ o k = 1)) ∧ (∀ a, a < 16 → c a = nI (N.tl a)) ∧ RowsIs f t o mn w
theorem NetR.B {N : NetM} {f t w c o : Nat → Int32} {nd rt ex mn : Int32} (h : NetR N f t w c o nd rt ex mn) : NetB f t o mn := by
  obtain ⟨hok, h1, h2, h3, h4, h5, h6, h7, h8, h9⟩ := h
  obtain ⟨q1, q2, q3, q4, q5, q6, q7⟩ := hok
  exact ⟨N.m, h4, q5, fun k hk => ⟨N.fr k, N.to k, (h5 k hk).1, (h5 k hk).2, by have := (q6 k hk).1; omega, by have := (q6 k hk).2; omega⟩, h6⟩
theorem rows_E {N : NetM} (hok : N.ok) {f t o : Nat → Int32} (h5 : ∀ k, k < N.m → f k = nI (N.fr k) ∧ t k = nI (N.to k)) (h7 : ∀ k, k < N.m → (N.op k = true ↔ o k = 1)) {a b : Nat} (ha : a < 16) (hb : b < 16) :
    (∃ k : Nat, k < (nI N.m).toNatClampNeg ∧ o k = 1 ∧ f k = nI a ∧ t k = nI b) ↔ N.E a b := by
  obtain ⟨q1, q2, q3, q4, q5, q6, q7⟩ := hok
  rw [clN (by omega)]
  constructor
  · rintro ⟨k, hk, e1, e2, e3⟩
    obtain ⟨h51, h52⟩ := h5 k hk
    obtain ⟨q61, q62⟩ := q6 k hk
    rw [h51, eqN (by omega) (by omega)] at e2
    rw [h52, eqN (by omega) (by omega)] at e3
    exact ⟨k, hk, (h7 k hk).2 e1, e2, e3⟩
  · rintro ⟨k, hk, e1, e2, e3⟩
    obtain ⟨h51, h52⟩ := h5 k hk
    exact ⟨k, hk, (h7 k hk).1 e1, by rw [h51, e2], by rw [h52, e3]⟩
theorem NetR.rows {N : NetM} {f t w c o : Nat → Int32} {nd rt ex mn : Int32} (h : NetR N f t w c o nd rt ex mn) {a : Nat} (ha : a < 16) : IsSet (w a) (N.E a) := by
  obtain ⟨hok, h1, h2, h3, h4, h5, h6, h7, h8, h9⟩ := h
  subst h4
  exact (h9 a ha).congr (fun b hb => rows_E hok h5 h7 ha hb)
theorem NetR.nd {N : NetM} {f t w c o : Nat → Int32} {nd rt ex mn : Int32} (h : NetR N f t w c o nd rt ex mn) : nd = nI N.n := h.2.1
theorem Er_iff {n : Nat} {ρ : Nat → Int32} {E : Nat → Nat → Prop} (hn : n ≤ 16) (hE : ∀ a b, E a b → a < n ∧ b < n) (hw : ∀ a, a < 16 → IsSet (ρ a) (E a)) (a b : Nat) : Er (nI n) ρ a b ↔ E a b := by
  unfold Er
  rw [clN (by omega)]
  constructor
  · rintro ⟨h1, h2⟩
    rcases Nat.lt_or_ge b 32 with q | q
    · exact ((hw a (by omega) b q).1 h2).2
    · rw [b_big q] at h2; exact absurd h2 (by simp)
  · intro e
    obtain ⟨h1, h2⟩ := hE a b e
    exact ⟨h1, (hw a (by omega) b (by omega)).2 ⟨by omega, e⟩⟩
theorem RowsW_of {n : Nat} {ρ : Nat → Int32} {E : Nat → Nat → Prop} (hn : n ≤ 16) (hE : ∀ a b, E a b → a < n ∧ b < n) (hw : ∀ a, a < 16 → IsSet (ρ a) (E a)) : RowsW n ρ := fun a ha b hb h => (hE a b (((hw a (by omega)) b hb).1 h).2).2
theorem NetR.Er {N : NetM} {f t w c o : Nat → Int32} {nd rt ex mn : Int32} (h : NetR N f t w c o nd rt ex mn) (a b : Nat) : Er nd w a b ↔ N.E a b := by
  rw [h.nd]
  exact Er_iff h.1.2.1 (fun a b e => NetM.E_lt h.1 e) (fun a ha => h.rows ha) a b
theorem NetR.RowsW {N : NetM} {f t w c o : Nat → Int32} {nd rt ex mn : Int32} (h : NetR N f t w c o nd rt ex mn) : RowsW N.n w := RowsW_of h.1.2.1 (fun a b e => NetM.E_lt h.1 e) (fun a ha => h.rows ha)
/-- all that is reached; who is a gate of whom -/
def Rd (E : Nat → Nat → Prop) (r : Nat) (x : Nat) : Prop := Rs E (fun z => z = r) (fun _ => False) x
def Dm (E : Nat → Nat → Prop) (r : Nat) (g x : Nat) : Prop := Rd E r x ∧ ¬ Rs E (fun z => z = r) (fun z => z = g) x
theorem b_zero {x : Nat} : (bt 0 x = true) = False := by rw [b_0]; simp
/-- an arc shut or opened -/
def NetM.turn (N : NetM) (x : Nat) (b : Bool) : NetM := (N.1, N.fr, N.to, (fun k => if k = x then b else N.op k), N.tl)
theorem NetR.turn {N : NetM} {f t w c o w' : Nat → Int32} {nd rt ex mn : Int32} (h : NetR N f t w c o nd rt ex mn) {x : Nat} (b : Bool) (z : Int32) (hz : (b = true → z = 1) ∧ (b = false → z = 0)) (hw : RowsIs f t (upd o x z) mn w') : NetR (N.turn x b) f t w' c (upd o x z) nd rt ex mn := by
  obtain ⟨hok, h1, h2, h3, h4, h5, h6, h7, h8, h9⟩ := h
  refine ⟨hok, h1, h2, h3, h4, h5, fun k hk => ?_, fun k hk => ?_, h8, hw⟩
  · by_cases e : k = x
    · subst e; rw [upd_s]
      cases b
      · exact Or.inl (hz.2 rfl)
      · exact Or.inr (hz.1 rfl)
    · rw [upd_n e]; exact h6 k hk
  · show (if k = x then b else N.op k) = true ↔ _
    by_cases e : k = x
    · subst e; rw [upd_s, if_pos rfl]
      cases b
      · rw [hz.2 rfl]; exact ⟨fun q => absurd q (by simp), fun q => absurd q (by decide)⟩
      · rw [hz.1 rfl]; exact ⟨fun _ => rfl, fun _ => rfl⟩
    · rw [upd_n e, if_neg e]; exact h7 k hk
theorem NetM.turn_Eb {N : NetM} {x a b : Nat} : (N.turn x false).E a b ↔ N.Eb x a b := by
  constructor
  · rintro ⟨k, hk, h1, h2, h3⟩
    have h1 : (if k = x then false else N.op k) = true := h1
    by_cases e : k = x
    · rw [if_pos e] at h1; exact absurd h1 (by simp)
    · rw [if_neg e] at h1; exact ⟨k, hk, e, h1, h2, h3⟩
  · rintro ⟨k, hk, e, h1, h2, h3⟩
    exact ⟨k, hk, by show (if k = x then false else N.op k) = true; rw [if_neg e]; exact h1, h2, h3⟩
theorem upd_back {o : Nat → Int32} {x : Nat} {z : Int32} (h : o x = z) (y : Int32) : upd (upd o x y) x z = o := by
  funext j
  by_cases e : j = x
  · subst e; rw [upd_s, h]
  · rw [upd_n e, upd_n e]
theorem NetR.rowsNew {N : NetM} {f t w c o w' : Nat → Int32} {nd rt ex mn : Int32} (h : NetR N f t w c o nd rt ex mn) (hw : RowsIs f t o mn w') : NetR N f t w' c o nd rt ex mn := by
  obtain ⟨hok, h1, h2, h3, h4, h5, h6, h7, h8, h9⟩ := h
  exact ⟨hok, h1, h2, h3, h4, h5, h6, h7, h8, hw⟩
theorem Rd.congr {E E' : Nat → Nat → Prop} {r x : Nat} (h : ∀ a b, E a b ↔ E' a b) : Rd E r x ↔ Rd E' r x := Rs.congr h (fun _ => Iff.rfl) (fun _ => Iff.rfl)
