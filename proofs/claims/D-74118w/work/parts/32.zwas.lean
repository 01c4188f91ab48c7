/-! WAS: the nets that are remembered (own work) -/
set_option maxRecDepth 100000
abbrev NetC : Type := (Nat → Int32) × (Nat → Int32) × (Nat → Int32) × (Nat → Int32) × (Nat → Int32) × Int32 × Int32 × Int32 × Int32
abbrev AdN : Type := Nat × Nat × Nat × Nat × Nat × Nat
abbrev netW (G : GE) (a : AdN) (x : NetC) : va_W := [(a.1, .inr (0, [.ref a.2.1, .ref a.2.2.1, .ref a.2.2.2.1, .ref a.2.2.2.2.1, .ref a.2.2.2.2.2, .int x.2.2.2.2.2.1, .int x.2.2.2.2.2.2.1, .int x.2.2.2.2.2.2.2.1, .int x.2.2.2.2.2.2.2.2])), (a.2.1, .inl (G.2 0, 60, .inl x.1)), (a.2.2.1, .inl (G.2 0, 60, .inl x.2.1)), (a.2.2.2.1, .inl (G.2 0, 16, .inl x.2.2.1)), (a.2.2.2.2.1, .inl (G.2 0, 16, .inl x.2.2.2.1)), (a.2.2.2.2.2, .inl (G.2 1, 60, .inl x.2.2.2.2.1))]
abbrev WasW (G : GE) (wad : Nat → AdN) (F : Nat → NetC) : va_W := netW G (wad 0) (F 0) ++ (netW G (wad 1) (F 1) ++ (netW G (wad 2) (F 2) ++ (netW G (wad 3) (F 3) ++ (netW G (wad 4) (F 4) ++ (netW G (wad 5) (F 5) ++ (netW G (wad 6) (F 6) ++ netW G (wad 7) (F 7)))))))
abbrev F8 {α : Type} (a b c d e f g h : α) : Nat → α := fun k => match k with
  | 0 => a
  | 1 => b
  | 2 => c
  | 3 => d
  | 4 => e
  | 5 => f
  | 6 => g
  | _ => h
theorem lt8 {P : Nat → Prop} (h0 : P 0) (h1 : P 1) (h2 : P 2) (h3 : P 3) (h4 : P 4) (h5 : P 5) (h6 : P 6) (h7 : P 7) : ∀ k, k < 8 → P k := by
  intro k hk
  match k, hk with
  | 0, _ => exact h0
  | 1, _ => exact h1
  | 2, _ => exact h2
  | 3, _ => exact h3
  | 4, _ => exact h4
  | 5, _ => exact h5
  | 6, _ => exact h6
  | 7, _ => exact h7
theorem lt7 {P : Nat → Prop} (h0 : P 0) (h1 : P 1) (h2 : P 2) (h3 : P 3) (h4 : P 4) (h5 : P 5) (h6 : P 6) : ∀ k, k < 7 → P k := by
  intro k hk
  match k, hk with
  | 0, _ => exact h0
  | 1, _ => exact h1
  | 2, _ => exact h2
  | 3, _ => exact h3
  | 4, _ => exact h4
  | 5, _ => exact h5
  | 6, _ => exact h6
/-- a net's arrays are as another one's, where it counts -/
def AgC (x y : NetC) : Prop := (∀ j, j < 60 → x.1 j = y.1 j ∧ x.2.1 j = y.2.1 j ∧ x.2.2.2.2.1 j = y.2.2.2.2.1 j) ∧ (∀ j, j < 16 → x.2.2.1 j = y.2.2.1 j ∧ x.2.2.2.1 j = y.2.2.2.1 j) ∧ x.2.2.2.2.2.1 = y.2.2.2.2.2.1 ∧ x.2.2.2.2.2.2.1 = y.2.2.2.2.2.2.1 ∧ x.2.2.2.2.2.2.2.1 = y.2.2.2.2.2.2.2.1 ∧ x.2.2.2.2.2.2.2.2 = y.2.2.2.2.2.2.2.2
def NetRc (N : NetM) (x : NetC) : Prop := NetR N x.1 x.2.1 x.2.2.1 x.2.2.2.1 x.2.2.2.2.1 x.2.2.2.2.2.1 x.2.2.2.2.2.2.1 x.2.2.2.2.2.2.2.1 x.2.2.2.2.2.2.2.2
theorem NetR.ext {N : NetM} {f t w c o f' t' w' c' o' : Nat → Int32} {nd rt ex mn : Int32} (h : NetR N f t w c o nd rt ex mn) (e1 : ∀ j, j < 60 → f' j = f j ∧ t' j = t j ∧ o' j = o j) (e2 : ∀ j, j < 16 → w' j = w j ∧ c' j = c j) : NetR N f' t' w' c' o' nd rt ex mn := by
  obtain ⟨hok, h1, h2, h3, h4, h5, h6, h7, h8, h9⟩ := h
  have hm := hok.2.2.2.2.1
  refine ⟨hok, h1, h2, h3, h4, fun k hk => ?_, fun k hk => ?_, fun k hk => ?_, fun a ha => ?_, fun a ha => ?_⟩
  · obtain ⟨q1, q2, -⟩ := e1 k (by omega)
    rw [q1, q2]; exact h5 k hk
  · rw [(e1 k hk).2.2]; exact h6 k hk
  · rw [(e1 k (by omega)).2.2]; exact h7 k hk
  · rw [(e2 a ha).2]; exact h8 a ha
  · rw [(e2 a ha).1]
    refine (h9 a ha).congr (fun b hb => ?_)
    constructor
    · rintro ⟨k, hk, k1, k2, k3⟩
      have hk' := hk
      rw [h4, clN (by omega)] at hk'
      obtain ⟨q1, q2, q3⟩ := e1 k (by omega)
      exact ⟨k, hk, by rw [q3]; exact k1, by rw [q1]; exact k2, by rw [q2]; exact k3⟩
    · rintro ⟨k, hk, k1, k2, k3⟩
      have hk' := hk
      rw [h4, clN (by omega)] at hk'
      obtain ⟨q1, q2, q3⟩ := e1 k (by omega)
      exact ⟨k, hk, by rw [← q3]; exact k1, by rw [← q1]; exact k2, by rw [← q2]; exact k3⟩
theorem NetRc.ag {N : NetM} {x y : NetC} (h : NetRc N y) (e : AgC x y) : NetRc N x := by
  obtain ⟨e1, e2, e3, e4, e5, e6⟩ := e
  unfold NetRc
  rw [e3, e4, e5, e6]
  exact NetR.ext h e1 e2
/-- what 'remembers' does to the slots -/
def RemP (U : Nat) (un' : Int32) (wq wq' : Nat → Option Nat) (F F' : Nat → NetC) (b : NetC) : Prop := (U < 8 ∧ un' = nI (U + 1) ∧ wq' = wq ∧ (∀ k, k < 8 → k ≠ U → F' k = F k) ∧ AgC (F' U) b) ∨ (U = 8 ∧ un' = nI 8 ∧ (∀ k, k < 8 → wq' k = wq ((k + 1) % 8)) ∧ (∀ k, k < 8 → 0 < k → F' k = F k) ∧ AgC (F' 0) b)
/-- the nets that are remembered, one more; the eldest goes when there are eight -/
def pushW (W : Nat → NetM) (U : Nat) (B : NetM) : Nat → NetM := if U < 8 then fun k => if k = U then B else W k else fun k => if k = 7 then B else W (k + 1)
def pushU (U : Nat) : Nat := if U < 8 then U + 1 else 8
theorem gx_asgN {G : GE} {s : State} (hK : KK G s) : ∀ comp c0 : ClassId, s.vm.findClass "GateLifter$Net" = some comp → s.vm.findClass "GateLifter$Net" = some c0 → s.vm.assignable c0 comp = true := fun comp c0 e1 e2 => by
  have h := (hK.1.1 0 _ rfl).2
  have h1 : s.vm.findClass "GateLifter$Net" = some (G.1.1 0) := h.1
  cases Option.some.inj (e1.symm.trans h1)
  cases Option.some.inj (e2.symm.trans h1)
  exact va_assign h
theorem gx_elN {G : GE} {s : State} {ws : va_W} {H : Heap} {n sp : Nat} {f : Nat → Option Nat} (hK : KK G s) (hP : va_P G.1 vwCl ws H) (h : ∀ i, i < n → ∃ (q0 v : Nat) (fs : List Value), f (sp + i) = some v ∧ ws[q0]? = some (v, .inr (0, fs))) : ∀ i : Nat, i < n → ∀ y : Nat, f (sp + i) = some y → ∃ cellV : Cell, H[y]? = some cellV ∧ cellV.vm.isStatics = false ∧ s.vm.findClass "GateLifter$Net" = some cellV.cls := by
  intro i hi y hy
  obtain ⟨q0, v, fs, h1, h2⟩ := h i hi
  cases Option.some.inj (h1.symm.trans hy)
  exact va_recv hK.1 hP (q := (RX3, TX3, 9)) (ci := 0) rfl h2
theorem CtV_map {l : Launch} {y : MethodName} {ws : List Cond} {rm : Room} {G : GE} {av : List Value} {wc : va_W} {S S' : Type} {post : S → Prop} {w1 : S → va_W} {post' : S' → Prop} {w1' : S' → va_W} (h : CtV l y ws rm G av wc post w1) (hm : ∀ u, post u → ∃ u', post' u' ∧ ∀ (A : Nat → Prop) (H : Heap), va_P G.1 vwCl (w1 u) H → va_D A (w1 u) → va_P G.1 vwCl (w1' u') H ∧ va_D A (w1' u')) : CtV l y ws rm G av wc post' w1' := fun sz => by
  refine MetFree.mono (h sz) (fun a s hp => hp) (fun _ _ _ _ _ k => k) (fun a st o t _ hq => ?_)
  obtain ⟨⟨⟨u, q1, q2, q3, q4⟩, q5⟩, q6⟩ := hq
  obtain ⟨u', m1, m2⟩ := hm u q2
  obtain ⟨m3, m4⟩ := m2 _ _ q3 q4
  exact ⟨⟨⟨u', q1, m1, m3, m4⟩, q5⟩, q6⟩
theorem CtI_map {l : Launch} {y : MethodName} {ws : List Cond} {rm : Room} {G : GE} {av : List Value} {wc : va_W} {S S' : Type} {post : Int32 → S → Prop} {w1 : S → va_W} {post' : Int32 → S' → Prop} {w1' : S' → va_W} (h : CtI l y ws rm G av wc post w1) (hm : ∀ r u, post r u → ∃ u', post' r u' ∧ ∀ (A : Nat → Prop) (H : Heap), va_P G.1 vwCl (w1 u) H → va_D A (w1 u) → va_P G.1 vwCl (w1' u') H ∧ va_D A (w1' u')) : CtI l y ws rm G av wc post' w1' := fun sz => by
  refine MetFree.mono (h sz) (fun a s hp => hp) (fun _ _ _ _ _ k => k) (fun a st o t _ hq => ?_)
  obtain ⟨⟨⟨r, u, q1, q2, q3, q4⟩, q5⟩, q6⟩ := hq
  obtain ⟨u', m1, m2⟩ := hm r u q2
  obtain ⟨m3, m4⟩ := m2 _ _ q3 q4
  exact ⟨⟨⟨r, u', q1, m1, m3, m4⟩, q5⟩, q6⟩
theorem gx_mapX {G : GE} {wc : va_W} {sz : Nat} {S S' : Type} {px : Nat → String → S → Prop} {w1 : S → va_W} {px' : Nat → String → S' → Prop} {w1' : S' → va_W} (hm : ∀ q E u, px q E u → ∃ u', px' q E u' ∧ ∀ (A : Nat → Prop) (H : Heap), va_P G.1 vwCl (w1 u) H → va_D A (w1 u) → va_P G.1 vwCl (w1' u') H ∧ va_D A (w1' u')) {st t : State} {q : Addr} {mc ms : Nat} (h : vx_T (gX G wc sz px w1) st q t mc ms (va_A wc sz)) : vx_T (gX G wc sz px' w1') st q t mc ms (va_A wc sz) := by
  obtain ⟨E, ce, L, ⟨u, -, ⟨q1, q2, q3⟩, q4⟩, r⟩ := h
  obtain ⟨u', m1, m2⟩ := hm q E u q1
  obtain ⟨m3, m4⟩ := m2 _ _ q2 q3
  exact ⟨E, ce, L, ⟨u', trivial, ⟨m1, m3, m4⟩, q4⟩, r⟩
theorem CtIT_map {l : Launch} {y : MethodName} {ws : List Cond} {rm : Room} {G : GE} {av : List Value} {wc : va_W} {S S' : Type} {post : Int32 → S → Prop} {px : Nat → String → S → Prop} {w1 : S → va_W} {post' : Int32 → S' → Prop} {px' : Nat → String → S' → Prop} {w1' : S' → va_W} (h : CtIT l y ws rm G av wc post px w1) (hm : ∀ r u, post r u → ∃ u', post' r u' ∧ ∀ (A : Nat → Prop) (H : Heap), va_P G.1 vwCl (w1 u) H → va_D A (w1 u) → va_P G.1 vwCl (w1' u') H ∧ va_D A (w1' u'))
    (hx : ∀ q E u, px q E u → ∃ u', px' q E u' ∧ ∀ (A : Nat → Prop) (H : Heap), va_P G.1 vwCl (w1 u) H → va_D A (w1 u) → va_P G.1 vwCl (w1' u') H ∧ va_D A (w1' u')) : CtIT l y ws rm G av wc post' px' w1' := fun sz => by
  refine MetFree.mono (h sz) (fun a s hp => hp) (fun _ _ _ _ _ k => k) (fun a st o t _ hq => ?_)
  rcases hq with ⟨⟨⟨r, u, q1, q2, q3, q4⟩, q5⟩, q6⟩ | ⟨q, q1, q2⟩
  · obtain ⟨u', m1, m2⟩ := hm r u q2
    obtain ⟨m3, m4⟩ := m2 _ _ q3 q4
    exact Or.inl ⟨⟨⟨r, u', q1, m1, m3, m4⟩, q5⟩, q6⟩
  · exact Or.inr ⟨q, q1, gx_mapX hx q2⟩
