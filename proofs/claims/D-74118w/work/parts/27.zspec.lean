/-! what the public questions are answered by (own work) -/
def CommonIs (N : NetM) (v u : Nat) (r : Int32) : Prop := (¬ (Rd N.E N.root v ∧ Rd N.E N.root u) ∧ r = -1) ∨ (Rd N.E N.root v ∧ Rd N.E N.root u ∧ ∃ z, r = nI z ∧ Near N.E N.root v u z)
def WalkIs (N : NetM) (k r : Int32) : Prop := (k < 0 ∧ r = -1) ∨ ∃ K : Nat, k = nI K ∧ K < 2 ^ 31 ∧ ((∃ x, (PreO N N.n N.root)[K]? = some x ∧ r = nI x) ∨ ((PreO N N.n N.root).length ≤ K ∧ r = -1))
def ArcIs (N : NetM) (k j : Nat) (r : Int32) : Prop := (j = 0 ∧ r = nI (N.fr k)) ∨ (j = 1 ∧ r = nI (N.to k)) ∨ (j = 2 ∧ IsB r (N.op k = true)) ∨ (j = 3 ∧ KindIs N k r) ∨ (j = 4 ∧ IsB r (Bridge N k))
def SubN (n : Nat) (s : Int32) : Prop := ∀ k, k < 32 → bt s k = true → k < n
def SealIs (N : NetM) (s : Int32) (x : Nat) : Prop := Rd N.E N.root x ∧ ¬ Rs N.E (fun z => z = N.root) (fun z => bt s z = true) x ∧ ¬ bt s x = true
def ChainIs (N : NetM) (v : Nat) (k r : Int32) : Prop := (¬ (Rd N.E N.root v ∧ 0 ≤ k ∧ k ≤ nI (dep N.E N.root N.n v)) ∧ r = -1) ∨ (Rd N.E N.root v ∧ ∃ K x, k = nI K ∧ K ≤ dep N.E N.root N.n v ∧ r = nI x ∧ Dm N.E N.root x v ∧ dep N.E N.root N.n x = K)
def ViaIs (N : NetM) (v u : Nat) (r : Int32) : Prop := (¬ Rs N.E (fun z => z = v) (fun _ => False) u ∧ r = -1) ∨ (Rs N.E (fun z => z = v) (fun _ => False) u ∧ IsSet r (fun n0 => n0 < N.n ∧ (n0 ≠ v ∧ n0 ≠ u ∧ ¬ Rs N.E (fun z => z = v) (fun z => z = n0) u)))
noncomputable def LiftV (E : Nat → Nat → Prop) (r n : Nat) (E' : Nat → Nat → Prop) (r' : Nat) : Int32 := smI n (fun x => @ite _ (Rd E r x ∧ Rd E' r' x) (Classical.propDecidable _) (nI (dep E r n x) - nI (dep E' r' n x)) 0)
def FallIs (N : NetM) (k j : Nat) (r : Int32) : Prop := (j = 0 ∧ IsSet r (fun x => Rd N.E N.root x ∧ ¬ Rd (N.Eb k) N.root x)) ∨ (j = 1 ∧ IsSet r (Mv N.E N.root (N.Eb k) N.root)) ∨ (j = 2 ∧ r = LiftV N.E N.root N.n (N.Eb k) N.root)
def WouldIs (N : NetM) (a b j : Nat) (r : Int32) : Prop := (j = 0 ∧ IsSet r (fun x => Rd (Ins N.E a b) N.root x ∧ ¬ Rd N.E N.root x)) ∨ (j = 1 ∧ IsSet r (Mv N.E N.root (Ins N.E a b) N.root)) ∨ (j = 2 ∧ r = LiftV N.E N.root N.n (Ins N.E a b) N.root)
/-- nodes by how near they are, then by number -/
def NearD (N : NetM) (x d : Nat) : Prop := Lv N.E N.root d x ∧ ∀ k, k < d → ¬ Lv N.E N.root k x
def RowB (N : NetM) (d x y : Nat) : Prop := ∃ e, NearD N y e ∧ (e < d ∨ (e = d ∧ y < x))
def RowOf (N : NetM) (k r : Int32) : Prop := (∃ x d, x < N.n ∧ NearD N x d ∧ k = nI (cnt N.n (RowB N d x)) ∧ r = nI x) ∨ ((∀ x d, x < N.n → NearD N x d → ¬ k = nI (cnt N.n (RowB N d x))) ∧ r = -1)
/-- the first of the greatest -/
def FstMax (M : Nat) (ok : Nat → Prop) (f : Nat → Int32) (fo mo : Int32) : Prop := (fo = -1 ∧ mo = 0 ∧ ∀ k, k < M → ok k → ¬ 0 < f k) ∨ (∃ K, K < M ∧ ok K ∧ fo = nI K ∧ mo = f K ∧ 0 < f K ∧ (∀ j, j < M → ok j → ¬ f K < f j) ∧ ∀ j, j < K → ok j → f j < f K)
theorem FstMax.zero {ok : Nat → Prop} {f : Nat → Int32} : FstMax 0 ok f (-1) 0 := Or.inl ⟨rfl, rfl, fun k hk => absurd hk (by omega)⟩
theorem FstMax.skip {M : Nat} {ok : Nat → Prop} {f : Nat → Int32} {fo mo : Int32} (h : FstMax M ok f fo mo) (hn : ¬ ok M) : FstMax (M + 1) ok f fo mo := by
  rcases h with ⟨h1, h2, h3⟩ | ⟨K, h1, h2, h3, h4, h5, h6, h7⟩
  · refine Or.inl ⟨h1, h2, fun k hk ho => ?_⟩
    by_cases e : k = M
    · subst e; exact absurd ho hn
    · exact h3 k (by omega) ho
  · refine Or.inr ⟨K, by omega, h2, h3, h4, h5, fun j hj ho => ?_, h7⟩
    by_cases e : j = M
    · subst e; exact absurd ho hn
    · exact h6 j (by omega) ho
theorem FstMax.le {M : Nat} {ok : Nat → Prop} {f : Nat → Int32} {fo mo : Int32} (h : FstMax M ok f fo mo) (hn : ¬ mo < f M) : FstMax (M + 1) ok f fo mo := by
  rcases h with ⟨h1, h2, h3⟩ | ⟨K, h1, h2, h3, h4, h5, h6, h7⟩
  · refine Or.inl ⟨h1, h2, fun k hk ho => ?_⟩
    by_cases e : k = M
    · subst e; rw [← h2]; exact hn
    · exact h3 k (by omega) ho
  · refine Or.inr ⟨K, by omega, h2, h3, h4, h5, fun j hj ho => ?_, h7⟩
    by_cases e : j = M
    · subst e; rw [← h4]; exact hn
    · exact h6 j (by omega) ho
theorem FstMax.gt {M : Nat} {ok : Nat → Prop} {f : Nat → Int32} {fo mo : Int32} (h : FstMax M ok f fo mo) (ho : ok M) (hn : mo < f M) : FstMax (M + 1) ok f (nI M) (f M) := by
  have irr : ¬ f M < f M := Int32.lt_irrefl
  rcases h with ⟨h1, h2, h3⟩ | ⟨K, h1, h2, h3, h4, h5, h6, h7⟩
  · have h0 : 0 < f M := h2 ▸ hn
    refine Or.inr ⟨M, by omega, ho, rfl, rfl, h0, fun j hj hj2 => ?_, fun j hj hj2 => ?_⟩
    · by_cases e : j = M
      · subst e; exact irr
      · exact fun q => h3 j (by omega) hj2 (Int32.lt_trans h0 q)
    · exact Int32.lt_of_le_of_lt (Int32.not_lt.1 (h3 j hj hj2)) h0
  · have h0 : f K < f M := h4 ▸ hn
    refine Or.inr ⟨M, by omega, ho, rfl, rfl, Int32.lt_trans h5 h0, fun j hj hj2 => ?_, fun j hj hj2 => ?_⟩
    · by_cases e : j = M
      · subst e; exact irr
      · exact fun q => h6 j (by omega) hj2 (Int32.lt_trans h0 q)
    · exact Int32.lt_of_le_of_lt (Int32.not_lt.1 (h6 j hj hj2)) h0
theorem FstMax.uniq {M : Nat} {ok : Nat → Prop} {f : Nat → Int32} {fo mo fo' mo' : Int32} (h : FstMax M ok f fo mo) (h' : FstMax M ok f fo' mo') : fo = fo' ∧ mo = mo' := by
  rcases h with ⟨h1, h2, h3⟩ | ⟨K, h1, h2, h3, h4, h5, h6, h7⟩ <;> rcases h' with ⟨g1, g2, g3⟩ | ⟨L, g1, g2, g3, g4, g5, g6, g7⟩
  · exact ⟨h1.trans g1.symm, h2.trans g2.symm⟩
  · exact absurd g5 (h3 L g1 g2)
  · exact absurd h5 (g3 K h1 h2)
  · have e : K = L := by
      rcases Nat.lt_trichotomy K L with q | q | q
      · exact absurd (g7 K q h2) (h6 L g1 g2)
      · exact q
      · exact absurd (h7 L q g2) (g6 K h1 h2)
    subst e
    exact ⟨h3.trans g3.symm, h4.trans g4.symm⟩
noncomputable def lossN (N : NetM) (k : Nat) : Nat := if N.op k = true then cnt 16 (fun x => Rd N.E N.root x ∧ ¬ Rd (N.Eb k) N.root x) else 0
def WorstIs (N : NetM) (j : Nat) (r : Int32) : Prop := ∃ fo mo, FstMax N.m (fun _ => True) (fun k => nI (lossN N k)) fo mo ∧ ((j = 0 ∧ r = fo) ∨ (j = 1 ∧ r = mo))
noncomputable def insV (N : NetM) (k : Nat) : Int32 := LiftV N.E N.root N.n (Ins N.E (k / 16) (k % 16)) N.root
def BestIs (N : NetM) (j : Nat) (r : Int32) : Prop := ∃ fo mo, FstMax (16 * N.n) (fun k => k % 16 < N.n) (insV N) fo mo ∧ ((j = 2 ∧ r = mo) ∨ (j < 2 ∧ fo = -1 ∧ r = -1) ∨ ∃ K, K < 16 * N.n ∧ fo = nI K ∧ ((j = 0 ∧ r = nI (K / 16)) ∨ (j = 1 ∧ r = nI (K % 16))))
def PassAt (N : NetM) (v : Nat) (k r : Int32) : Prop := (¬ Rd N.E N.root v ∧ r = -1) ∨ (Rd N.E N.root v ∧ k = -1 ∧ r = nI (cnt N.m (fun a => PassIs N a v))) ∨ (Rd N.E N.root v ∧ ¬ k = -1 ∧ ((∃ a, a < N.m ∧ PassIs N a v ∧ k = nI (cnt N.m (fun b => PassIs N b (N.fr a))) ∧ r = nI a) ∨ ((∀ a, a < N.m → PassIs N a v → ¬ k = nI (cnt N.m (fun b => PassIs N b (N.fr a)))) ∧ r = -1)))
/-! lifts and moves, read off two trees -/
theorem TreR.bit {E : Nat → Nat → Prop} {r n : Nat} {kp dp tw : Nat → Int32} {tn tr tre : Int32} (h : TreR E r n kp dp tw tn tr tre) (x : Nat) : bt tre x = true ↔ Rd E r x := h.2.2.2.2.all (fun k hk => by have := h.1.lt hk; have := h.1.1; omega) x
theorem smI_congr {f g : Nat → Int32} : ∀ n, (∀ k, k < n → f k = g k) → smI n f = smI n g
  | 0, _ => rfl
  | n + 1, h => by
    show smI n f + f n = smI n g + g n
    rw [smI_congr n (fun k hk => h k (by omega)), h n (by omega)]
theorem lift_eq {E E' : Nat → Nat → Prop} {r r' n : Nat} {kp dp tw kp2 dp2 tw2 : Nat → Int32} {tn tr tre tn2 tr2 tre2 : Int32} (h : TreR E r n kp2 dp2 tw2 tn2 tr2 tre2) (h' : TreR E' r' n kp dp tw tn tr tre) : smI tn.toNatClampNeg (fun x => if bt tre x = true ∧ bt tre2 x = true then dp2 x - dp x else 0) = LiftV E r n E' r' := by
  have hn := h.1.1
  rw [h'.2.1, clN (by omega)]
  refine smI_congr n (fun x _ => ?_)
  by_cases q : Rd E r x ∧ Rd E' r' x
  · rw [if_pos q, if_pos ⟨(h'.bit x).2 q.2, (h.bit x).2 q.1⟩, h.1.dp_eq q.1, h'.1.dp_eq q.2]
  · rw [if_neg q, if_neg (fun z => q ⟨(h.bit x).1 z.2, (h'.bit x).1 z.1⟩)]
theorem moved_eq {E E' : Nat → Nat → Prop} {r r' n : Nat} {kp dp tw kp2 dp2 tw2 : Nat → Int32} {tn tr tre tn2 tr2 tre2 s : Int32} (h : TreR E r n kp2 dp2 tw2 tn2 tr2 tre2) (h' : TreR E' r' n kp dp tw tn tr tre) (hs : IsSet s (fun x => x < tn.toNatClampNeg ∧ bt tre x = true ∧ bt tre2 x = true ∧ ¬ kp x = kp2 x)) : IsSet s (Mv E r E' r') := by
  have hn := h.1.1
  refine hs.congr (fun x _ => ?_)
  rw [h'.2.1, clN (by omega)]
  constructor
  · rintro ⟨-, a, b, q⟩
    have a := (h'.bit x).1 a
    have b := (h.bit x).1 b
    exact ⟨b, a, fun z => q ((h.1.mv h'.1 b a).2 z).symm⟩
  · rintro ⟨b, a, q⟩
    exact ⟨h.1.lt b, (h'.bit x).2 a, (h.bit x).2 b, fun z => q ((h.1.mv h'.1 b a).1 z.symm)⟩
/-! sets below n -/
theorem low_k : ∀ n, n < 17 → ∀ k, k < 32 → bt (((1 : Int32) <<< (nI n &&& 31)) - 1) k = decide (k < n) := by decide +kernel
theorem sub_iff {n : Nat} (hn : n ≤ 16) {s : Int32} : s &&& ((((1 : Int32) <<< (nI n &&& 31)) - 1) ^^^ (-1)) = 0 ↔ SubN n s := by
  constructor
  · intro h k hk hs
    have := congrArg (fun z => bt z k) h
    simp only [b_and, b_0] at this
    rw [b_not _ hk, low_k n (by omega) k hk, hs] at this
    simpa using this
  · intro h
    apply b_ext
    intro k hk
    rw [b_and, b_not _ hk, low_k n (by omega) k hk, b_0]
    cases hs : bt s k
    · rfl
    · have := h k hk hs
      simp [this]
theorem SubN.set {n : Nat} {s : Int32} (hn : n ≤ 16) (h : SubN n s) : IsSet s (fun k => bt s k = true) := IsSet.self s (fun k h1 h2 => by
  cases hb : bt s k
  · rfl
  · have := h k h2 hb; omega)
/-! arcs that all ways to a node go by -/
theorem Eb.of {N : NetM} {k x : Nat} {S : Nat → Prop} (h : Rs N.E S (fun z => z = N.fr k) x) : Rs (N.Eb k) S (fun _ => False) x :=
  Rs.ind (X := fun x => Rs (N.Eb k) S (fun _ => False) x) (fun a s _ => Rs.base s (fun f => f)) (fun a b ha i e _ => i.step (by
    obtain ⟨j, h1, h2, h3, h4⟩ := e
    exact ⟨j, h1, fun q => ha.notW (by rw [← h3, q]), h2, h3, h4⟩) (fun f => f)) h
theorem NetM.E_Eb {N : NetM} {k a b : Nat} (e : N.E a b) : N.Eb k a b ∨ (a = N.fr k ∧ b = N.to k) := by
  obtain ⟨j, h1, h2, h3, h4⟩ := e
  by_cases q : j = k
  · subst q; exact Or.inr ⟨h3.symm, h4.symm⟩
  · exact Or.inl ⟨j, h1, q, h2, h3, h4⟩
theorem Pass.dm {N : NetM} {k v : Nat} (h : PassIs N k v) (hv : Rd N.E N.root v) : Dm N.E N.root (N.fr k) v := ⟨hv, fun q => h.2.2 (Eb.of q)⟩
theorem Pass.fr {N : NetM} {c x : Nat} (hx : Rd N.E N.root x) (e : N.fr c = x) : Rd (N.Eb c) N.root x := by
  have : ∀ y, Rd N.E N.root y → Rd (N.Eb c) N.root y ∨ Rd (N.Eb c) N.root x := fun y hy => Rs.ind (X := fun y => Rd (N.Eb c) N.root y ∨ Rd (N.Eb c) N.root x) (fun a s _ => Or.inl (by rw [s]; exact Rd.root)) (fun a b _ i e2 _ => by
    rcases i with i | i
    · rcases NetM.E_Eb (k := c) e2 with q | q
      · exact Or.inl (i.step q)
      · right; rw [← e, ← q.1]; exact i
    · exact Or.inr i) hy
  exact (this x hx).elim id id
theorem Pass.ne {N : NetM} {c x : Nat} (h : PassIs N c x) (hx : Rd N.E N.root x) : N.fr c ≠ x := fun e => h.2.2 (Pass.fr hx e)
theorem Pass.up {N : NetM} {c b v : Nat} (h : PassIs N c (N.fr b)) (hb : PassIs N b v) (hv : Rd N.E N.root v) : PassIs N c v := by
  refine ⟨h.1, h.2.1, fun q => h.2.2 ?_⟩
  have hd := Pass.dm hb hv
  have : Dm (N.Eb c) N.root (N.fr b) v := ⟨q, fun z => hd.2 (z.mono (fun _ _ e => NetM.Eb_E e) (fun _ s => s) (fun _ w => w))⟩
  exact this.Rg
theorem Pass.down {N : NetM} {c b v : Nat} (hc : PassIs N c v) (hb : PassIs N b v) (hv : Rd N.E N.root v) (hp : Pd N.E N.root (N.fr c) (N.fr b)) : PassIs N c (N.fr b) := by
  refine ⟨hc.1, hc.2.1, fun q => ?_⟩
  have hq : Rd (N.Eb b) N.root (N.fr c) := by
    refine Eb.of (Classical.not_not.1 (fun z => hp.1 (hp.2.antisymm ⟨hp.2.Rg, z⟩)))
  have ne : ∀ z, N.fr c = z → N.fr b = z → False := fun z h1 h2 => hp.1 (h1.trans h2.symm)
  have key : ∀ y, Rs N.E (fun z => z = N.fr b) (fun _ => False) y → Rd (N.Eb c) N.root y ∨ Rd (N.Eb b) N.root y := fun y hy => Rs.ind (X := fun y => Rd (N.Eb c) N.root y ∨ Rd (N.Eb b) N.root y) (fun a s _ => Or.inl (by rw [s]; exact q)) (fun a d _ i e2 _ => by
    rcases i with i | i
    · rcases NetM.E_Eb (k := c) e2 with z | z
      · exact Or.inl (i.step z)
      · rcases NetM.E_Eb (k := b) e2 with w | w
        · exact Or.inr (Rd.step (by rw [z.1]; exact hq) w)
        · exact (ne a z.1.symm w.1.symm).elim
    · rcases NetM.E_Eb (k := b) e2 with z | z
      · exact Or.inr (i.step z)
      · rcases NetM.E_Eb (k := c) e2 with w | w
        · exact Or.inl (Rd.step (by rw [z.1]; exact q) w)
        · exact (ne a w.1.symm z.1.symm).elim) hy
  exact (key v (Pass.dm hb hv).way).elim hc.2.2 hb.2.2
theorem Pass.one {N : NetM} {c b v : Nat} (hcm : c < N.m) (hbm : b < N.m) (hc : PassIs N c v) (hb : PassIs N b v) (hv : Rd N.E N.root v) (e : N.fr b = N.fr c) : b = c := by
  refine Classical.byContradiction (fun ne => ?_)
  have h1 : Rd (N.Eb c) N.root (N.fr c) := Pass.fr hc.2.1 rfl
  have h2 : Rd (N.Eb b) N.root (N.fr b) := Pass.fr hb.2.1 rfl
  have key : ∀ y, Rd N.E N.root y → Rd (N.Eb c) N.root y ∨ Rd (N.Eb b) N.root y := fun y hy => Rs.ind (X := fun y => Rd (N.Eb c) N.root y ∨ Rd (N.Eb b) N.root y) (fun a s _ => Or.inl (by rw [s]; exact Rd.root)) (fun a d _ i e2 _ => by
    obtain ⟨j, j1, j2, j3, j4⟩ := e2
    rcases i with i | i
    · by_cases z : j = c
      · subst z
        exact Or.inr (Rd.step (a := a) (by rw [← j3, ← e]; exact h2) ⟨j, j1, fun q => ne q.symm, j2, j3, j4⟩)
      · exact Or.inl (i.step ⟨j, j1, z, j2, j3, j4⟩)
    · by_cases z : j = b
      · subst z
        exact Or.inl (Rd.step (a := a) (by rw [← j3, e]; exact h1) ⟨j, j1, ne, j2, j3, j4⟩)
      · exact Or.inr (i.step ⟨j, j1, z, j2, j3, j4⟩)) hy
  exact (key v hv).elim hc.2.2 hb.2.2
theorem NetM.Rd_lt {N : NetM} (h : N.ok) {x : Nat} (hx : Rd N.E N.root x) : x < N.n := Rs.ind (X := fun x => x < N.n) (fun z s _ => by rw [s]; exact h.2.2.1) (fun _ _ _ _ e _ => (NetM.E_lt h e).2) hx
/-- the arcs ahead of one are those that all ways to its beginning go by -/
theorem Pass.ahead {N : NetM} (hN : N.ok) {a v : Nat} (ha : a < N.m) (h : PassIs N a v) (hv : Rd N.E N.root v) {b : Nat} (hb : b < N.m) :
    (PassIs N b v ∧ (dep N.E N.root N.n (N.fr b) < dep N.E N.root N.n (N.fr a) ∨ (dep N.E N.root N.n (N.fr b) = dep N.E N.root N.n (N.fr a) ∧ b < a))) ↔ PassIs N b (N.fr a) := by
  have hlt : ∀ x, Rd N.E N.root x → x < N.n := fun x hx => NetM.Rd_lt hN hx
  have hda := Pass.dm h hv
  constructor
  · rintro ⟨q, z⟩
    have hdb := Pass.dm q hv
    have h1 : Dm N.E N.root (N.fr b) (N.fr a) := Dm.of_dep hlt hdb hda (by omega)
    rcases z with z | ⟨z, z2⟩
    · exact Pass.down q h hv ⟨fun e => by rw [e] at z; omega, h1⟩
    · have h2 : Dm N.E N.root (N.fr a) (N.fr b) := Dm.of_dep hlt hda hdb (by omega)
      have := Pass.one ha hb h q hv (h1.antisymm h2)
      omega
  · intro q
    have hR := hda.Rg
    exact ⟨Pass.up q h hv, Or.inl (dep_lt hlt ⟨Pass.ne q hR, Pass.dm q hR⟩)⟩
theorem Lv.rd {E : Nat → Nat → Prop} {r : Nat} : ∀ d x, Lv E r d x → Rd E r x
  | 0, x, h => by rw [show x = r from h]; exact Rd.root
  | d + 1, x, h => h.elim (Lv.rd d x) (fun ⟨y, h1, h2⟩ => (Lv.rd d y h1).step h2)
theorem NearD.uniq {N : NetM} {x d e : Nat} (h : NearD N x d) (h' : NearD N x e) : d = e := by
  rcases Nat.lt_trichotomy d e with q | q | q
  · exact absurd h.1 (h'.2 d q)
  · exact q
  · exact absurd h'.1 (h.2 e q)
theorem NearIs.at {N : NetM} {x d : Nat} {r : Int32} (hd : d < 2 ^ 31) (h : NearIs N.E N.root x r) : r = nI d ↔ NearD N x d := by
  rcases h with ⟨e, h1, h2, h3, h4⟩ | ⟨h1, h2⟩
  · rw [h1, eqN (by omega) hd]
    exact ⟨fun q => by subst q; exact ⟨h3, h4⟩, fun q => NearD.uniq (⟨h3, h4⟩ : NearD N x e) q⟩
  · exact ⟨fun q => absurd (q.symm.trans h1) (nI_m1 hd), fun q => absurd q.1 (h2 d)⟩
