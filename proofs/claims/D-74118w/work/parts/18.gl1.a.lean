/-! what is asked of a net and its tree (own work) -/
def Tail (E : Nat → Nat → Prop) (r : Nat) (t h : Nat) : Prop := E t h ∧ Dm E r h t
def Body1 (E : Nat → Nat → Prop) (r : Nat) (h n : Nat) : Prop := n ≠ h ∧ Rd E r n ∧ ∃ t, Tail E r t h ∧ t ≠ h ∧ Rs E (fun z => z = n) (fun z => z = h) t
def Body (E : Nat → Nat → Prop) (r : Nat) (h n : Nat) : Prop := (∃ t, Tail E r t h) ∧ (n = h ∨ Body1 E r h n)
/-- within so many steps -/
def Lv (E : Nat → Nat → Prop) (r : Nat) : Nat → Nat → Prop
  | 0, x => x = r
  | d + 1, x => Lv E r d x ∨ ∃ y, Lv E r d y ∧ E y x
def NearIs (E : Nat → Nat → Prop) (ro : Nat) (v : Nat) (r : Int32) : Prop := (∃ d : Nat, r = nI d ∧ d < 16 ∧ Lv E ro d v ∧ ∀ k, k < d → ¬ Lv E ro k v) ∨ (r = -1 ∧ ∀ d, ¬ Lv E ro d v)
def KindIs (N : NetM) (k : Nat) (r : Int32) : Prop := (N.op k = false ∧ r = 0) ∨ (N.op k = true ∧ ¬ Rd N.E N.root (N.fr k) ∧ r = 1) ∨ (N.op k = true ∧ Rd N.E N.root (N.fr k) ∧ Dm N.E N.root (N.to k) (N.fr k) ∧ r = 2) ∨ (N.op k = true ∧ Rd N.E N.root (N.fr k) ∧ ¬ Dm N.E N.root (N.to k) (N.fr k) ∧ Id N.E N.root (N.fr k) (N.to k) ∧ r = 3) ∨ (N.op k = true ∧ Rd N.E N.root (N.fr k) ∧ ¬ Dm N.E N.root (N.to k) (N.fr k) ∧ ¬ Id N.E N.root (N.fr k) (N.to k) ∧ r = 4)
theorem bitsZ {P : Nat → Prop} : IsSet 0 (fun j => j < 0 ∧ P j) := IsSet.zero.congr (fun j _ => ⟨fun z => z.elim, fun z => by omega⟩)
theorem IsB.pos {r : Int32} {P : Prop} (h : IsB r P) (z : ¬ r = 0) : P := h.elim (fun q => q.2) (fun q => absurd q.1 z)
theorem IsB.neg {r : Int32} {P : Prop} (h : IsB r P) (z : r = 0) : ¬ P := h.elim (fun q => absurd (q.1.symm.trans z) (by decide)) (fun q => q.2)
theorem isB1 {P : Prop} (h : P) : IsB 1 P := Or.inl ⟨rfl, h⟩
theorem isB0 {P : Prop} (h : ¬ P) : IsB 0 P := Or.inr ⟨rfl, h⟩
theorem IsB.congr {r : Int32} {P Q : Prop} (h : IsB r P) (e : P ↔ Q) : IsB r Q := h.elim (fun q => Or.inl ⟨q.1, e.1 q.2⟩) (fun q => Or.inr ⟨q.1, fun z => q.2 (e.2 z)⟩)
theorem bits0 {s r : Int32} {k : Nat} {P : Nat → Prop} (hI : IsSet s (fun j => j < k ∧ P j)) (hr : IsB r (P k)) (z : r = 0) : IsSet (s ||| 0) (fun j => j < k + 1 ∧ P j) :=
  (hI.or IsSet.zero).congr (fun j _ => ⟨fun h => h.elim (fun q => ⟨by omega, q.2⟩) (fun q => q.elim), fun h => Or.inl ⟨by
    rcases Nat.lt_or_ge j k with q | q
    · exact q
    · have e : j = k := by omega
      subst e
      exact absurd h.2 (hr.neg z), h.2⟩⟩)
theorem bits1 {s r : Int32} {k : Nat} {P : Nat → Prop} (hk : k < 16) (hI : IsSet s (fun j => j < k ∧ P j)) (hr : IsB r (P k)) (z : ¬ r = 0) : IsSet (s ||| (1 <<< (nI k &&& 31))) (fun j => j < k + 1 ∧ P j) :=
  (hI.or (IsSet.bit hk)).congr (fun j _ => ⟨fun h => h.elim (fun q => ⟨by omega, q.2⟩) (fun q => by subst q; exact ⟨by omega, hr.pos z⟩), fun h => by
    rcases Nat.lt_or_ge j k with q | q
    · exact Or.inl ⟨q, h.2⟩
    · exact Or.inr (by omega)⟩)
theorem has_z {s r : Int32} {j : Nat} {P : Nat → Prop} (h : ps_X1_has s (nI j) r) (hS : IsSet s P) (hj : j < 16) (z : r = 0) : ¬ P j := by
  have h : r = i1 (hs s (nI j)) := h
  rw [h, i1_eq0] at z
  exact fun q => z ((hS.hs hj).2 q)
theorem has_p {s r : Int32} {j : Nat} {P : Nat → Prop} (h : ps_X1_has s (nI j) r) (hS : IsSet s P) (hj : j < 16) (z : ¬ r = 0) : P j := by
  have h : r = i1 (hs s (nI j)) := h
  rw [h, i1_eq0] at z
  exact (hS.hs hj).1 (Classical.not_not.1 z)
theorem bt_one {V : Nat} (hV : V < 16) (x : Nat) : bt ((1 : Int32) <<< (nI V &&& 31)) x = true ↔ x = V := by
  rcases Nat.lt_or_ge x 32 with q | q
  · rw [b_bit (by omega) q]; simp
  · rw [b_big q]; constructor
    · intro z; cases z
    · intro z; omega
section RCH
variable {N : NetM} {f t w c o : Nat → Int32} {nd rt ex mn : Int32} 
theorem NetR.n16 (hN : NetR N f t w c o nd rt ex mn) : N.n ≤ 16 := hN.1.2.1
theorem NetR.rch (hN : NetR N f t w c o nd rt ex mn) {a : Nat} {bu r : Int32} {W : Nat → Prop} (ha : a < N.n) (hb : ∀ x, bt bu x = true ↔ W x) (h : ps_X8_reach_N f t w c o nd rt ex mn (nI a) bu r) : IsSet r (Rs N.E (fun z => z = a) W) := by
  have h16 := hN.n16
  have e : (nI a).toNatClampNeg = a := clN (by omega)
  exact IsSet.congr h (fun x _ => Rs.congr (fun a b => hN.Er a b) (fun z => by rw [e]) (fun z => (hb z).symm))
theorem NetR.rchP (hN : NetR N f t w c o nd rt ex mn) {a : Nat} {bu : Int32} (ha : a < N.n) (hb : ¬ bt bu a = true) : pr_X8_reach_N f t w c o nd rt ex mn (nI a) bu :=
  ⟨N.n, a, hN.nd, hN.n16, rfl, ha, by simpa using hb, hN.RowsW⟩
theorem NetR.in16N (hN : NetR N f t w c o nd rt ex mn) {a : Nat} (ha : a < N.n) : vp_in (nI a) 16 := vp_in_nI (by have := hN.n16; omega) (by decide)
end RCH
theorem bt_zero (x : Nat) : bt 0 x = true ↔ False := by rw [b_0]; simp
theorem TreK.kp_iff {E : Nat → Nat → Prop} {r n : Nat} {kp dp : Nat → Int32} (h : TreK E r n kp dp) {x V : Nat} (hx : Rd E r x) (hV : V < 16) : kp x = nI V ↔ Id E r V x := by
  have hn := h.1
  by_cases e : x = r
  · subst e
    rw [h.2.2.2.1]
    exact ⟨fun z => absurd z.symm (nI_m1 (by omega)), fun z => absurd (z.1.2.antisymm (Dm.root z.1.2.Rg)) z.1.1⟩
  · obtain ⟨g, h1, h2, h3, -, -⟩ := h.up hx e
    rw [h1, eqN (by omega) (by omega)]
    exact ⟨fun z => z ▸ h2, fun z => h2.uniq z⟩
theorem TreK.dp_eq {E : Nat → Nat → Prop} {r n : Nat} {kp dp : Nat → Int32} (h : TreK E r n kp dp) {x : Nat} (hx : Rd E r x) : dp x = nI (dep E r n x) := h.2.2.2.2.2 x hx
theorem Lv.mono {E : Nat → Nat → Prop} {r d x : Nat} (h : Lv E r d x) : ∀ k, Lv E r (d + k) x
  | 0 => h
  | k + 1 => Or.inl (Lv.mono h k)
theorem Lv.lt {E : Nat → Nat → Prop} {r n : Nat} (hr : r < n) (hE : ∀ a b, E a b → b < n) : ∀ d x, Lv E r d x → x < n
  | 0, x, h => by have h : x = r := h; omega
  | d + 1, x, h => h.elim (fun q => Lv.lt hr hE d x q) (fun ⟨y, _, e⟩ => hE y x e)
theorem Lv.stay {E : Nat → Nat → Prop} {r d : Nat} (h : ∀ x, Lv E r (d + 1) x → Lv E r d x) : ∀ k x, Lv E r (d + k) x → Lv E r d x
  | 0, _, q => q
  | k + 1, x, q => by
    rcases q with q | ⟨y, q, e⟩
    · exact Lv.stay h k x q
    · exact h x (Or.inr ⟨y, Lv.stay h k y q, e⟩)
theorem Lv.bound {E : Nat → Nat → Prop} {r n : Nat} (hr : r < n) (hE : ∀ a b, E a b → b < n) : ∀ d, (∃ k, k < d ∧ ∀ x, Lv E r (k + 1) x → Lv E r k x) ∨ d + 1 ≤ cnt n (Lv E r d)
  | 0 => Or.inr (cnt_pos hr rfl)
  | d + 1 => by
    rcases Lv.bound hr hE d with ⟨k, h1, h2⟩ | h
    · exact Or.inl ⟨k, by omega, h2⟩
    · by_cases q : ∀ x, Lv E r (d + 1) x → Lv E r d x
      · exact Or.inl ⟨d, by omega, q⟩
      · obtain ⟨x, hx⟩ := Classical.not_forall.1 q
        obtain ⟨h3, h4⟩ := Classical.not_imp.1 hx
        have := cnt_lt (n := n) (P := Lv E r d) (Q := Lv E r (d + 1)) (Lv.lt hr hE _ x h3) (fun k _ z => Or.inl z) h4 h3
        exact Or.inr (by omega)
/-- whoever is come to is come to in fewer steps than there are nodes -/
theorem Lv.few {E : Nat → Nat → Prop} {r n d x : Nat} (hr : r < n) (hE : ∀ a b, E a b → b < n) (h : Lv E r d x) : ∃ k, k < n ∧ Lv E r k x := by
  rcases Lv.bound hr hE n with ⟨k, h1, h2⟩ | q
  · exact ⟨k, h1, Lv.stay h2 d x (by have := Lv.mono h k; rwa [Nat.add_comm] at this)⟩
  · have := cnt_le n (Lv E r n); omega
/-! gl1: contracts, pure predicates (printed by gen.py) -/
def pr_X1_l_gatesOf (N : NetM) (V n0 : Nat) (wa wy un ga lo mo li kt wk wd : Int32) (f t w c o : Nat → Int32) (nd rt ex mn : Int32) (kp dp tw wt st : Nat → Int32) (tn tr tre tm ts v n : Int32) : Prop := NetR N f t w c o nd rt ex mn ∧ TreR N.E N.root N.n kp dp tw tn tr tre ∧ v = nI V ∧ V < N.n ∧ n = nI n0 ∧ n0 < N.n
def ps_X1_l_gatesOf (N : NetM) (V n0 : Nat) (wa wy un ga lo mo li kt wk wd : Int32) (f t w c o : Nat → Int32) (nd rt ex mn : Int32) (kp dp tw wt st : Nat → Int32) (tn tr tre tm ts v n : Int32) (r : Int32)  : Prop := IsB r (Pd N.E N.root n0 V)
def wp_X1_l_gatesOf (wa wy un ga lo mo li kt wk wd : Int32) (f t w c o : Nat → Int32) (nd rt ex mn : Int32) (kp dp tw wt st : Nat → Int32) (tn tr tre tm ts v n : Int32) (Q : Int32 → Prop) : Prop :=
  pr_X5_keeps kp dp tw wt st tn tr tre tm ts n v ∧ (∀ (r_1 : Int32), ps_X5_keeps kp dp tw wt st tn tr tre tm ts n v r_1 → ((r_1 = 0 ∨ r_1 = 1) ∧ (Q r_1)))
theorem pf_X1_l_gatesOf (N : NetM) (V n0 : Nat) (wa wy un ga lo mo li kt wk wd : Int32) (f t w c o : Nat → Int32) (nd rt ex mn : Int32) (kp dp tw wt st : Nat → Int32) (tn tr tre tm ts v n : Int32) (hp : pr_X1_l_gatesOf N V n0 wa wy un ga lo mo li kt wk wd f t w c o nd rt ex mn kp dp tw wt st tn tr tre tm ts v n) : wp_X1_l_gatesOf wa wy un ga lo mo li kt wk wd f t w c o nd rt ex mn kp dp tw wt st tn tr tre tm ts v n (ps_X1_l_gatesOf N V n0 wa wy un ga lo mo li kt wk wd f t w c o nd rt ex mn kp dp tw wt st tn tr tre tm ts v n) := by
  obtain ⟨hN, hT, rfl, hV, rfl, hn⟩ := hp
  have h16 := hN.n16
  refine ⟨⟨_, _, _, n0, V, hT.1, hT.2.2.2.2, rfl, rfl, by omega, by omega⟩, fun r hr => ?_⟩
  have h := hr _ _ _ n0 V hT.1 hT.2.2.2.2 rfl rfl (by omega) (by omega)
  exact ⟨h.i01, h⟩
def pr_X1_bits_gatesOf (N : NetM) (V : Nat) (wa wy un ga lo mo li kt wk wd : Int32) (f t w c o : Nat → Int32) (nd rt ex mn : Int32) (kp dp tw wt st : Nat → Int32) (tn tr tre tm ts v : Int32) : Prop := NetR N f t w c o nd rt ex mn ∧ TreR N.E N.root N.n kp dp tw tn tr tre ∧ v = nI V ∧ V < N.n
def ps_X1_bits_gatesOf (N : NetM) (V : Nat) (wa wy un ga lo mo li kt wk wd : Int32) (f t w c o : Nat → Int32) (nd rt ex mn : Int32) (kp dp tw wt st : Nat → Int32) (tn tr tre tm ts v : Int32) (r : Int32)  : Prop := IsSet r (fun n0 => n0 < N.n ∧ (Pd N.E N.root n0 V))
def wp_X1_bits_gatesOf_L4 (wa wy un ga lo mo li kt wk wd : Int32) (f t w c o : Nat → Int32) (nd rt ex mn : Int32) (kp dp tw wt st : Nat → Int32) (tn tr tre tm ts v : Int32) (J41 : Int32 → Prop) (ix3_19 ix2_20 : Int32) : Prop :=
  ∀ X4 : Int32 → Int32 → Prop, (∀ (x3_19 : Int32) (x2_20 : Int32), (((nd ≤ x3_19 → (J41 x2_20)) ∧
 (¬ (nd ≤ x3_19) → (∃ (N_23 : NetM) (V_23 n0_23 : Nat), (pr_X1_l_gatesOf N_23 V_23 n0_23 wa wy un ga lo mo li kt wk wd f t w c o nd rt ex mn kp dp tw wt st tn tr tre tm ts v x3_19 ∧ (∀ (r_23 : Int32), ps_X1_l_gatesOf N_23 V_23 n0_23 wa wy un ga lo mo li kt wk wd f t w c o nd rt ex mn kp dp tw wt st tn tr tre tm ts v x3_19 r_23 → (((r_23 = 0 → (X4 (x3_19 + 1) (x2_20 ||| 0))) ∧
 (¬ (r_23 = 0) → (X4 (x3_19 + 1) (x2_20 ||| (1 <<< (x3_19 &&& 31))))))))))))) → X4 x3_19 x2_20) → X4 ix3_19 ix2_20
def wp_X1_bits_gatesOf (wa wy un ga lo mo li kt wk wd : Int32) (f t w c o : Nat → Int32) (nd rt ex mn : Int32) (kp dp tw wt st : Nat → Int32) (tn tr tre tm ts v : Int32) (Q : Int32 → Prop) : Prop :=
  ∀ J41 : Int32 → Prop, (∀ (x2_17 : Int32), (Q x2_17) → J41 x2_17) →
wp_X1_bits_gatesOf_L4 wa wy un ga lo mo li kt wk wd f t w c o nd rt ex mn kp dp tw wt st tn tr tre tm ts v J41 0 0
theorem pf_X1_bits_gatesOf (N : NetM) (V : Nat) (wa wy un ga lo mo li kt wk wd : Int32) (f t w c o : Nat → Int32) (nd rt ex mn : Int32) (kp dp tw wt st : Nat → Int32) (tn tr tre tm ts v : Int32) (hp : pr_X1_bits_gatesOf N V wa wy un ga lo mo li kt wk wd f t w c o nd rt ex mn kp dp tw wt st tn tr tre tm ts v) : wp_X1_bits_gatesOf wa wy un ga lo mo li kt wk wd f t w c o nd rt ex mn kp dp tw wt st tn tr tre tm ts v (ps_X1_bits_gatesOf N V wa wy un ga lo mo li kt wk wd f t w c o nd rt ex mn kp dp tw wt st tn tr tre tm ts v) := by
  obtain ⟨hN, hT, hcV, hlV⟩ := hp
  intro J hJ X4 hX
  have hn := hN.n16
  have e := hN.nd
  subst e
  exact up1 N.n (fun k s => IsSet s (fun n0 => n0 < k ∧ (Pd N.E N.root n0 V))) (fun k s hk hI hK => hX _ _ ⟨fun q => absurd q (by rw [leN (by omega) (by omega)]; omega), fun _ => ⟨N, V, k, ⟨hN, hT, hcV, hlV, rfl, hk⟩, fun r hr => ⟨fun z => hK _ (bits0 hI hr z), fun z => hK _ (bits1 (by omega) hI hr z)⟩⟩⟩) (fun s hI => hX _ _ ⟨fun _ => hJ _ hI, fun q => absurd (Int32.le_refl _) q⟩) 0 0 (Nat.zero_le _) bitsZ
def pr_X1_gatesOf (N : NetM) (V : Nat) (wa wy un ga lo mo li kt wk wd : Int32) (f t w c o : Nat → Int32) (nd rt ex mn : Int32) (kp dp tw wt st : Nat → Int32) (tn tr tre tm ts v : Int32) : Prop := NetR N f t w c o nd rt ex mn ∧ TreR N.E N.root N.n kp dp tw tn tr tre ∧ v = nI V ∧ V < N.n
def ps_X1_gatesOf (N : NetM) (V : Nat) (wa wy un ga lo mo li kt wk wd : Int32) (f t w c o : Nat → Int32) (nd rt ex mn : Int32) (kp dp tw wt st : Nat → Int32) (tn tr tre tm ts v : Int32) (r : Int32)  : Prop := IsSet r (fun n => Pd N.E N.root n V)
def wp_X1_gatesOf (wa wy un ga lo mo li kt wk wd : Int32) (f t w c o : Nat → Int32) (nd rt ex mn : Int32) (kp dp tw wt st : Nat → Int32) (tn tr tre tm ts v : Int32) (Q : Int32 → Prop) : Prop :=
  ∃ (N_3 : NetM) (V_3 : Nat), (pr_X1_bits_gatesOf N_3 V_3 wa wy un ga lo mo li kt wk wd f t w c o nd rt ex mn kp dp tw wt st tn tr tre tm ts v ∧ (∀ (r_3 : Int32), ps_X1_bits_gatesOf N_3 V_3 wa wy un ga lo mo li kt wk wd f t w c o nd rt ex mn kp dp tw wt st tn tr tre tm ts v r_3 → (Q r_3)))
theorem pf_X1_gatesOf (N : NetM) (V : Nat) (wa wy un ga lo mo li kt wk wd : Int32) (f t w c o : Nat → Int32) (nd rt ex mn : Int32) (kp dp tw wt st : Nat → Int32) (tn tr tre tm ts v : Int32) (hp : pr_X1_gatesOf N V wa wy un ga lo mo li kt wk wd f t w c o nd rt ex mn kp dp tw wt st tn tr tre tm ts v) : wp_X1_gatesOf wa wy un ga lo mo li kt wk wd f t w c o nd rt ex mn kp dp tw wt st tn tr tre tm ts v (ps_X1_gatesOf N V wa wy un ga lo mo li kt wk wd f t w c o nd rt ex mn kp dp tw wt st tn tr tre tm ts v) := by
  obtain ⟨hN, hT, rfl, hV⟩ := hp
  exact ⟨N, V, ⟨hN, hT, rfl, hV⟩, fun r hr => IsSet.congr hr (fun k hk => ⟨fun z => z.2, fun z => ⟨hT.1.lt z.2.Rg, z⟩⟩)⟩
def pr_X1_l_keptBy (N : NetM) (V n0 : Nat) (wa wy un ga lo mo li kt wk wd : Int32) (f t w c o : Nat → Int32) (nd rt ex mn : Int32) (kp dp tw wt st : Nat → Int32) (tn tr tre tm ts v n : Int32) : Prop := NetR N f t w c o nd rt ex mn ∧ TreR N.E N.root N.n kp dp tw tn tr tre ∧ v = nI V ∧ V < N.n ∧ n = nI n0 ∧ n0 < N.n
def ps_X1_l_keptBy (N : NetM) (V n0 : Nat) (wa wy un ga lo mo li kt wk wd : Int32) (f t w c o : Nat → Int32) (nd rt ex mn : Int32) (kp dp tw wt st : Nat → Int32) (tn tr tre tm ts v n : Int32) (r : Int32)  : Prop := IsB r (Pd N.E N.root V n0)
def wp_X1_l_keptBy (wa wy un ga lo mo li kt wk wd : Int32) (f t w c o : Nat → Int32) (nd rt ex mn : Int32) (kp dp tw wt st : Nat → Int32) (tn tr tre tm ts v n : Int32) (Q : Int32 → Prop) : Prop :=
  pr_X5_keeps kp dp tw wt st tn tr tre tm ts v n ∧ (∀ (r_1 : Int32), ps_X5_keeps kp dp tw wt st tn tr tre tm ts v n r_1 → ((r_1 = 0 ∨ r_1 = 1) ∧ (Q r_1)))
theorem pf_X1_l_keptBy (N : NetM) (V n0 : Nat) (wa wy un ga lo mo li kt wk wd : Int32) (f t w c o : Nat → Int32) (nd rt ex mn : Int32) (kp dp tw wt st : Nat → Int32) (tn tr tre tm ts v n : Int32) (hp : pr_X1_l_keptBy N V n0 wa wy un ga lo mo li kt wk wd f t w c o nd rt ex mn kp dp tw wt st tn tr tre tm ts v n) : wp_X1_l_keptBy wa wy un ga lo mo li kt wk wd f t w c o nd rt ex mn kp dp tw wt st tn tr tre tm ts v n (ps_X1_l_keptBy N V n0 wa wy un ga lo mo li kt wk wd f t w c o nd rt ex mn kp dp tw wt st tn tr tre tm ts v n) := by
  obtain ⟨hN, hT, rfl, hV, rfl, hn⟩ := hp
  have h16 := hN.n16
  refine ⟨⟨_, _, _, V, n0, hT.1, hT.2.2.2.2, rfl, rfl, by omega, by omega⟩, fun r hr => ?_⟩
  have h := hr _ _ _ V n0 hT.1 hT.2.2.2.2 rfl rfl (by omega) (by omega)
  exact ⟨h.i01, h⟩
def pr_X1_bits_keptBy (N : NetM) (V : Nat) (wa wy un ga lo mo li kt wk wd : Int32) (f t w c o : Nat → Int32) (nd rt ex mn : Int32) (kp dp tw wt st : Nat → Int32) (tn tr tre tm ts v : Int32) : Prop := NetR N f t w c o nd rt ex mn ∧ TreR N.E N.root N.n kp dp tw tn tr tre ∧ v = nI V ∧ V < N.n
def ps_X1_bits_keptBy (N : NetM) (V : Nat) (wa wy un ga lo mo li kt wk wd : Int32) (f t w c o : Nat → Int32) (nd rt ex mn : Int32) (kp dp tw wt st : Nat → Int32) (tn tr tre tm ts v : Int32) (r : Int32)  : Prop := IsSet r (fun n0 => n0 < N.n ∧ (Pd N.E N.root V n0))
def wp_X1_bits_keptBy_L4 (wa wy un ga lo mo li kt wk wd : Int32) (f t w c o : Nat → Int32) (nd rt ex mn : Int32) (kp dp tw wt st : Nat → Int32) (tn tr tre tm ts v : Int32) (J41 : Int32 → Prop) (ix3_19 ix2_20 : Int32) : Prop :=
  ∀ X4 : Int32 → Int32 → Prop, (∀ (x3_19 : Int32) (x2_20 : Int32), (((nd ≤ x3_19 → (J41 x2_20)) ∧
 (¬ (nd ≤ x3_19) → (∃ (N_23 : NetM) (V_23 n0_23 : Nat), (pr_X1_l_keptBy N_23 V_23 n0_23 wa wy un ga lo mo li kt wk wd f t w c o nd rt ex mn kp dp tw wt st tn tr tre tm ts v x3_19 ∧ (∀ (r_23 : Int32), ps_X1_l_keptBy N_23 V_23 n0_23 wa wy un ga lo mo li kt wk wd f t w c o nd rt ex mn kp dp tw wt st tn tr tre tm ts v x3_19 r_23 → (((r_23 = 0 → (X4 (x3_19 + 1) (x2_20 ||| 0))) ∧
 (¬ (r_23 = 0) → (X4 (x3_19 + 1) (x2_20 ||| (1 <<< (x3_19 &&& 31))))))))))))) → X4 x3_19 x2_20) → X4 ix3_19 ix2_20
def wp_X1_bits_keptBy (wa wy un ga lo mo li kt wk wd : Int32) (f t w c o : Nat → Int32) (nd rt ex mn : Int32) (kp dp tw wt st : Nat → Int32) (tn tr tre tm ts v : Int32) (Q : Int32 → Prop) : Prop :=
  ∀ J41 : Int32 → Prop, (∀ (x2_17 : Int32), (Q x2_17) → J41 x2_17) →
wp_X1_bits_keptBy_L4 wa wy un ga lo mo li kt wk wd f t w c o nd rt ex mn kp dp tw wt st tn tr tre tm ts v J41 0 0
theorem pf_X1_bits_keptBy (N : NetM) (V : Nat) (wa wy un ga lo mo li kt wk wd : Int32) (f t w c o : Nat → Int32) (nd rt ex mn : Int32) (kp dp tw wt st : Nat → Int32) (tn tr tre tm ts v : Int32) (hp : pr_X1_bits_keptBy N V wa wy un ga lo mo li kt wk wd f t w c o nd rt ex mn kp dp tw wt st tn tr tre tm ts v) : wp_X1_bits_keptBy wa wy un ga lo mo li kt wk wd f t w c o nd rt ex mn kp dp tw wt st tn tr tre tm ts v (ps_X1_bits_keptBy N V wa wy un ga lo mo li kt wk wd f t w c o nd rt ex mn kp dp tw wt st tn tr tre tm ts v) := by
  obtain ⟨hN, hT, hcV, hlV⟩ := hp
  intro J hJ X4 hX
  have hn := hN.n16
  have e := hN.nd
  subst e
  exact up1 N.n (fun k s => IsSet s (fun n0 => n0 < k ∧ (Pd N.E N.root V n0))) (fun k s hk hI hK => hX _ _ ⟨fun q => absurd q (by rw [leN (by omega) (by omega)]; omega), fun _ => ⟨N, V, k, ⟨hN, hT, hcV, hlV, rfl, hk⟩, fun r hr => ⟨fun z => hK _ (bits0 hI hr z), fun z => hK _ (bits1 (by omega) hI hr z)⟩⟩⟩) (fun s hI => hX _ _ ⟨fun _ => hJ _ hI, fun q => absurd (Int32.le_refl _) q⟩) 0 0 (Nat.zero_le _) bitsZ
def pr_X1_keptBy (N : NetM) (V : Nat) (wa wy un ga lo mo li kt wk wd : Int32) (f t w c o : Nat → Int32) (nd rt ex mn : Int32) (kp dp tw wt st : Nat → Int32) (tn tr tre tm ts v : Int32) : Prop := NetR N f t w c o nd rt ex mn ∧ TreR N.E N.root N.n kp dp tw tn tr tre ∧ v = nI V ∧ V < N.n
def ps_X1_keptBy (N : NetM) (V : Nat) (wa wy un ga lo mo li kt wk wd : Int32) (f t w c o : Nat → Int32) (nd rt ex mn : Int32) (kp dp tw wt st : Nat → Int32) (tn tr tre tm ts v : Int32) (r : Int32)  : Prop := IsSet r (fun n => Pd N.E N.root V n)
def wp_X1_keptBy (wa wy un ga lo mo li kt wk wd : Int32) (f t w c o : Nat → Int32) (nd rt ex mn : Int32) (kp dp tw wt st : Nat → Int32) (tn tr tre tm ts v : Int32) (Q : Int32 → Prop) : Prop :=
  ∃ (N_3 : NetM) (V_3 : Nat), (pr_X1_bits_keptBy N_3 V_3 wa wy un ga lo mo li kt wk wd f t w c o nd rt ex mn kp dp tw wt st tn tr tre tm ts v ∧ (∀ (r_3 : Int32), ps_X1_bits_keptBy N_3 V_3 wa wy un ga lo mo li kt wk wd f t w c o nd rt ex mn kp dp tw wt st tn tr tre tm ts v r_3 → (Q r_3)))
theorem pf_X1_keptBy (N : NetM) (V : Nat) (wa wy un ga lo mo li kt wk wd : Int32) (f t w c o : Nat → Int32) (nd rt ex mn : Int32) (kp dp tw wt st : Nat → Int32) (tn tr tre tm ts v : Int32) (hp : pr_X1_keptBy N V wa wy un ga lo mo li kt wk wd f t w c o nd rt ex mn kp dp tw wt st tn tr tre tm ts v) : wp_X1_keptBy wa wy un ga lo mo li kt wk wd f t w c o nd rt ex mn kp dp tw wt st tn tr tre tm ts v (ps_X1_keptBy N V wa wy un ga lo mo li kt wk wd f t w c o nd rt ex mn kp dp tw wt st tn tr tre tm ts v) := by
  obtain ⟨hN, hT, rfl, hV⟩ := hp
  exact ⟨N, V, ⟨hN, hT, rfl, hV⟩, fun r hr => IsSet.congr hr (fun k hk => ⟨fun z => z.2, fun z => ⟨hT.1.lt z.2.R, z⟩⟩)⟩
def pr_X1_l_own (N : NetM) (V n0 : Nat) (wa wy un ga lo mo li kt wk wd : Int32) (f t w c o : Nat → Int32) (nd rt ex mn : Int32) (kp dp tw wt st : Nat → Int32) (tn tr tre tm ts v n : Int32) : Prop := NetR N f t w c o nd rt ex mn ∧ TreR N.E N.root N.n kp dp tw tn tr tre ∧ v = nI V ∧ V < N.n ∧ n = nI n0 ∧ n0 < N.n
def ps_X1_l_own (N : NetM) (V n0 : Nat) (wa wy un ga lo mo li kt wk wd : Int32) (f t w c o : Nat → Int32) (nd rt ex mn : Int32) (kp dp tw wt st : Nat → Int32) (tn tr tre tm ts v n : Int32) (r : Int32)  : Prop := IsB r (Id N.E N.root V n0)
def wp_X1_l_own (wa wy un ga lo mo li kt wk wd : Int32) (f t w c o : Nat → Int32) (nd rt ex mn : Int32) (kp dp tw wt st : Nat → Int32) (tn tr tre tm ts v n : Int32) (Q : Int32 → Prop) : Prop :=
  ∀ (r_1 : Int32), ps_X1_has tre n r_1 → (((r_1 = 0 → (Q 0)) ∧
 (¬ (r_1 = 0) → (vp_in n 16 ∧ (((¬ (kp n.toNatClampNeg) = v → (Q 0)) ∧
 ((kp n.toNatClampNeg) = v → (Q 1))))))))
theorem pf_X1_l_own (N : NetM) (V n0 : Nat) (wa wy un ga lo mo li kt wk wd : Int32) (f t w c o : Nat → Int32) (nd rt ex mn : Int32) (kp dp tw wt st : Nat → Int32) (tn tr tre tm ts v n : Int32) (hp : pr_X1_l_own N V n0 wa wy un ga lo mo li kt wk wd f t w c o nd rt ex mn kp dp tw wt st tn tr tre tm ts v n) : wp_X1_l_own wa wy un ga lo mo li kt wk wd f t w c o nd rt ex mn kp dp tw wt st tn tr tre tm ts v n (ps_X1_l_own N V n0 wa wy un ga lo mo li kt wk wd f t w c o nd rt ex mn kp dp tw wt st tn tr tre tm ts v n) := by
  obtain ⟨hN, hT, rfl, hV, rfl, hn⟩ := hp
  have h16 := hN.n16
  refine fun r hr => ⟨fun z => isB0 (fun q => has_z hr hT.2.2.2.2 (by omega) z q.1.2.R), fun z => ⟨hN.in16N hn, ?_⟩⟩
  have hR := has_p hr hT.2.2.2.2 (by omega) z
  rw [clN (by omega)]
  have hK := hT.1.kp_iff hR (V := V) (by omega)
  exact ⟨fun c => isB0 (fun q => c (hK.2 q)), fun c => isB1 (hK.1 c)⟩
def pr_X1_bits_own (N : NetM) (V : Nat) (wa wy un ga lo mo li kt wk wd : Int32) (f t w c o : Nat → Int32) (nd rt ex mn : Int32) (kp dp tw wt st : Nat → Int32) (tn tr tre tm ts v : Int32) : Prop := NetR N f t w c o nd rt ex mn ∧ TreR N.E N.root N.n kp dp tw tn tr tre ∧ v = nI V ∧ V < N.n
def ps_X1_bits_own (N : NetM) (V : Nat) (wa wy un ga lo mo li kt wk wd : Int32) (f t w c o : Nat → Int32) (nd rt ex mn : Int32) (kp dp tw wt st : Nat → Int32) (tn tr tre tm ts v : Int32) (r : Int32)  : Prop := IsSet r (fun n0 => n0 < N.n ∧ (Id N.E N.root V n0))
def wp_X1_bits_own_L4 (wa wy un ga lo mo li kt wk wd : Int32) (f t w c o : Nat → Int32) (nd rt ex mn : Int32) (kp dp tw wt st : Nat → Int32) (tn tr tre tm ts v : Int32) (J41 : Int32 → Prop) (ix3_19 ix2_20 : Int32) : Prop :=
  ∀ X4 : Int32 → Int32 → Prop, (∀ (x3_19 : Int32) (x2_20 : Int32), (((nd ≤ x3_19 → (J41 x2_20)) ∧
 (¬ (nd ≤ x3_19) → (∃ (N_23 : NetM) (V_23 n0_23 : Nat), (pr_X1_l_own N_23 V_23 n0_23 wa wy un ga lo mo li kt wk wd f t w c o nd rt ex mn kp dp tw wt st tn tr tre tm ts v x3_19 ∧ (∀ (r_23 : Int32), ps_X1_l_own N_23 V_23 n0_23 wa wy un ga lo mo li kt wk wd f t w c o nd rt ex mn kp dp tw wt st tn tr tre tm ts v x3_19 r_23 → (((r_23 = 0 → (X4 (x3_19 + 1) (x2_20 ||| 0))) ∧
 (¬ (r_23 = 0) → (X4 (x3_19 + 1) (x2_20 ||| (1 <<< (x3_19 &&& 31))))))))))))) → X4 x3_19 x2_20) → X4 ix3_19 ix2_20
def wp_X1_bits_own (wa wy un ga lo mo li kt wk wd : Int32) (f t w c o : Nat → Int32) (nd rt ex mn : Int32) (kp dp tw wt st : Nat → Int32) (tn tr tre tm ts v : Int32) (Q : Int32 → Prop) : Prop :=
  ∀ J41 : Int32 → Prop, (∀ (x2_17 : Int32), (Q x2_17) → J41 x2_17) →
wp_X1_bits_own_L4 wa wy un ga lo mo li kt wk wd f t w c o nd rt ex mn kp dp tw wt st tn tr tre tm ts v J41 0 0
theorem pf_X1_bits_own (N : NetM) (V : Nat) (wa wy un ga lo mo li kt wk wd : Int32) (f t w c o : Nat → Int32) (nd rt ex mn : Int32) (kp dp tw wt st : Nat → Int32) (tn tr tre tm ts v : Int32) (hp : pr_X1_bits_own N V wa wy un ga lo mo li kt wk wd f t w c o nd rt ex mn kp dp tw wt st tn tr tre tm ts v) : wp_X1_bits_own wa wy un ga lo mo li kt wk wd f t w c o nd rt ex mn kp dp tw wt st tn tr tre tm ts v (ps_X1_bits_own N V wa wy un ga lo mo li kt wk wd f t w c o nd rt ex mn kp dp tw wt st tn tr tre tm ts v) := by
  obtain ⟨hN, hT, hcV, hlV⟩ := hp
  intro J hJ X4 hX
  have hn := hN.n16
  have e := hN.nd
  subst e
  exact up1 N.n (fun k s => IsSet s (fun n0 => n0 < k ∧ (Id N.E N.root V n0))) (fun k s hk hI hK => hX _ _ ⟨fun q => absurd q (by rw [leN (by omega) (by omega)]; omega), fun _ => ⟨N, V, k, ⟨hN, hT, hcV, hlV, rfl, hk⟩, fun r hr => ⟨fun z => hK _ (bits0 hI hr z), fun z => hK _ (bits1 (by omega) hI hr z)⟩⟩⟩) (fun s hI => hX _ _ ⟨fun _ => hJ _ hI, fun q => absurd (Int32.le_refl _) q⟩) 0 0 (Nat.zero_le _) bitsZ
def pr_X1_l_level (N : NetM) (n0 : Nat) (wa wy un ga lo mo li kt wk wd : Int32) (f t w c o : Nat → Int32) (nd rt ex mn : Int32) (kp dp tw wt st : Nat → Int32) (tn tr tre tm ts v n : Int32) : Prop := NetR N f t w c o nd rt ex mn ∧ TreR N.E N.root N.n kp dp tw tn tr tre ∧ n = nI n0 ∧ n0 < N.n
def ps_X1_l_level (N : NetM) (n0 : Nat) (wa wy un ga lo mo li kt wk wd : Int32) (f t w c o : Nat → Int32) (nd rt ex mn : Int32) (kp dp tw wt st : Nat → Int32) (tn tr tre tm ts v n : Int32) (r : Int32)  : Prop := IsB r (Rd N.E N.root n0 ∧ nI (dep N.E N.root N.n n0) = v)
def wp_X1_l_level (wa wy un ga lo mo li kt wk wd : Int32) (f t w c o : Nat → Int32) (nd rt ex mn : Int32) (kp dp tw wt st : Nat → Int32) (tn tr tre tm ts v n : Int32) (Q : Int32 → Prop) : Prop :=
  ∀ (r_1 : Int32), ps_X1_has tre n r_1 → (((r_1 = 0 → (Q 0)) ∧
 (¬ (r_1 = 0) → (vp_in n 16 ∧ (((¬ (dp n.toNatClampNeg) = v → (Q 0)) ∧
 ((dp n.toNatClampNeg) = v → (Q 1))))))))
theorem pf_X1_l_level (N : NetM) (n0 : Nat) (wa wy un ga lo mo li kt wk wd : Int32) (f t w c o : Nat → Int32) (nd rt ex mn : Int32) (kp dp tw wt st : Nat → Int32) (tn tr tre tm ts v n : Int32) (hp : pr_X1_l_level N n0 wa wy un ga lo mo li kt wk wd f t w c o nd rt ex mn kp dp tw wt st tn tr tre tm ts v n) : wp_X1_l_level wa wy un ga lo mo li kt wk wd f t w c o nd rt ex mn kp dp tw wt st tn tr tre tm ts v n (ps_X1_l_level N n0 wa wy un ga lo mo li kt wk wd f t w c o nd rt ex mn kp dp tw wt st tn tr tre tm ts v n) := by
  obtain ⟨hN, hT, rfl, hn⟩ := hp
  have h16 := hN.n16
  refine fun r hr => ⟨fun z => isB0 (fun q => has_z hr hT.2.2.2.2 (by omega) z q.1), fun z => ⟨hN.in16N hn, ?_⟩⟩
  have hR := has_p hr hT.2.2.2.2 (by omega) z
  rw [clN (by omega), hT.1.dp_eq hR]
  exact ⟨fun c => isB0 (fun q => c q.2), fun c => isB1 ⟨hR, c⟩⟩
def pr_X1_bits_level (N : NetM) (wa wy un ga lo mo li kt wk wd : Int32) (f t w c o : Nat → Int32) (nd rt ex mn : Int32) (kp dp tw wt st : Nat → Int32) (tn tr tre tm ts v : Int32) : Prop := NetR N f t w c o nd rt ex mn ∧ TreR N.E N.root N.n kp dp tw tn tr tre
def ps_X1_bits_level (N : NetM) (wa wy un ga lo mo li kt wk wd : Int32) (f t w c o : Nat → Int32) (nd rt ex mn : Int32) (kp dp tw wt st : Nat → Int32) (tn tr tre tm ts v : Int32) (r : Int32)  : Prop := IsSet r (fun n0 => n0 < N.n ∧ (Rd N.E N.root n0 ∧ nI (dep N.E N.root N.n n0) = v))
def wp_X1_bits_level_L4 (wa wy un ga lo mo li kt wk wd : Int32) (f t w c o : Nat → Int32) (nd rt ex mn : Int32) (kp dp tw wt st : Nat → Int32) (tn tr tre tm ts v : Int32) (J41 : Int32 → Prop) (ix3_19 ix2_20 : Int32) : Prop :=
  ∀ X4 : Int32 → Int32 → Prop, (∀ (x3_19 : Int32) (x2_20 : Int32), (((nd ≤ x3_19 → (J41 x2_20)) ∧
 (¬ (nd ≤ x3_19) → (∃ (N_23 : NetM) (n0_23 : Nat), (pr_X1_l_level N_23 n0_23 wa wy un ga lo mo li kt wk wd f t w c o nd rt ex mn kp dp tw wt st tn tr tre tm ts v x3_19 ∧ (∀ (r_23 : Int32), ps_X1_l_level N_23 n0_23 wa wy un ga lo mo li kt wk wd f t w c o nd rt ex mn kp dp tw wt st tn tr tre tm ts v x3_19 r_23 → (((r_23 = 0 → (X4 (x3_19 + 1) (x2_20 ||| 0))) ∧
 (¬ (r_23 = 0) → (X4 (x3_19 + 1) (x2_20 ||| (1 <<< (x3_19 &&& 31))))))))))))) → X4 x3_19 x2_20) → X4 ix3_19 ix2_20
def wp_X1_bits_level (wa wy un ga lo mo li kt wk wd : Int32) (f t w c o : Nat → Int32) (nd rt ex mn : Int32) (kp dp tw wt st : Nat → Int32) (tn tr tre tm ts v : Int32) (Q : Int32 → Prop) : Prop :=
  ∀ J41 : Int32 → Prop, (∀ (x2_17 : Int32), (Q x2_17) → J41 x2_17) →
wp_X1_bits_level_L4 wa wy un ga lo mo li kt wk wd f t w c o nd rt ex mn kp dp tw wt st tn tr tre tm ts v J41 0 0
theorem pf_X1_bits_level (N : NetM) (wa wy un ga lo mo li kt wk wd : Int32) (f t w c o : Nat → Int32) (nd rt ex mn : Int32) (kp dp tw wt st : Nat → Int32) (tn tr tre tm ts v : Int32) (hp : pr_X1_bits_level N wa wy un ga lo mo li kt wk wd f t w c o nd rt ex mn kp dp tw wt st tn tr tre tm ts v) : wp_X1_bits_level wa wy un ga lo mo li kt wk wd f t w c o nd rt ex mn kp dp tw wt st tn tr tre tm ts v (ps_X1_bits_level N wa wy un ga lo mo li kt wk wd f t w c o nd rt ex mn kp dp tw wt st tn tr tre tm ts v) := by
  obtain ⟨hN, hT⟩ := hp
  intro J hJ X4 hX
  have hn := hN.n16
  have e := hN.nd
  subst e
  exact up1 N.n (fun k s => IsSet s (fun n0 => n0 < k ∧ (Rd N.E N.root n0 ∧ nI (dep N.E N.root N.n n0) = v))) (fun k s hk hI hK => hX _ _ ⟨fun q => absurd q (by rw [leN (by omega) (by omega)]; omega), fun _ => ⟨N, k, ⟨hN, hT, rfl, hk⟩, fun r hr => ⟨fun z => hK _ (bits0 hI hr z), fun z => hK _ (bits1 (by omega) hI hr z)⟩⟩⟩) (fun s hI => hX _ _ ⟨fun _ => hJ _ hI, fun q => absurd (Int32.le_refl _) q⟩) 0 0 (Nat.zero_le _) bitsZ
def pr_X1_l_tailsOf (N : NetM) (V n0 : Nat) (wa wy un ga lo mo li kt wk wd : Int32) (f t w c o : Nat → Int32) (nd rt ex mn : Int32) (kp dp tw wt st : Nat → Int32) (tn tr tre tm ts v n : Int32) : Prop := NetR N f t w c o nd rt ex mn ∧ TreR N.E N.root N.n kp dp tw tn tr tre ∧ v = nI V ∧ V < N.n ∧ n = nI n0 ∧ n0 < N.n
def ps_X1_l_tailsOf (N : NetM) (V n0 : Nat) (wa wy un ga lo mo li kt wk wd : Int32) (f t w c o : Nat → Int32) (nd rt ex mn : Int32) (kp dp tw wt st : Nat → Int32) (tn tr tre tm ts v n : Int32) (r : Int32)  : Prop := IsB r (Tail N.E N.root n0 V)
def wp_X1_l_tailsOf (wa wy un ga lo mo li kt wk wd : Int32) (f t w c o : Nat → Int32) (nd rt ex mn : Int32) (kp dp tw wt st : Nat → Int32) (tn tr tre tm ts v n : Int32) (Q : Int32 → Prop) : Prop :=
  vp_in n 16 ∧ (∀ (r_2 : Int32), ps_X1_has (w n.toNatClampNeg) v r_2 → (((r_2 = 0 → (Q 0)) ∧
 (¬ (r_2 = 0) → (pr_X5_isBack kp dp tw wt st tn tr tre tm ts n v ∧ (∀ (r_4 : Int32), ps_X5_isBack kp dp tw wt st tn tr tre tm ts n v r_4 → (((r_4 = 0 → (Q 0)) ∧
 (¬ (r_4 = 0) → (Q 1))))))))))
theorem pf_X1_l_tailsOf (N : NetM) (V n0 : Nat) (wa wy un ga lo mo li kt wk wd : Int32) (f t w c o : Nat → Int32) (nd rt ex mn : Int32) (kp dp tw wt st : Nat → Int32) (tn tr tre tm ts v n : Int32) (hp : pr_X1_l_tailsOf N V n0 wa wy un ga lo mo li kt wk wd f t w c o nd rt ex mn kp dp tw wt st tn tr tre tm ts v n) : wp_X1_l_tailsOf wa wy un ga lo mo li kt wk wd f t w c o nd rt ex mn kp dp tw wt st tn tr tre tm ts v n (ps_X1_l_tailsOf N V n0 wa wy un ga lo mo li kt wk wd f t w c o nd rt ex mn kp dp tw wt st tn tr tre tm ts v n) := by
  obtain ⟨hN, hT, rfl, hV, rfl, hn⟩ := hp
  have h16 := hN.n16
  refine ⟨hN.in16N hn, fun r hr => ?_⟩
  rw [clN (by omega)] at hr
  have hw := hN.rows (a := n0) (by omega)
  refine ⟨fun z => isB0 (fun q => has_z hr hw (by omega) z q.1), fun z => ⟨⟨_, _, _, n0, V, hT.1, hT.2.2.2.2, rfl, rfl, by omega, by omega⟩, fun r4 hr4 => ?_⟩⟩
  have h := hr4 _ _ _ n0 V hT.1 hT.2.2.2.2 rfl rfl (by omega) (by omega)
  exact ⟨fun z4 => isB0 (fun q => h.neg z4 q.2), fun z4 => isB1 ⟨has_p hr hw (by omega) z, h.pos z4⟩⟩
def pr_X1_bits_tailsOf (N : NetM) (V : Nat) (wa wy un ga lo mo li kt wk wd : Int32) (f t w c o : Nat → Int32) (nd rt ex mn : Int32) (kp dp tw wt st : Nat → Int32) (tn tr tre tm ts v : Int32) : Prop := NetR N f t w c o nd rt ex mn ∧ TreR N.E N.root N.n kp dp tw tn tr tre ∧ v = nI V ∧ V < N.n
def ps_X1_bits_tailsOf (N : NetM) (V : Nat) (wa wy un ga lo mo li kt wk wd : Int32) (f t w c o : Nat → Int32) (nd rt ex mn : Int32) (kp dp tw wt st : Nat → Int32) (tn tr tre tm ts v : Int32) (r : Int32)  : Prop := IsSet r (fun n0 => n0 < N.n ∧ (Tail N.E N.root n0 V))
def wp_X1_bits_tailsOf_L4 (wa wy un ga lo mo li kt wk wd : Int32) (f t w c o : Nat → Int32) (nd rt ex mn : Int32) (kp dp tw wt st : Nat → Int32) (tn tr tre tm ts v : Int32) (J41 : Int32 → Prop) (ix3_19 ix2_20 : Int32) : Prop :=
  ∀ X4 : Int32 → Int32 → Prop, (∀ (x3_19 : Int32) (x2_20 : Int32), (((nd ≤ x3_19 → (J41 x2_20)) ∧
 (¬ (nd ≤ x3_19) → (∃ (N_23 : NetM) (V_23 n0_23 : Nat), (pr_X1_l_tailsOf N_23 V_23 n0_23 wa wy un ga lo mo li kt wk wd f t w c o nd rt ex mn kp dp tw wt st tn tr tre tm ts v x3_19 ∧ (∀ (r_23 : Int32), ps_X1_l_tailsOf N_23 V_23 n0_23 wa wy un ga lo mo li kt wk wd f t w c o nd rt ex mn kp dp tw wt st tn tr tre tm ts v x3_19 r_23 → (((r_23 = 0 → (X4 (x3_19 + 1) (x2_20 ||| 0))) ∧
 (¬ (r_23 = 0) → (X4 (x3_19 + 1) (x2_20 ||| (1 <<< (x3_19 &&& 31))))))))))))) → X4 x3_19 x2_20) → X4 ix3_19 ix2_20
def wp_X1_bits_tailsOf (wa wy un ga lo mo li kt wk wd : Int32) (f t w c o : Nat → Int32) (nd rt ex mn : Int32) (kp dp tw wt st : Nat → Int32) (tn tr tre tm ts v : Int32) (Q : Int32 → Prop) : Prop :=
  ∀ J41 : Int32 → Prop, (∀ (x2_17 : Int32), (Q x2_17) → J41 x2_17) →
wp_X1_bits_tailsOf_L4 wa wy un ga lo mo li kt wk wd f t w c o nd rt ex mn kp dp tw wt st tn tr tre tm ts v J41 0 0
theorem pf_X1_bits_tailsOf (N : NetM) (V : Nat) (wa wy un ga lo mo li kt wk wd : Int32) (f t w c o : Nat → Int32) (nd rt ex mn : Int32) (kp dp tw wt st : Nat → Int32) (tn tr tre tm ts v : Int32) (hp : pr_X1_bits_tailsOf N V wa wy un ga lo mo li kt wk wd f t w c o nd rt ex mn kp dp tw wt st tn tr tre tm ts v) : wp_X1_bits_tailsOf wa wy un ga lo mo li kt wk wd f t w c o nd rt ex mn kp dp tw wt st tn tr tre tm ts v (ps_X1_bits_tailsOf N V wa wy un ga lo mo li kt wk wd f t w c o nd rt ex mn kp dp tw wt st tn tr tre tm ts v) := by
  obtain ⟨hN, hT, hcV, hlV⟩ := hp
  intro J hJ X4 hX
  have hn := hN.n16
  have e := hN.nd
  subst e
  exact up1 N.n (fun k s => IsSet s (fun n0 => n0 < k ∧ (Tail N.E N.root n0 V))) (fun k s hk hI hK => hX _ _ ⟨fun q => absurd q (by rw [leN (by omega) (by omega)]; omega), fun _ => ⟨N, V, k, ⟨hN, hT, hcV, hlV, rfl, hk⟩, fun r hr => ⟨fun z => hK _ (bits0 hI hr z), fun z => hK _ (bits1 (by omega) hI hr z)⟩⟩⟩) (fun s hI => hX _ _ ⟨fun _ => hJ _ hI, fun q => absurd (Int32.le_refl _) q⟩) 0 0 (Nat.zero_le _) bitsZ
def pr_X1_tailsOf (N : NetM) (V : Nat) (wa wy un ga lo mo li kt wk wd : Int32) (f t w c o : Nat → Int32) (nd rt ex mn : Int32) (kp dp tw wt st : Nat → Int32) (tn tr tre tm ts v : Int32) : Prop := NetR N f t w c o nd rt ex mn ∧ TreR N.E N.root N.n kp dp tw tn tr tre ∧ v = nI V ∧ V < N.n
def ps_X1_tailsOf (N : NetM) (V : Nat) (wa wy un ga lo mo li kt wk wd : Int32) (f t w c o : Nat → Int32) (nd rt ex mn : Int32) (kp dp tw wt st : Nat → Int32) (tn tr tre tm ts v : Int32) (r : Int32)  : Prop := IsSet r (fun n => Tail N.E N.root n V)
def wp_X1_tailsOf (wa wy un ga lo mo li kt wk wd : Int32) (f t w c o : Nat → Int32) (nd rt ex mn : Int32) (kp dp tw wt st : Nat → Int32) (tn tr tre tm ts v : Int32) (Q : Int32 → Prop) : Prop :=
  ∃ (N_3 : NetM) (V_3 : Nat), (pr_X1_bits_tailsOf N_3 V_3 wa wy un ga lo mo li kt wk wd f t w c o nd rt ex mn kp dp tw wt st tn tr tre tm ts v ∧ (∀ (r_3 : Int32), ps_X1_bits_tailsOf N_3 V_3 wa wy un ga lo mo li kt wk wd f t w c o nd rt ex mn kp dp tw wt st tn tr tre tm ts v r_3 → (Q r_3)))
theorem pf_X1_tailsOf (N : NetM) (V : Nat) (wa wy un ga lo mo li kt wk wd : Int32) (f t w c o : Nat → Int32) (nd rt ex mn : Int32) (kp dp tw wt st : Nat → Int32) (tn tr tre tm ts v : Int32) (hp : pr_X1_tailsOf N V wa wy un ga lo mo li kt wk wd f t w c o nd rt ex mn kp dp tw wt st tn tr tre tm ts v) : wp_X1_tailsOf wa wy un ga lo mo li kt wk wd f t w c o nd rt ex mn kp dp tw wt st tn tr tre tm ts v (ps_X1_tailsOf N V wa wy un ga lo mo li kt wk wd f t w c o nd rt ex mn kp dp tw wt st tn tr tre tm ts v) := by
  obtain ⟨hN, hT, rfl, hV⟩ := hp
  exact ⟨N, V, ⟨hN, hT, rfl, hV⟩, fun r hr => IsSet.congr hr (fun k hk => ⟨fun z => z.2, fun z => ⟨hT.1.lt z.2.R, z⟩⟩)⟩
def pr_X1_l_backFrom (N : NetM) (V n0 : Nat) (wa wy un ga lo mo li kt wk wd : Int32) (f t w c o : Nat → Int32) (nd rt ex mn : Int32) (kp dp tw wt st : Nat → Int32) (tn tr tre tm ts v n : Int32) : Prop := NetR N f t w c o nd rt ex mn ∧ TreR N.E N.root N.n kp dp tw tn tr tre ∧ v = nI V ∧ V < N.n ∧ n = nI n0 ∧ n0 < N.n
def ps_X1_l_backFrom (N : NetM) (V n0 : Nat) (wa wy un ga lo mo li kt wk wd : Int32) (f t w c o : Nat → Int32) (nd rt ex mn : Int32) (kp dp tw wt st : Nat → Int32) (tn tr tre tm ts v n : Int32) (r : Int32)  : Prop := IsB r (Dm N.E N.root n0 V)
def wp_X1_l_backFrom (wa wy un ga lo mo li kt wk wd : Int32) (f t w c o : Nat → Int32) (nd rt ex mn : Int32) (kp dp tw wt st : Nat → Int32) (tn tr tre tm ts v n : Int32) (Q : Int32 → Prop) : Prop :=
  pr_X5_isBack kp dp tw wt st tn tr tre tm ts v n ∧ (∀ (r_1 : Int32), ps_X5_isBack kp dp tw wt st tn tr tre tm ts v n r_1 → ((r_1 = 0 ∨ r_1 = 1) ∧ (Q r_1)))
theorem pf_X1_l_backFrom (N : NetM) (V n0 : Nat) (wa wy un ga lo mo li kt wk wd : Int32) (f t w c o : Nat → Int32) (nd rt ex mn : Int32) (kp dp tw wt st : Nat → Int32) (tn tr tre tm ts v n : Int32) (hp : pr_X1_l_backFrom N V n0 wa wy un ga lo mo li kt wk wd f t w c o nd rt ex mn kp dp tw wt st tn tr tre tm ts v n) : wp_X1_l_backFrom wa wy un ga lo mo li kt wk wd f t w c o nd rt ex mn kp dp tw wt st tn tr tre tm ts v n (ps_X1_l_backFrom N V n0 wa wy un ga lo mo li kt wk wd f t w c o nd rt ex mn kp dp tw wt st tn tr tre tm ts v n) := by
  obtain ⟨hN, hT, rfl, hV, rfl, hn⟩ := hp
  have h16 := hN.n16
  refine ⟨⟨_, _, _, V, n0, hT.1, hT.2.2.2.2, rfl, rfl, by omega, by omega⟩, fun r hr => ?_⟩
  have h := hr _ _ _ V n0 hT.1 hT.2.2.2.2 rfl rfl (by omega) (by omega)
  exact ⟨h.i01, h⟩
def pr_X1_bits_backFrom (N : NetM) (V : Nat) (wa wy un ga lo mo li kt wk wd : Int32) (f t w c o : Nat → Int32) (nd rt ex mn : Int32) (kp dp tw wt st : Nat → Int32) (tn tr tre tm ts v : Int32) : Prop := NetR N f t w c o nd rt ex mn ∧ TreR N.E N.root N.n kp dp tw tn tr tre ∧ v = nI V ∧ V < N.n
def ps_X1_bits_backFrom (N : NetM) (V : Nat) (wa wy un ga lo mo li kt wk wd : Int32) (f t w c o : Nat → Int32) (nd rt ex mn : Int32) (kp dp tw wt st : Nat → Int32) (tn tr tre tm ts v : Int32) (r : Int32)  : Prop := IsSet r (fun n0 => n0 < N.n ∧ (Dm N.E N.root n0 V))
def wp_X1_bits_backFrom_L4 (wa wy un ga lo mo li kt wk wd : Int32) (f t w c o : Nat → Int32) (nd rt ex mn : Int32) (kp dp tw wt st : Nat → Int32) (tn tr tre tm ts v : Int32) (J41 : Int32 → Prop) (ix3_19 ix2_20 : Int32) : Prop :=
  ∀ X4 : Int32 → Int32 → Prop, (∀ (x3_19 : Int32) (x2_20 : Int32), (((nd ≤ x3_19 → (J41 x2_20)) ∧
 (¬ (nd ≤ x3_19) → (∃ (N_23 : NetM) (V_23 n0_23 : Nat), (pr_X1_l_backFrom N_23 V_23 n0_23 wa wy un ga lo mo li kt wk wd f t w c o nd rt ex mn kp dp tw wt st tn tr tre tm ts v x3_19 ∧ (∀ (r_23 : Int32), ps_X1_l_backFrom N_23 V_23 n0_23 wa wy un ga lo mo li kt wk wd f t w c o nd rt ex mn kp dp tw wt st tn tr tre tm ts v x3_19 r_23 → (((r_23 = 0 → (X4 (x3_19 + 1) (x2_20 ||| 0))) ∧
 (¬ (r_23 = 0) → (X4 (x3_19 + 1) (x2_20 ||| (1 <<< (x3_19 &&& 31))))))))))))) → X4 x3_19 x2_20) → X4 ix3_19 ix2_20
def wp_X1_bits_backFrom (wa wy un ga lo mo li kt wk wd : Int32) (f t w c o : Nat → Int32) (nd rt ex mn : Int32) (kp dp tw wt st : Nat → Int32) (tn tr tre tm ts v : Int32) (Q : Int32 → Prop) : Prop :=
  ∀ J41 : Int32 → Prop, (∀ (x2_17 : Int32), (Q x2_17) → J41 x2_17) →
wp_X1_bits_backFrom_L4 wa wy un ga lo mo li kt wk wd f t w c o nd rt ex mn kp dp tw wt st tn tr tre tm ts v J41 0 0
theorem pf_X1_bits_backFrom (N : NetM) (V : Nat) (wa wy un ga lo mo li kt wk wd : Int32) (f t w c o : Nat → Int32) (nd rt ex mn : Int32) (kp dp tw wt st : Nat → Int32) (tn tr tre tm ts v : Int32) (hp : pr_X1_bits_backFrom N V wa wy un ga lo mo li kt wk wd f t w c o nd rt ex mn kp dp tw wt st tn tr tre tm ts v) : wp_X1_bits_backFrom wa wy un ga lo mo li kt wk wd f t w c o nd rt ex mn kp dp tw wt st tn tr tre tm ts v (ps_X1_bits_backFrom N V wa wy un ga lo mo li kt wk wd f t w c o nd rt ex mn kp dp tw wt st tn tr tre tm ts v) := by
  obtain ⟨hN, hT, hcV, hlV⟩ := hp
  intro J hJ X4 hX
  have hn := hN.n16
  have e := hN.nd
  subst e
  exact up1 N.n (fun k s => IsSet s (fun n0 => n0 < k ∧ (Dm N.E N.root n0 V))) (fun k s hk hI hK => hX _ _ ⟨fun q => absurd q (by rw [leN (by omega) (by omega)]; omega), fun _ => ⟨N, V, k, ⟨hN, hT, hcV, hlV, rfl, hk⟩, fun r hr => ⟨fun z => hK _ (bits0 hI hr z), fun z => hK _ (bits1 (by omega) hI hr z)⟩⟩⟩) (fun s hI => hX _ _ ⟨fun _ => hJ _ hI, fun q => absurd (Int32.le_refl _) q⟩) 0 0 (Nat.zero_le _) bitsZ
def pr_X1_backFrom (N : NetM) (V : Nat) (wa wy un ga lo mo li kt wk wd : Int32) (f t w c o : Nat → Int32) (nd rt ex mn : Int32) (kp dp tw wt st : Nat → Int32) (tn tr tre tm ts v : Int32) : Prop := NetR N f t w c o nd rt ex mn ∧ TreR N.E N.root N.n kp dp tw tn tr tre ∧ v = nI V ∧ V < N.n
def ps_X1_backFrom (N : NetM) (V : Nat) (wa wy un ga lo mo li kt wk wd : Int32) (f t w c o : Nat → Int32) (nd rt ex mn : Int32) (kp dp tw wt st : Nat → Int32) (tn tr tre tm ts v : Int32) (r : Int32)  : Prop := IsSet r (fun n => Dm N.E N.root n V)
def wp_X1_backFrom (wa wy un ga lo mo li kt wk wd : Int32) (f t w c o : Nat → Int32) (nd rt ex mn : Int32) (kp dp tw wt st : Nat → Int32) (tn tr tre tm ts v : Int32) (Q : Int32 → Prop) : Prop :=
  ∃ (N_3 : NetM) (V_3 : Nat), (pr_X1_bits_backFrom N_3 V_3 wa wy un ga lo mo li kt wk wd f t w c o nd rt ex mn kp dp tw wt st tn tr tre tm ts v ∧ (∀ (r_3 : Int32), ps_X1_bits_backFrom N_3 V_3 wa wy un ga lo mo li kt wk wd f t w c o nd rt ex mn kp dp tw wt st tn tr tre tm ts v r_3 → (Q r_3)))
theorem pf_X1_backFrom (N : NetM) (V : Nat) (wa wy un ga lo mo li kt wk wd : Int32) (f t w c o : Nat → Int32) (nd rt ex mn : Int32) (kp dp tw wt st : Nat → Int32) (tn tr tre tm ts v : Int32) (hp : pr_X1_backFrom N V wa wy un ga lo mo li kt wk wd f t w c o nd rt ex mn kp dp tw wt st tn tr tre tm ts v) : wp_X1_backFrom wa wy un ga lo mo li kt wk wd f t w c o nd rt ex mn kp dp tw wt st tn tr tre tm ts v (ps_X1_backFrom N V wa wy un ga lo mo li kt wk wd f t w c o nd rt ex mn kp dp tw wt st tn tr tre tm ts v) := by
  obtain ⟨hN, hT, rfl, hV⟩ := hp
  exact ⟨N, V, ⟨hN, hT, rfl, hV⟩, fun r hr => IsSet.congr hr (fun k hk => ⟨fun z => z.2, fun z => ⟨hT.1.lt z.Rg, z⟩⟩)⟩
def pr_X1_l_heads (N : NetM) (n0 : Nat) (wa wy un ga lo mo li kt wk wd : Int32) (f t w c o : Nat → Int32) (nd rt ex mn : Int32) (kp dp tw wt st : Nat → Int32) (tn tr tre tm ts n : Int32) : Prop := NetR N f t w c o nd rt ex mn ∧ TreR N.E N.root N.n kp dp tw tn tr tre ∧ n = nI n0 ∧ n0 < N.n
def ps_X1_l_heads (N : NetM) (n0 : Nat) (wa wy un ga lo mo li kt wk wd : Int32) (f t w c o : Nat → Int32) (nd rt ex mn : Int32) (kp dp tw wt st : Nat → Int32) (tn tr tre tm ts n : Int32) (r : Int32)  : Prop := IsB r (∃ u, Tail N.E N.root u n0)
def wp_X1_l_heads (wa wy un ga lo mo li kt wk wd : Int32) (f t w c o : Nat → Int32) (nd rt ex mn : Int32) (kp dp tw wt st : Nat → Int32) (tn tr tre tm ts n : Int32) (Q : Int32 → Prop) : Prop :=
  ∃ (N_1 : NetM) (V_1 : Nat), (pr_X1_tailsOf N_1 V_1 wa wy un ga lo mo li kt wk wd f t w c o nd rt ex mn kp dp tw wt st tn tr tre tm ts n ∧ (∀ (r_1 : Int32), ps_X1_tailsOf N_1 V_1 wa wy un ga lo mo li kt wk wd f t w c o nd rt ex mn kp dp tw wt st tn tr tre tm ts n r_1 → (((r_1 = 0 → (Q 0)) ∧
 (¬ (r_1 = 0) → (Q 1))))))
theorem pf_X1_l_heads (N : NetM) (n0 : Nat) (wa wy un ga lo mo li kt wk wd : Int32) (f t w c o : Nat → Int32) (nd rt ex mn : Int32) (kp dp tw wt st : Nat → Int32) (tn tr tre tm ts n : Int32) (hp : pr_X1_l_heads N n0 wa wy un ga lo mo li kt wk wd f t w c o nd rt ex mn kp dp tw wt st tn tr tre tm ts n) : wp_X1_l_heads wa wy un ga lo mo li kt wk wd f t w c o nd rt ex mn kp dp tw wt st tn tr tre tm ts n (ps_X1_l_heads N n0 wa wy un ga lo mo li kt wk wd f t w c o nd rt ex mn kp dp tw wt st tn tr tre tm ts n) := by
  obtain ⟨hN, hT, rfl, hn⟩ := hp
  have h16 := hN.n16
  refine ⟨N, n0, ⟨hN, hT, rfl, hn⟩, fun r hr => ⟨fun z => isB0 ?_, fun z => isB1 ?_⟩⟩
  · rintro ⟨u, hu⟩
    exact (IsSet.eq0 hr).1 z u (by have := hT.1.lt hu.2.R; omega) hu
  · refine Classical.byContradiction fun q => z ((IsSet.eq0 hr).2 (fun k _ hk => q ⟨k, hk⟩))
def pr_X1_bits_heads (N : NetM) (wa wy un ga lo mo li kt wk wd : Int32) (f t w c o : Nat → Int32) (nd rt ex mn : Int32) (kp dp tw wt st : Nat → Int32) (tn tr tre tm ts : Int32) : Prop := NetR N f t w c o nd rt ex mn ∧ TreR N.E N.root N.n kp dp tw tn tr tre
def ps_X1_bits_heads (N : NetM) (wa wy un ga lo mo li kt wk wd : Int32) (f t w c o : Nat → Int32) (nd rt ex mn : Int32) (kp dp tw wt st : Nat → Int32) (tn tr tre tm ts : Int32) (r : Int32)  : Prop := IsSet r (fun n0 => n0 < N.n ∧ (∃ u, Tail N.E N.root u n0))
def wp_X1_bits_heads_L4 (wa wy un ga lo mo li kt wk wd : Int32) (f t w c o : Nat → Int32) (nd rt ex mn : Int32) (kp dp tw wt st : Nat → Int32) (tn tr tre tm ts : Int32) (J41 : Int32 → Nat → Nat → Prop) (ix3_25 ix2_26 : Int32) (ikc_27 iks_28 : Nat) : Prop :=
  ∀ X4 : Int32 → Int32 → Nat → Nat → Prop, (∀ (x3_25 : Int32) (x2_26 : Int32) (kc_27 : Nat) (ks_28 : Nat), (((nd ≤ x3_25 → (J41 x2_26 kc_27 ks_28)) ∧
 (¬ (nd ≤ x3_25) → ((kc_27 + 1 ≤ 16 ∧ ks_28 + 2 ≤ 32) ∧ (∃ (N_31 : NetM) (n0_31 : Nat), (pr_X1_l_heads N_31 n0_31 wa wy un ga lo mo li kt wk wd f t w c o nd rt ex mn kp dp tw wt st tn tr tre tm ts x3_25 ∧ (∀ (r_31 : Int32), ps_X1_l_heads N_31 n0_31 wa wy un ga lo mo li kt wk wd f t w c o nd rt ex mn kp dp tw wt st tn tr tre tm ts x3_25 r_31 → (((r_31 = 0 → (X4 (x3_25 + 1) (x2_26 ||| 0) (kc_27 + 1) (ks_28 + 2))) ∧
 (¬ (r_31 = 0) → (X4 (x3_25 + 1) (x2_26 ||| (1 <<< (x3_25 &&& 31))) (kc_27 + 1) (ks_28 + 2)))))))))))) → X4 x3_25 x2_26 kc_27 ks_28) → X4 ix3_25 ix2_26 ikc_27 iks_28
def wp_X1_bits_heads (wa wy un ga lo mo li kt wk wd : Int32) (f t w c o : Nat → Int32) (nd rt ex mn : Int32) (kp dp tw wt st : Nat → Int32) (tn tr tre tm ts : Int32) (Q : Int32 → Prop) : Prop :=
  ∀ J41 : Int32 → Nat → Nat → Prop, (∀ (x2_21 : Int32) (kc_22 : Nat) (ks_23 : Nat), (kc_22 ≤ 16 ∧ (ks_23 ≤ 32 ∧ (Q x2_21))) → J41 x2_21 kc_22 ks_23) →
wp_X1_bits_heads_L4 wa wy un ga lo mo li kt wk wd f t w c o nd rt ex mn kp dp tw wt st tn tr tre tm ts J41 0 0 0 0
theorem pf_X1_bits_heads (N : NetM) (wa wy un ga lo mo li kt wk wd : Int32) (f t w c o : Nat → Int32) (nd rt ex mn : Int32) (kp dp tw wt st : Nat → Int32) (tn tr tre tm ts : Int32) (hp : pr_X1_bits_heads N wa wy un ga lo mo li kt wk wd f t w c o nd rt ex mn kp dp tw wt st tn tr tre tm ts) : wp_X1_bits_heads wa wy un ga lo mo li kt wk wd f t w c o nd rt ex mn kp dp tw wt st tn tr tre tm ts (ps_X1_bits_heads N wa wy un ga lo mo li kt wk wd f t w c o nd rt ex mn kp dp tw wt st tn tr tre tm ts) := by
  obtain ⟨hN, hT⟩ := hp
  intro J hJ X4 hX
  have hn := hN.n16
  have e := hN.nd
  subst e
  exact up3 N.n (fun k s kc ks => IsSet s (fun n0 => n0 < k ∧ (∃ u, Tail N.E N.root u n0)) ∧ kc = k * 1 ∧ ks = k * 2) (fun k s kc ks hk ⟨hI, h1, h2⟩ hK => hX _ _ _ _ ⟨fun q => absurd q (by rw [leN (by omega) (by omega)]; omega), fun _ => ⟨⟨by omega, by omega⟩, N, k, ⟨hN, hT, rfl, hk⟩, fun r hr => ⟨fun z => hK _ _ _ ⟨bits0 hI hr z, by omega, by omega⟩, fun z => hK _ _ _ ⟨bits1 (by omega) hI hr z, by omega, by omega⟩⟩⟩⟩) (fun s kc ks ⟨hI, h1, h2⟩ => hX _ _ _ _ ⟨fun _ => hJ _ _ _ ⟨by omega, by omega, hI⟩, fun q => absurd (Int32.le_refl _) q⟩) 0 0 0 0 (Nat.zero_le _) ⟨bitsZ, by omega, by omega⟩
def pr_X1_heads (N : NetM) (wa wy un ga lo mo li kt wk wd : Int32) (f t w c o : Nat → Int32) (nd rt ex mn : Int32) (kp dp tw wt st : Nat → Int32) (tn tr tre tm ts : Int32) : Prop := NetR N f t w c o nd rt ex mn ∧ TreR N.E N.root N.n kp dp tw tn tr tre
def ps_X1_heads (N : NetM) (wa wy un ga lo mo li kt wk wd : Int32) (f t w c o : Nat → Int32) (nd rt ex mn : Int32) (kp dp tw wt st : Nat → Int32) (tn tr tre tm ts : Int32) (r : Int32)  : Prop := IsSet r (fun n => ∃ u, Tail N.E N.root u n)
def wp_X1_heads (wa wy un ga lo mo li kt wk wd : Int32) (f t w c o : Nat → Int32) (nd rt ex mn : Int32) (kp dp tw wt st : Nat → Int32) (tn tr tre tm ts : Int32) (Q : Int32 → Prop) : Prop :=
  ∃ (N_3 : NetM), (pr_X1_bits_heads N_3 wa wy un ga lo mo li kt wk wd f t w c o nd rt ex mn kp dp tw wt st tn tr tre tm ts ∧ (∀ (r_3 : Int32), ps_X1_bits_heads N_3 wa wy un ga lo mo li kt wk wd f t w c o nd rt ex mn kp dp tw wt st tn tr tre tm ts r_3 → (Q r_3)))
theorem pf_X1_heads (N : NetM) (wa wy un ga lo mo li kt wk wd : Int32) (f t w c o : Nat → Int32) (nd rt ex mn : Int32) (kp dp tw wt st : Nat → Int32) (tn tr tre tm ts : Int32) (hp : pr_X1_heads N wa wy un ga lo mo li kt wk wd f t w c o nd rt ex mn kp dp tw wt st tn tr tre tm ts) : wp_X1_heads wa wy un ga lo mo li kt wk wd f t w c o nd rt ex mn kp dp tw wt st tn tr tre tm ts (ps_X1_heads N wa wy un ga lo mo li kt wk wd f t w c o nd rt ex mn kp dp tw wt st tn tr tre tm ts) := by
  obtain ⟨hN, hT⟩ := hp
  exact ⟨N, ⟨hN, hT⟩, fun r hr => IsSet.congr hr (fun k hk => ⟨fun z => z.2, fun z => ⟨by obtain ⟨u, hu⟩ := z; exact hT.1.lt hu.2.Rg, z⟩⟩)⟩
def pr_X1_l_bodyOf (N : NetM) (V n0 : Nat) (wa wy un ga lo mo li kt wk wd : Int32) (f t w c o : Nat → Int32) (nd rt ex mn : Int32) (kp dp tw wt st : Nat → Int32) (tn tr tre tm ts v ta n : Int32) : Prop := NetR N f t w c o nd rt ex mn ∧ TreR N.E N.root N.n kp dp tw tn tr tre ∧ v = nI V ∧ V < N.n ∧ n = nI n0 ∧ n0 < N.n ∧ IsSet ta (fun n => Tail N.E N.root n V)
def ps_X1_l_bodyOf (N : NetM) (V n0 : Nat) (wa wy un ga lo mo li kt wk wd : Int32) (f t w c o : Nat → Int32) (nd rt ex mn : Int32) (kp dp tw wt st : Nat → Int32) (tn tr tre tm ts v ta n : Int32) (r : Int32)  : Prop := IsB r (Body1 N.E N.root V n0)
def wp_X1_l_bodyOf (wa wy un ga lo mo li kt wk wd : Int32) (f t w c o : Nat → Int32) (nd rt ex mn : Int32) (kp dp tw wt st : Nat → Int32) (tn tr tre tm ts v ta n : Int32) (Q : Int32 → Prop) : Prop :=
  ((n = v → (Q 0)) ∧
 (¬ (n = v) → (∀ (r_2 : Int32), ps_X1_has tre n r_2 → (((r_2 = 0 → (Q 0)) ∧
 (¬ (r_2 = 0) → (pr_X8_reach_N f t w c o nd rt ex mn n (1 <<< (v &&& 31)) ∧ (∀ (r_4 : Int32), ps_X8_reach_N f t w c o nd rt ex mn n (1 <<< (v &&& 31)) r_4 → (((((r_4 &&& ta) &&& ((1 <<< (v &&& 31)) ^^^ (-1))) = 0 → (Q 0)) ∧
 (¬ (((r_4 &&& ta) &&& ((1 <<< (v &&& 31)) ^^^ (-1))) = 0) → (Q 1))))))))))))
theorem pf_X1_l_bodyOf (N : NetM) (V n0 : Nat) (wa wy un ga lo mo li kt wk wd : Int32) (f t w c o : Nat → Int32) (nd rt ex mn : Int32) (kp dp tw wt st : Nat → Int32) (tn tr tre tm ts v ta n : Int32) (hp : pr_X1_l_bodyOf N V n0 wa wy un ga lo mo li kt wk wd f t w c o nd rt ex mn kp dp tw wt st tn tr tre tm ts v ta n) : wp_X1_l_bodyOf wa wy un ga lo mo li kt wk wd f t w c o nd rt ex mn kp dp tw wt st tn tr tre tm ts v ta n (ps_X1_l_bodyOf N V n0 wa wy un ga lo mo li kt wk wd f t w c o nd rt ex mn kp dp tw wt st tn tr tre tm ts v ta n) := by
  obtain ⟨hN, hT, rfl, hV, rfl, hn, hta⟩ := hp
  have h16 := hN.n16
  refine ⟨fun z => isB0 (fun q => q.1 (by rwa [eqN (by omega) (by omega)] at z)), fun z => fun r hr => ⟨fun z2 => isB0 (fun q => has_z hr hT.2.2.2.2 (by omega) z2 q.2.1), fun z2 => ⟨hN.rchP hn (by rw [bt_one (by omega)]; intro q; exact z (by rw [q])), fun r4 h4 => ?_⟩⟩⟩
  have hS := hN.rch hn (bt_one (by omega)) h4
  have hA := (hS.and hta).andNot (IsSet.bit (k := V) (by omega))
  refine ⟨fun z3 => isB0 ?_, fun z3 => isB1 ?_⟩
  · rintro ⟨-, -, u, hu, hne, hw⟩
    exact hA.eq0.1 z3 u (by have := hT.1.lt hu.2.R; omega) ⟨⟨hw, hu⟩, hne⟩
  · refine ⟨fun q => z (by rw [q]), has_p hr hT.2.2.2.2 (by omega) z2, ?_⟩
    refine Classical.byContradiction fun q => z3 (hA.eq0.2 (fun k _ hk => q ⟨k, hk.1.2, hk.2, hk.1.1⟩))
def pr_X1_bits_bodyOf (N : NetM) (V : Nat) (wa wy un ga lo mo li kt wk wd : Int32) (f t w c o : Nat → Int32) (nd rt ex mn : Int32) (kp dp tw wt st : Nat → Int32) (tn tr tre tm ts v ta : Int32) : Prop := NetR N f t w c o nd rt ex mn ∧ TreR N.E N.root N.n kp dp tw tn tr tre ∧ v = nI V ∧ V < N.n ∧ IsSet ta (fun n => Tail N.E N.root n V)
def ps_X1_bits_bodyOf (N : NetM) (V : Nat) (wa wy un ga lo mo li kt wk wd : Int32) (f t w c o : Nat → Int32) (nd rt ex mn : Int32) (kp dp tw wt st : Nat → Int32) (tn tr tre tm ts v ta : Int32) (r : Int32)  : Prop := IsSet r (fun n0 => n0 < N.n ∧ (Body1 N.E N.root V n0))
def wp_X1_bits_bodyOf_L4 (wa wy un ga lo mo li kt wk wd : Int32) (f t w c o : Nat → Int32) (nd rt ex mn : Int32) (kp dp tw wt st : Nat → Int32) (tn tr tre tm ts v ta : Int32) (J41 : Int32 → Prop) (ix3_19 ix2_20 : Int32) : Prop :=
  ∀ X4 : Int32 → Int32 → Prop, (∀ (x3_19 : Int32) (x2_20 : Int32), (((nd ≤ x3_19 → (J41 x2_20)) ∧
 (¬ (nd ≤ x3_19) → (∃ (N_23 : NetM) (V_23 n0_23 : Nat), (pr_X1_l_bodyOf N_23 V_23 n0_23 wa wy un ga lo mo li kt wk wd f t w c o nd rt ex mn kp dp tw wt st tn tr tre tm ts v ta x3_19 ∧ (∀ (r_23 : Int32), ps_X1_l_bodyOf N_23 V_23 n0_23 wa wy un ga lo mo li kt wk wd f t w c o nd rt ex mn kp dp tw wt st tn tr tre tm ts v ta x3_19 r_23 → (((r_23 = 0 → (X4 (x3_19 + 1) (x2_20 ||| 0))) ∧
 (¬ (r_23 = 0) → (X4 (x3_19 + 1) (x2_20 ||| (1 <<< (x3_19 &&& 31))))))))))))) → X4 x3_19 x2_20) → X4 ix3_19 ix2_20
def wp_X1_bits_bodyOf (wa wy un ga lo mo li kt wk wd : Int32) (f t w c o : Nat → Int32) (nd rt ex mn : Int32) (kp dp tw wt st : Nat → Int32) (tn tr tre tm ts v ta : Int32) (Q : Int32 → Prop) : Prop :=
  ∀ J41 : Int32 → Prop, (∀ (x2_17 : Int32), (Q x2_17) → J41 x2_17) →
wp_X1_bits_bodyOf_L4 wa wy un ga lo mo li kt wk wd f t w c o nd rt ex mn kp dp tw wt st tn tr tre tm ts v ta J41 0 0
theorem pf_X1_bits_bodyOf (N : NetM) (V : Nat) (wa wy un ga lo mo li kt wk wd : Int32) (f t w c o : Nat → Int32) (nd rt ex mn : Int32) (kp dp tw wt st : Nat → Int32) (tn tr tre tm ts v ta : Int32) (hp : pr_X1_bits_bodyOf N V wa wy un ga lo mo li kt wk wd f t w c o nd rt ex mn kp dp tw wt st tn tr tre tm ts v ta) : wp_X1_bits_bodyOf wa wy un ga lo mo li kt wk wd f t w c o nd rt ex mn kp dp tw wt st tn tr tre tm ts v ta (ps_X1_bits_bodyOf N V wa wy un ga lo mo li kt wk wd f t w c o nd rt ex mn kp dp tw wt st tn tr tre tm ts v ta) := by
  obtain ⟨hN, hT, hcV, hlV, hx0⟩ := hp
  intro J hJ X4 hX
  have hn := hN.n16
  have e := hN.nd
  subst e
  exact up1 N.n (fun k s => IsSet s (fun n0 => n0 < k ∧ (Body1 N.E N.root V n0))) (fun k s hk hI hK => hX _ _ ⟨fun q => absurd q (by rw [leN (by omega) (by omega)]; omega), fun _ => ⟨N, V, k, ⟨hN, hT, hcV, hlV, rfl, hk, hx0⟩, fun r hr => ⟨fun z => hK _ (bits0 hI hr z), fun z => hK _ (bits1 (by omega) hI hr z)⟩⟩⟩) (fun s hI => hX _ _ ⟨fun _ => hJ _ hI, fun q => absurd (Int32.le_refl _) q⟩) 0 0 (Nat.zero_le _) bitsZ
def pr_X1_bodyOf (N : NetM) (V : Nat) (wa wy un ga lo mo li kt wk wd : Int32) (f t w c o : Nat → Int32) (nd rt ex mn : Int32) (kp dp tw wt st : Nat → Int32) (tn tr tre tm ts v : Int32) : Prop := NetR N f t w c o nd rt ex mn ∧ TreR N.E N.root N.n kp dp tw tn tr tre ∧ v = nI V ∧ V < N.n
def ps_X1_bodyOf (N : NetM) (V : Nat) (wa wy un ga lo mo li kt wk wd : Int32) (f t w c o : Nat → Int32) (nd rt ex mn : Int32) (kp dp tw wt st : Nat → Int32) (tn tr tre tm ts v : Int32) (r : Int32)  : Prop := IsSet r (fun n => Body N.E N.root V n)
def wp_X1_bodyOf (wa wy un ga lo mo li kt wk wd : Int32) (f t w c o : Nat → Int32) (nd rt ex mn : Int32) (kp dp tw wt st : Nat → Int32) (tn tr tre tm ts v : Int32) (Q : Int32 → Prop) : Prop :=
  ∃ (N_1 : NetM) (V_1 : Nat), (pr_X1_tailsOf N_1 V_1 wa wy un ga lo mo li kt wk wd f t w c o nd rt ex mn kp dp tw wt st tn tr tre tm ts v ∧ (∀ (r_1 : Int32), ps_X1_tailsOf N_1 V_1 wa wy un ga lo mo li kt wk wd f t w c o nd rt ex mn kp dp tw wt st tn tr tre tm ts v r_1 → (((¬ r_1 = 0 → (∃ (N_5 : NetM) (V_5 : Nat), (pr_X1_bits_bodyOf N_5 V_5 wa wy un ga lo mo li kt wk wd f t w c o nd rt ex mn kp dp tw wt st tn tr tre tm ts v r_1 ∧ (∀ (r_5 : Int32), ps_X1_bits_bodyOf N_5 V_5 wa wy un ga lo mo li kt wk wd f t w c o nd rt ex mn kp dp tw wt st tn tr tre tm ts v r_1 r_5 → (Q ((1 <<< (v &&& 31)) ||| r_5)))))) ∧
 (r_1 = 0 → (Q 0))))))
theorem pf_X1_bodyOf (N : NetM) (V : Nat) (wa wy un ga lo mo li kt wk wd : Int32) (f t w c o : Nat → Int32) (nd rt ex mn : Int32) (kp dp tw wt st : Nat → Int32) (tn tr tre tm ts v : Int32) (hp : pr_X1_bodyOf N V wa wy un ga lo mo li kt wk wd f t w c o nd rt ex mn kp dp tw wt st tn tr tre tm ts v) : wp_X1_bodyOf wa wy un ga lo mo li kt wk wd f t w c o nd rt ex mn kp dp tw wt st tn tr tre tm ts v (ps_X1_bodyOf N V wa wy un ga lo mo li kt wk wd f t w c o nd rt ex mn kp dp tw wt st tn tr tre tm ts v) := by
  obtain ⟨hN, hT, rfl, hV⟩ := hp
  have h16 := hN.n16
  refine ⟨N, V, ⟨hN, hT, rfl, hV⟩, fun r1 h1 => ⟨fun z => ⟨N, V, ⟨hN, hT, rfl, hV, h1⟩, fun r5 h5 => ?_⟩, fun z => ?_⟩⟩
  · have hex : ∃ u, Tail N.E N.root u V := Classical.byContradiction fun q => z ((IsSet.eq0 h1).2 (fun k _ hk => q ⟨k, hk⟩))
    refine ((IsSet.bit (k := V) (by omega)).or h5).congr (fun k hk => ⟨fun q => ⟨hex, q.elim Or.inl (fun q => Or.inr q.2)⟩, fun q => q.2.elim Or.inl (fun q => Or.inr ⟨hT.1.lt q.2.1, q⟩)⟩)
  · exact IsSet.zero.congr (fun k hk => ⟨fun q => q.elim, fun q => by
      obtain ⟨⟨u, hu⟩, -⟩ := q
      exact (IsSet.eq0 h1).1 z u (by have := hT.1.lt hu.2.R; omega) hu⟩)
def pr_X1_l_nestOf (N : NetM) (V n0 : Nat) (wa wy un ga lo mo li kt wk wd : Int32) (f t w c o : Nat → Int32) (nd rt ex mn : Int32) (kp dp tw wt st : Nat → Int32) (tn tr tre tm ts v n : Int32) : Prop := NetR N f t w c o nd rt ex mn ∧ TreR N.E N.root N.n kp dp tw tn tr tre ∧ v = nI V ∧ V < N.n ∧ n = nI n0 ∧ n0 < N.n
def ps_X1_l_nestOf (N : NetM) (V n0 : Nat) (wa wy un ga lo mo li kt wk wd : Int32) (f t w c o : Nat → Int32) (nd rt ex mn : Int32) (kp dp tw wt st : Nat → Int32) (tn tr tre tm ts v n : Int32) (r : Int32)  : Prop := IsB r (Body N.E N.root n0 V)
def wp_X1_l_nestOf (wa wy un ga lo mo li kt wk wd : Int32) (f t w c o : Nat → Int32) (nd rt ex mn : Int32) (kp dp tw wt st : Nat → Int32) (tn tr tre tm ts v n : Int32) (Q : Int32 → Prop) : Prop :=
  ∃ (N_1 : NetM) (V_1 : Nat), (pr_X1_bodyOf N_1 V_1 wa wy un ga lo mo li kt wk wd f t w c o nd rt ex mn kp dp tw wt st tn tr tre tm ts n ∧ (∀ (r_1 : Int32), ps_X1_bodyOf N_1 V_1 wa wy un ga lo mo li kt wk wd f t w c o nd rt ex mn kp dp tw wt st tn tr tre tm ts n r_1 → (∀ (r_2 : Int32), ps_X1_has r_1 v r_2 → ((r_2 = 0 ∨ r_2 = 1) ∧ (Q r_2)))))
theorem pf_X1_l_nestOf (N : NetM) (V n0 : Nat) (wa wy un ga lo mo li kt wk wd : Int32) (f t w c o : Nat → Int32) (nd rt ex mn : Int32) (kp dp tw wt st : Nat → Int32) (tn tr tre tm ts v n : Int32) (hp : pr_X1_l_nestOf N V n0 wa wy un ga lo mo li kt wk wd f t w c o nd rt ex mn kp dp tw wt st tn tr tre tm ts v n) : wp_X1_l_nestOf wa wy un ga lo mo li kt wk wd f t w c o nd rt ex mn kp dp tw wt st tn tr tre tm ts v n (ps_X1_l_nestOf N V n0 wa wy un ga lo mo li kt wk wd f t w c o nd rt ex mn kp dp tw wt st tn tr tre tm ts v n) := by
  obtain ⟨hN, hT, rfl, hV, rfl, hn⟩ := hp
  have h16 := hN.n16
  refine ⟨N, n0, ⟨hN, hT, rfl, hn⟩, fun r1 h1 r2 h2 => ?_⟩
  have h : IsB r2 (Body N.E N.root n0 V) := by
    by_cases z : r2 = 0
    · exact Or.inr ⟨z, has_z h2 h1 (by omega) z⟩
    · refine Or.inl ⟨?_, has_p h2 h1 (by omega) z⟩
      have h2 : r2 = i1 (hs r1 (nI V)) := h2
      rcases i1_or (b := hs r1 (nI V)) with q | q
      · exact absurd (h2.trans q) z
      · exact h2.trans q
  exact ⟨h.i01, h⟩
def pr_X1_bits_nestOf (N : NetM) (V : Nat) (wa wy un ga lo mo li kt wk wd : Int32) (f t w c o : Nat → Int32) (nd rt ex mn : Int32) (kp dp tw wt st : Nat → Int32) (tn tr tre tm ts v : Int32) : Prop := NetR N f t w c o nd rt ex mn ∧ TreR N.E N.root N.n kp dp tw tn tr tre ∧ v = nI V ∧ V < N.n
def ps_X1_bits_nestOf (N : NetM) (V : Nat) (wa wy un ga lo mo li kt wk wd : Int32) (f t w c o : Nat → Int32) (nd rt ex mn : Int32) (kp dp tw wt st : Nat → Int32) (tn tr tre tm ts v : Int32) (r : Int32)  : Prop := IsSet r (fun n0 => n0 < N.n ∧ (Body N.E N.root n0 V))
def wp_X1_bits_nestOf_L4 (wa wy un ga lo mo li kt wk wd : Int32) (f t w c o : Nat → Int32) (nd rt ex mn : Int32) (kp dp tw wt st : Nat → Int32) (tn tr tre tm ts v : Int32) (J41 : Int32 → Nat → Nat → Prop) (ix3_25 ix2_26 : Int32) (ikc_27 iks_28 : Nat) : Prop :=
  ∀ X4 : Int32 → Int32 → Nat → Nat → Prop, (∀ (x3_25 : Int32) (x2_26 : Int32) (kc_27 : Nat) (ks_28 : Nat), (((nd ≤ x3_25 → (J41 x2_26 kc_27 ks_28)) ∧
 (¬ (nd ≤ x3_25) → ((kc_27 + 2 ≤ 32 ∧ ks_28 + 5 ≤ 80) ∧ (∃ (N_31 : NetM) (V_31 n0_31 : Nat), (pr_X1_l_nestOf N_31 V_31 n0_31 wa wy un ga lo mo li kt wk wd f t w c o nd rt ex mn kp dp tw wt st tn tr tre tm ts v x3_25 ∧ (∀ (r_31 : Int32), ps_X1_l_nestOf N_31 V_31 n0_31 wa wy un ga lo mo li kt wk wd f t w c o nd rt ex mn kp dp tw wt st tn tr tre tm ts v x3_25 r_31 → (((r_31 = 0 → (X4 (x3_25 + 1) (x2_26 ||| 0) (kc_27 + 2) (ks_28 + 5))) ∧
 (¬ (r_31 = 0) → (X4 (x3_25 + 1) (x2_26 ||| (1 <<< (x3_25 &&& 31))) (kc_27 + 2) (ks_28 + 5)))))))))))) → X4 x3_25 x2_26 kc_27 ks_28) → X4 ix3_25 ix2_26 ikc_27 iks_28
def wp_X1_bits_nestOf (wa wy un ga lo mo li kt wk wd : Int32) (f t w c o : Nat → Int32) (nd rt ex mn : Int32) (kp dp tw wt st : Nat → Int32) (tn tr tre tm ts v : Int32) (Q : Int32 → Prop) : Prop :=
  ∀ J41 : Int32 → Nat → Nat → Prop, (∀ (x2_21 : Int32) (kc_22 : Nat) (ks_23 : Nat), (kc_22 ≤ 32 ∧ (ks_23 ≤ 80 ∧ (Q x2_21))) → J41 x2_21 kc_22 ks_23) →
wp_X1_bits_nestOf_L4 wa wy un ga lo mo li kt wk wd f t w c o nd rt ex mn kp dp tw wt st tn tr tre tm ts v J41 0 0 0 0
theorem pf_X1_bits_nestOf (N : NetM) (V : Nat) (wa wy un ga lo mo li kt wk wd : Int32) (f t w c o : Nat → Int32) (nd rt ex mn : Int32) (kp dp tw wt st : Nat → Int32) (tn tr tre tm ts v : Int32) (hp : pr_X1_bits_nestOf N V wa wy un ga lo mo li kt wk wd f t w c o nd rt ex mn kp dp tw wt st tn tr tre tm ts v) : wp_X1_bits_nestOf wa wy un ga lo mo li kt wk wd f t w c o nd rt ex mn kp dp tw wt st tn tr tre tm ts v (ps_X1_bits_nestOf N V wa wy un ga lo mo li kt wk wd f t w c o nd rt ex mn kp dp tw wt st tn tr tre tm ts v) := by
  obtain ⟨hN, hT, hcV, hlV⟩ := hp
  intro J hJ X4 hX
  have hn := hN.n16
  have e := hN.nd
  subst e
  exact up3 N.n (fun k s kc ks => IsSet s (fun n0 => n0 < k ∧ (Body N.E N.root n0 V)) ∧ kc = k * 2 ∧ ks = k * 5) (fun k s kc ks hk ⟨hI, h1, h2⟩ hK => hX _ _ _ _ ⟨fun q => absurd q (by rw [leN (by omega) (by omega)]; omega), fun _ => ⟨⟨by omega, by omega⟩, N, V, k, ⟨hN, hT, hcV, hlV, rfl, hk⟩, fun r hr => ⟨fun z => hK _ _ _ ⟨bits0 hI hr z, by omega, by omega⟩, fun z => hK _ _ _ ⟨bits1 (by omega) hI hr z, by omega, by omega⟩⟩⟩⟩) (fun s kc ks ⟨hI, h1, h2⟩ => hX _ _ _ _ ⟨fun _ => hJ _ _ _ ⟨by omega, by omega, hI⟩, fun q => absurd (Int32.le_refl _) q⟩) 0 0 0 0 (Nat.zero_le _) ⟨bitsZ, by omega, by omega⟩
def pr_X1_nestOf (N : NetM) (V : Nat) (wa wy un ga lo mo li kt wk wd : Int32) (f t w c o : Nat → Int32) (nd rt ex mn : Int32) (kp dp tw wt st : Nat → Int32) (tn tr tre tm ts v : Int32) : Prop := NetR N f t w c o nd rt ex mn ∧ TreR N.E N.root N.n kp dp tw tn tr tre ∧ v = nI V ∧ V < N.n
def ps_X1_nestOf (N : NetM) (V : Nat) (wa wy un ga lo mo li kt wk wd : Int32) (f t w c o : Nat → Int32) (nd rt ex mn : Int32) (kp dp tw wt st : Nat → Int32) (tn tr tre tm ts v : Int32) (r : Int32)  : Prop := r = nI (cnt 16 (fun h => h < N.n ∧ Body N.E N.root h V))
def wp_X1_nestOf (wa wy un ga lo mo li kt wk wd : Int32) (f t w c o : Nat → Int32) (nd rt ex mn : Int32) (kp dp tw wt st : Nat → Int32) (tn tr tre tm ts v : Int32) (Q : Int32 → Prop) : Prop :=
  ∃ (N_3 : NetM) (V_3 : Nat), (pr_X1_bits_nestOf N_3 V_3 wa wy un ga lo mo li kt wk wd f t w c o nd rt ex mn kp dp tw wt st tn tr tre tm ts v ∧ (∀ (r_3 : Int32), ps_X1_bits_nestOf N_3 V_3 wa wy un ga lo mo li kt wk wd f t w c o nd rt ex mn kp dp tw wt st tn tr tre tm ts v r_3 → (pr_J7_bitCount r_3 ∧ (∀ (r_4 : Int32), ps_J7_bitCount r_3 r_4 → (Q r_4)))))
theorem pf_X1_nestOf (N : NetM) (V : Nat) (wa wy un ga lo mo li kt wk wd : Int32) (f t w c o : Nat → Int32) (nd rt ex mn : Int32) (kp dp tw wt st : Nat → Int32) (tn tr tre tm ts v : Int32) (hp : pr_X1_nestOf N V wa wy un ga lo mo li kt wk wd f t w c o nd rt ex mn kp dp tw wt st tn tr tre tm ts v) : wp_X1_nestOf wa wy un ga lo mo li kt wk wd f t w c o nd rt ex mn kp dp tw wt st tn tr tre tm ts v (ps_X1_nestOf N V wa wy un ga lo mo li kt wk wd f t w c o nd rt ex mn kp dp tw wt st tn tr tre tm ts v) := by
  obtain ⟨hN, hT, rfl, hV⟩ := hp
  refine ⟨N, V, ⟨hN, hT, rfl, hV⟩, fun r hr => ⟨B16.of hr, fun r4 h4 => ?_⟩⟩
  have h4 : r4 = nI (pc r) := h4
  show r4 = _
  rw [h4, pc_set hr]
def pr_X1_l_leaf (N : NetM) (n0 : Nat) (wa wy un ga lo mo li kt wk wd : Int32) (f t w c o : Nat → Int32) (nd rt ex mn : Int32) (kp dp tw wt st : Nat → Int32) (tn tr tre tm ts n : Int32) : Prop := NetR N f t w c o nd rt ex mn ∧ TreR N.E N.root N.n kp dp tw tn tr tre ∧ n = nI n0 ∧ n0 < N.n
def ps_X1_l_leaf (N : NetM) (n0 : Nat) (wa wy un ga lo mo li kt wk wd : Int32) (f t w c o : Nat → Int32) (nd rt ex mn : Int32) (kp dp tw wt st : Nat → Int32) (tn tr tre tm ts n : Int32) (r : Int32)  : Prop := IsB r (Rd N.E N.root n0 ∧ ∀ z, ¬ Pd N.E N.root n0 z)
def wp_X1_l_leaf (wa wy un ga lo mo li kt wk wd : Int32) (f t w c o : Nat → Int32) (nd rt ex mn : Int32) (kp dp tw wt st : Nat → Int32) (tn tr tre tm ts n : Int32) (Q : Int32 → Prop) : Prop :=
  ∀ (r_1 : Int32), ps_X1_has tre n r_1 → (((r_1 = 0 → (Q 0)) ∧
 (¬ (r_1 = 0) → (∃ (N_3 : NetM) (V_3 : Nat), (pr_X1_keptBy N_3 V_3 wa wy un ga lo mo li kt wk wd f t w c o nd rt ex mn kp dp tw wt st tn tr tre tm ts n ∧ (∀ (r_3 : Int32), ps_X1_keptBy N_3 V_3 wa wy un ga lo mo li kt wk wd f t w c o nd rt ex mn kp dp tw wt st tn tr tre tm ts n r_3 → (((¬ r_3 = 0 → (Q 0)) ∧
 (r_3 = 0 → (Q 1))))))))))
theorem pf_X1_l_leaf (N : NetM) (n0 : Nat) (wa wy un ga lo mo li kt wk wd : Int32) (f t w c o : Nat → Int32) (nd rt ex mn : Int32) (kp dp tw wt st : Nat → Int32) (tn tr tre tm ts n : Int32) (hp : pr_X1_l_leaf N n0 wa wy un ga lo mo li kt wk wd f t w c o nd rt ex mn kp dp tw wt st tn tr tre tm ts n) : wp_X1_l_leaf wa wy un ga lo mo li kt wk wd f t w c o nd rt ex mn kp dp tw wt st tn tr tre tm ts n (ps_X1_l_leaf N n0 wa wy un ga lo mo li kt wk wd f t w c o nd rt ex mn kp dp tw wt st tn tr tre tm ts n) := by
  obtain ⟨hN, hT, rfl, hn⟩ := hp
  have h16 := hN.n16
  refine fun r1 h1 => ⟨fun z => isB0 (fun q => has_z h1 hT.2.2.2.2 (by omega) z q.1), fun z => ⟨N, n0, ⟨hN, hT, rfl, hn⟩, fun r3 h3 => ⟨fun z3 => isB0 ?_, fun z3 => isB1 ?_⟩⟩⟩
  · rintro ⟨-, q⟩
    exact z3 ((IsSet.eq0 h3).2 (fun k _ hk => q k hk))
  · exact ⟨has_p h1 hT.2.2.2.2 (by omega) z, fun k hk => (IsSet.eq0 h3).1 z3 k (by have := hT.1.lt hk.2.R; omega) hk⟩
def pr_X1_bits_leaf (N : NetM) (wa wy un ga lo mo li kt wk wd : Int32) (f t w c o : Nat → Int32) (nd rt ex mn : Int32) (kp dp tw wt st : Nat → Int32) (tn tr tre tm ts : Int32) : Prop := NetR N f t w c o nd rt ex mn ∧ TreR N.E N.root N.n kp dp tw tn tr tre
def ps_X1_bits_leaf (N : NetM) (wa wy un ga lo mo li kt wk wd : Int32) (f t w c o : Nat → Int32) (nd rt ex mn : Int32) (kp dp tw wt st : Nat → Int32) (tn tr tre tm ts : Int32) (r : Int32)  : Prop := IsSet r (fun n0 => n0 < N.n ∧ (Rd N.E N.root n0 ∧ ∀ z, ¬ Pd N.E N.root n0 z))
def wp_X1_bits_leaf_L4 (wa wy un ga lo mo li kt wk wd : Int32) (f t w c o : Nat → Int32) (nd rt ex mn : Int32) (kp dp tw wt st : Nat → Int32) (tn tr tre tm ts : Int32) (J41 : Int32 → Nat → Nat → Prop) (ix3_25 ix2_26 : Int32) (ikc_27 iks_28 : Nat) : Prop :=
  ∀ X4 : Int32 → Int32 → Nat → Nat → Prop, (∀ (x3_25 : Int32) (x2_26 : Int32) (kc_27 : Nat) (ks_28 : Nat), (((nd ≤ x3_25 → (J41 x2_26 kc_27 ks_28)) ∧
 (¬ (nd ≤ x3_25) → ((kc_27 + 1 ≤ 16 ∧ ks_28 + 2 ≤ 32) ∧ (∃ (N_31 : NetM) (n0_31 : Nat), (pr_X1_l_leaf N_31 n0_31 wa wy un ga lo mo li kt wk wd f t w c o nd rt ex mn kp dp tw wt st tn tr tre tm ts x3_25 ∧ (∀ (r_31 : Int32), ps_X1_l_leaf N_31 n0_31 wa wy un ga lo mo li kt wk wd f t w c o nd rt ex mn kp dp tw wt st tn tr tre tm ts x3_25 r_31 → (((r_31 = 0 → (X4 (x3_25 + 1) (x2_26 ||| 0) (kc_27 + 1) (ks_28 + 2))) ∧
 (¬ (r_31 = 0) → (X4 (x3_25 + 1) (x2_26 ||| (1 <<< (x3_25 &&& 31))) (kc_27 + 1) (ks_28 + 2)))))))))))) → X4 x3_25 x2_26 kc_27 ks_28) → X4 ix3_25 ix2_26 ikc_27 iks_28
def wp_X1_bits_leaf (wa wy un ga lo mo li kt wk wd : Int32) (f t w c o : Nat → Int32) (nd rt ex mn : Int32) (kp dp tw wt st : Nat → Int32) (tn tr tre tm ts : Int32) (Q : Int32 → Prop) : Prop :=
  ∀ J41 : Int32 → Nat → Nat → Prop, (∀ (x2_21 : Int32) (kc_22 : Nat) (ks_23 : Nat), (kc_22 ≤ 16 ∧ (ks_23 ≤ 32 ∧ (Q x2_21))) → J41 x2_21 kc_22 ks_23) →
wp_X1_bits_leaf_L4 wa wy un ga lo mo li kt wk wd f t w c o nd rt ex mn kp dp tw wt st tn tr tre tm ts J41 0 0 0 0
theorem pf_X1_bits_leaf (N : NetM) (wa wy un ga lo mo li kt wk wd : Int32) (f t w c o : Nat → Int32) (nd rt ex mn : Int32) (kp dp tw wt st : Nat → Int32) (tn tr tre tm ts : Int32) (hp : pr_X1_bits_leaf N wa wy un ga lo mo li kt wk wd f t w c o nd rt ex mn kp dp tw wt st tn tr tre tm ts) : wp_X1_bits_leaf wa wy un ga lo mo li kt wk wd f t w c o nd rt ex mn kp dp tw wt st tn tr tre tm ts (ps_X1_bits_leaf N wa wy un ga lo mo li kt wk wd f t w c o nd rt ex mn kp dp tw wt st tn tr tre tm ts) := by
  obtain ⟨hN, hT⟩ := hp
  intro J hJ X4 hX
  have hn := hN.n16
  have e := hN.nd
  subst e
  exact up3 N.n (fun k s kc ks => IsSet s (fun n0 => n0 < k ∧ (Rd N.E N.root n0 ∧ ∀ z, ¬ Pd N.E N.root n0 z)) ∧ kc = k * 1 ∧ ks = k * 2) (fun k s kc ks hk ⟨hI, h1, h2⟩ hK => hX _ _ _ _ ⟨fun q => absurd q (by rw [leN (by omega) (by omega)]; omega), fun _ => ⟨⟨by omega, by omega⟩, N, k, ⟨hN, hT, rfl, hk⟩, fun r hr => ⟨fun z => hK _ _ _ ⟨bits0 hI hr z, by omega, by omega⟩, fun z => hK _ _ _ ⟨bits1 (by omega) hI hr z, by omega, by omega⟩⟩⟩⟩) (fun s kc ks ⟨hI, h1, h2⟩ => hX _ _ _ _ ⟨fun _ => hJ _ _ _ ⟨by omega, by omega, hI⟩, fun q => absurd (Int32.le_refl _) q⟩) 0 0 0 0 (Nat.zero_le _) ⟨bitsZ, by omega, by omega⟩
def pr_X1_l_ringOf (N : NetM) (V n0 : Nat) (wa wy un ga lo mo li kt wk wd : Int32) (f t w c o : Nat → Int32) (nd rt ex mn : Int32) (kp dp tw wt st : Nat → Int32) (tn tr tre tm ts ta v n : Int32) : Prop := NetR N f t w c o nd rt ex mn ∧ TreR N.E N.root N.n kp dp tw tn tr tre ∧ v = nI V ∧ V < N.n ∧ n = nI n0 ∧ n0 < N.n ∧ IsSet ta (Rs N.E (fun z => z = V) (fun _ => False))
def ps_X1_l_ringOf (N : NetM) (V n0 : Nat) (wa wy un ga lo mo li kt wk wd : Int32) (f t w c o : Nat → Int32) (nd rt ex mn : Int32) (kp dp tw wt st : Nat → Int32) (tn tr tre tm ts ta v n : Int32) (r : Int32)  : Prop := IsB r (Rs N.E (fun z => z = V) (fun _ => False) n0 ∧ Rs N.E (fun z => z = n0) (fun _ => False) V)
def wp_X1_l_ringOf (wa wy un ga lo mo li kt wk wd : Int32) (f t w c o : Nat → Int32) (nd rt ex mn : Int32) (kp dp tw wt st : Nat → Int32) (tn tr tre tm ts ta v n : Int32) (Q : Int32 → Prop) : Prop :=
  ∀ (r_1 : Int32), ps_X1_has ta n r_1 → (((r_1 = 0 → (Q 0)) ∧
 (¬ (r_1 = 0) → (pr_X8_reach_N f t w c o nd rt ex mn n 0 ∧ (∀ (r_3 : Int32), ps_X8_reach_N f t w c o nd rt ex mn n 0 r_3 → (∀ (r_4 : Int32), ps_X1_has r_3 v r_4 → (((r_4 = 0 → (Q 0)) ∧
 (¬ (r_4 = 0) → (Q 1))))))))))
theorem pf_X1_l_ringOf (N : NetM) (V n0 : Nat) (wa wy un ga lo mo li kt wk wd : Int32) (f t w c o : Nat → Int32) (nd rt ex mn : Int32) (kp dp tw wt st : Nat → Int32) (tn tr tre tm ts ta v n : Int32) (hp : pr_X1_l_ringOf N V n0 wa wy un ga lo mo li kt wk wd f t w c o nd rt ex mn kp dp tw wt st tn tr tre tm ts ta v n) : wp_X1_l_ringOf wa wy un ga lo mo li kt wk wd f t w c o nd rt ex mn kp dp tw wt st tn tr tre tm ts ta v n (ps_X1_l_ringOf N V n0 wa wy un ga lo mo li kt wk wd f t w c o nd rt ex mn kp dp tw wt st tn tr tre tm ts ta v n) := by
  obtain ⟨hN, hT, rfl, hV, rfl, hn, hta⟩ := hp
  have h16 := hN.n16
  refine fun r1 h1 => ⟨fun z => isB0 (fun q => has_z h1 hta (by omega) z q.1), fun z => ⟨hN.rchP hn (by rw [b_0]; simp), fun r3 h3 r4 h4 => ?_⟩⟩
  have hS := hN.rch hn bt_zero h3
  exact ⟨fun z4 => isB0 (fun q => has_z h4 hS (by omega) z4 q.2), fun z4 => isB1 ⟨has_p h1 hta (by omega) z, has_p h4 hS (by omega) z4⟩⟩
def pr_X1_bits_ringOf (N : NetM) (V : Nat) (wa wy un ga lo mo li kt wk wd : Int32) (f t w c o : Nat → Int32) (nd rt ex mn : Int32) (kp dp tw wt st : Nat → Int32) (tn tr tre tm ts ta v : Int32) : Prop := NetR N f t w c o nd rt ex mn ∧ TreR N.E N.root N.n kp dp tw tn tr tre ∧ v = nI V ∧ V < N.n ∧ IsSet ta (Rs N.E (fun z => z = V) (fun _ => False))
def ps_X1_bits_ringOf (N : NetM) (V : Nat) (wa wy un ga lo mo li kt wk wd : Int32) (f t w c o : Nat → Int32) (nd rt ex mn : Int32) (kp dp tw wt st : Nat → Int32) (tn tr tre tm ts ta v : Int32) (r : Int32)  : Prop := IsSet r (fun n0 => n0 < N.n ∧ (Rs N.E (fun z => z = V) (fun _ => False) n0 ∧ Rs N.E (fun z => z = n0) (fun _ => False) V))
def wp_X1_bits_ringOf_L4 (wa wy un ga lo mo li kt wk wd : Int32) (f t w c o : Nat → Int32) (nd rt ex mn : Int32) (kp dp tw wt st : Nat → Int32) (tn tr tre tm ts ta v : Int32) (J41 : Int32 → Prop) (ix3_19 ix2_20 : Int32) : Prop :=
  ∀ X4 : Int32 → Int32 → Prop, (∀ (x3_19 : Int32) (x2_20 : Int32), (((nd ≤ x3_19 → (J41 x2_20)) ∧
 (¬ (nd ≤ x3_19) → (∃ (N_23 : NetM) (V_23 n0_23 : Nat), (pr_X1_l_ringOf N_23 V_23 n0_23 wa wy un ga lo mo li kt wk wd f t w c o nd rt ex mn kp dp tw wt st tn tr tre tm ts ta v x3_19 ∧ (∀ (r_23 : Int32), ps_X1_l_ringOf N_23 V_23 n0_23 wa wy un ga lo mo li kt wk wd f t w c o nd rt ex mn kp dp tw wt st tn tr tre tm ts ta v x3_19 r_23 → (((r_23 = 0 → (X4 (x3_19 + 1) (x2_20 ||| 0))) ∧
 (¬ (r_23 = 0) → (X4 (x3_19 + 1) (x2_20 ||| (1 <<< (x3_19 &&& 31))))))))))))) → X4 x3_19 x2_20) → X4 ix3_19 ix2_20
def wp_X1_bits_ringOf (wa wy un ga lo mo li kt wk wd : Int32) (f t w c o : Nat → Int32) (nd rt ex mn : Int32) (kp dp tw wt st : Nat → Int32) (tn tr tre tm ts ta v : Int32) (Q : Int32 → Prop) : Prop :=
  ∀ J41 : Int32 → Prop, (∀ (x2_17 : Int32), (Q x2_17) → J41 x2_17) →
wp_X1_bits_ringOf_L4 wa wy un ga lo mo li kt wk wd f t w c o nd rt ex mn kp dp tw wt st tn tr tre tm ts ta v J41 0 0
theorem pf_X1_bits_ringOf (N : NetM) (V : Nat) (wa wy un ga lo mo li kt wk wd : Int32) (f t w c o : Nat → Int32) (nd rt ex mn : Int32) (kp dp tw wt st : Nat → Int32) (tn tr tre tm ts ta v : Int32) (hp : pr_X1_bits_ringOf N V wa wy un ga lo mo li kt wk wd f t w c o nd rt ex mn kp dp tw wt st tn tr tre tm ts ta v) : wp_X1_bits_ringOf wa wy un ga lo mo li kt wk wd f t w c o nd rt ex mn kp dp tw wt st tn tr tre tm ts ta v (ps_X1_bits_ringOf N V wa wy un ga lo mo li kt wk wd f t w c o nd rt ex mn kp dp tw wt st tn tr tre tm ts ta v) := by
  obtain ⟨hN, hT, hcV, hlV, hx0⟩ := hp
  intro J hJ X4 hX
  have hn := hN.n16
  have e := hN.nd
  subst e
  exact up1 N.n (fun k s => IsSet s (fun n0 => n0 < k ∧ (Rs N.E (fun z => z = V) (fun _ => False) n0 ∧ Rs N.E (fun z => z = n0) (fun _ => False) V))) (fun k s hk hI hK => hX _ _ ⟨fun q => absurd q (by rw [leN (by omega) (by omega)]; omega), fun _ => ⟨N, V, k, ⟨hN, hT, hcV, hlV, rfl, hk, hx0⟩, fun r hr => ⟨fun z => hK _ (bits0 hI hr z), fun z => hK _ (bits1 (by omega) hI hr z)⟩⟩⟩) (fun s hI => hX _ _ ⟨fun _ => hJ _ hI, fun q => absurd (Int32.le_refl _) q⟩) 0 0 (Nat.zero_le _) bitsZ
def pr_X1_ringOf (N : NetM) (V : Nat) (wa wy un ga lo mo li kt wk wd : Int32) (f t w c o : Nat → Int32) (nd rt ex mn : Int32) (kp dp tw wt st : Nat → Int32) (tn tr tre tm ts v : Int32) : Prop := NetR N f t w c o nd rt ex mn ∧ TreR N.E N.root N.n kp dp tw tn tr tre ∧ v = nI V ∧ V < N.n
def ps_X1_ringOf (N : NetM) (V : Nat) (wa wy un ga lo mo li kt wk wd : Int32) (f t w c o : Nat → Int32) (nd rt ex mn : Int32) (kp dp tw wt st : Nat → Int32) (tn tr tre tm ts v : Int32) (r : Int32)  : Prop := IsSet r (fun n => Rs N.E (fun z => z = V) (fun _ => False) n ∧ Rs N.E (fun z => z = n) (fun _ => False) V)
def wp_X1_ringOf (wa wy un ga lo mo li kt wk wd : Int32) (f t w c o : Nat → Int32) (nd rt ex mn : Int32) (kp dp tw wt st : Nat → Int32) (tn tr tre tm ts v : Int32) (Q : Int32 → Prop) : Prop :=
  pr_X8_reach_N f t w c o nd rt ex mn v 0 ∧ (∀ (r_1 : Int32), ps_X8_reach_N f t w c o nd rt ex mn v 0 r_1 → (∃ (N_4 : NetM) (V_4 : Nat), (pr_X1_bits_ringOf N_4 V_4 wa wy un ga lo mo li kt wk wd f t w c o nd rt ex mn kp dp tw wt st tn tr tre tm ts r_1 v ∧ (∀ (r_4 : Int32), ps_X1_bits_ringOf N_4 V_4 wa wy un ga lo mo li kt wk wd f t w c o nd rt ex mn kp dp tw wt st tn tr tre tm ts r_1 v r_4 → (Q r_4)))))
theorem pf_X1_ringOf (N : NetM) (V : Nat) (wa wy un ga lo mo li kt wk wd : Int32) (f t w c o : Nat → Int32) (nd rt ex mn : Int32) (kp dp tw wt st : Nat → Int32) (tn tr tre tm ts v : Int32) (hp : pr_X1_ringOf N V wa wy un ga lo mo li kt wk wd f t w c o nd rt ex mn kp dp tw wt st tn tr tre tm ts v) : wp_X1_ringOf wa wy un ga lo mo li kt wk wd f t w c o nd rt ex mn kp dp tw wt st tn tr tre tm ts v (ps_X1_ringOf N V wa wy un ga lo mo li kt wk wd f t w c o nd rt ex mn kp dp tw wt st tn tr tre tm ts v) := by
  obtain ⟨hN, hT, rfl, hV⟩ := hp
  have h16 := hN.n16
  refine ⟨hN.rchP hV (by rw [b_0]; simp), fun r1 h1 => ⟨N, V, ⟨hN, hT, rfl, hV, hN.rch hV bt_zero h1⟩, fun r4 h4 => ?_⟩⟩
  exact IsSet.congr h4 (fun k hk => ⟨fun z => z.2, fun z => ⟨Rs.ind (X := fun x => x < N.n) (fun a e _ => by have e : a = V := e; omega) (fun _ b _ _ e _ => (NetM.E_lt hN.1 e).2) z.1, z⟩⟩)
def pr_X1_l_via (N : NetM) (V U n0 : Nat) (wa wy un ga lo mo li kt wk wd : Int32) (f t w c o : Nat → Int32) (nd rt ex mn : Int32) (kp dp tw wt st : Nat → Int32) (tn tr tre tm ts v u n : Int32) : Prop := NetR N f t w c o nd rt ex mn ∧ TreR N.E N.root N.n kp dp tw tn tr tre ∧ v = nI V ∧ V < N.n ∧ u = nI U ∧ U < N.n ∧ n = nI n0 ∧ n0 < N.n
def ps_X1_l_via (N : NetM) (V U n0 : Nat) (wa wy un ga lo mo li kt wk wd : Int32) (f t w c o : Nat → Int32) (nd rt ex mn : Int32) (kp dp tw wt st : Nat → Int32) (tn tr tre tm ts v u n : Int32) (r : Int32)  : Prop := IsB r (n0 ≠ V ∧ n0 ≠ U ∧ ¬ Rs N.E (fun z => z = V) (fun z => z = n0) U)
def wp_X1_l_via (wa wy un ga lo mo li kt wk wd : Int32) (f t w c o : Nat → Int32) (nd rt ex mn : Int32) (kp dp tw wt st : Nat → Int32) (tn tr tre tm ts v u n : Int32) (Q : Int32 → Prop) : Prop :=
  ((n = v → (Q 0)) ∧
 (¬ (n = v) → ((n = u → (Q 0)) ∧
 (¬ (n = u) → (pr_X8_reach_N f t w c o nd rt ex mn v (1 <<< (n &&& 31)) ∧ (∀ (r_3 : Int32), ps_X8_reach_N f t w c o nd rt ex mn v (1 <<< (n &&& 31)) r_3 → (∀ (r_4 : Int32), ps_X1_has r_3 u r_4 → (((¬ r_4 = 0 → (Q 0)) ∧
 (r_4 = 0 → (Q 1)))))))))))
theorem pf_X1_l_via (N : NetM) (V U n0 : Nat) (wa wy un ga lo mo li kt wk wd : Int32) (f t w c o : Nat → Int32) (nd rt ex mn : Int32) (kp dp tw wt st : Nat → Int32) (tn tr tre tm ts v u n : Int32) (hp : pr_X1_l_via N V U n0 wa wy un ga lo mo li kt wk wd f t w c o nd rt ex mn kp dp tw wt st tn tr tre tm ts v u n) : wp_X1_l_via wa wy un ga lo mo li kt wk wd f t w c o nd rt ex mn kp dp tw wt st tn tr tre tm ts v u n (ps_X1_l_via N V U n0 wa wy un ga lo mo li kt wk wd f t w c o nd rt ex mn kp dp tw wt st tn tr tre tm ts v u n) := by
  obtain ⟨hN, hT, rfl, hV, rfl, hU, rfl, hn⟩ := hp
  have h16 := hN.n16
  refine ⟨fun z => isB0 (fun q => q.1 (by rwa [eqN (by omega) (by omega)] at z)), fun z => ⟨fun z2 => isB0 (fun q => q.2.1 (by rwa [eqN (by omega) (by omega)] at z2)), fun z2 => ⟨hN.rchP hV (by rw [bt_one (by omega)]; intro q; exact z (by rw [q])), fun r3 h3 r4 h4 => ?_⟩⟩⟩
  have hS := hN.rch hV (bt_one (by omega)) h3
  exact ⟨fun z4 => isB0 (fun q => q.2.2 (has_p h4 hS (by omega) z4)), fun z4 => isB1 ⟨fun q => z (by rw [q]), fun q => z2 (by rw [q]), has_z h4 hS (by omega) z4⟩⟩
def pr_X1_bits_via (N : NetM) (V U : Nat) (wa wy un ga lo mo li kt wk wd : Int32) (f t w c o : Nat → Int32) (nd rt ex mn : Int32) (kp dp tw wt st : Nat → Int32) (tn tr tre tm ts v u : Int32) : Prop := NetR N f t w c o nd rt ex mn ∧ TreR N.E N.root N.n kp dp tw tn tr tre ∧ v = nI V ∧ V < N.n ∧ u = nI U ∧ U < N.n
def ps_X1_bits_via (N : NetM) (V U : Nat) (wa wy un ga lo mo li kt wk wd : Int32) (f t w c o : Nat → Int32) (nd rt ex mn : Int32) (kp dp tw wt st : Nat → Int32) (tn tr tre tm ts v u : Int32) (r : Int32)  : Prop := IsSet r (fun n0 => n0 < N.n ∧ (n0 ≠ V ∧ n0 ≠ U ∧ ¬ Rs N.E (fun z => z = V) (fun z => z = n0) U))
def wp_X1_bits_via_L4 (wa wy un ga lo mo li kt wk wd : Int32) (f t w c o : Nat → Int32) (nd rt ex mn : Int32) (kp dp tw wt st : Nat → Int32) (tn tr tre tm ts v u : Int32) (J41 : Int32 → Prop) (ix3_19 ix2_20 : Int32) : Prop :=
  ∀ X4 : Int32 → Int32 → Prop, (∀ (x3_19 : Int32) (x2_20 : Int32), (((nd ≤ x3_19 → (J41 x2_20)) ∧
 (¬ (nd ≤ x3_19) → (∃ (N_23 : NetM) (V_23 U_23 n0_23 : Nat), (pr_X1_l_via N_23 V_23 U_23 n0_23 wa wy un ga lo mo li kt wk wd f t w c o nd rt ex mn kp dp tw wt st tn tr tre tm ts v u x3_19 ∧ (∀ (r_23 : Int32), ps_X1_l_via N_23 V_23 U_23 n0_23 wa wy un ga lo mo li kt wk wd f t w c o nd rt ex mn kp dp tw wt st tn tr tre tm ts v u x3_19 r_23 → (((r_23 = 0 → (X4 (x3_19 + 1) (x2_20 ||| 0))) ∧
 (¬ (r_23 = 0) → (X4 (x3_19 + 1) (x2_20 ||| (1 <<< (x3_19 &&& 31))))))))))))) → X4 x3_19 x2_20) → X4 ix3_19 ix2_20
def wp_X1_bits_via (wa wy un ga lo mo li kt wk wd : Int32) (f t w c o : Nat → Int32) (nd rt ex mn : Int32) (kp dp tw wt st : Nat → Int32) (tn tr tre tm ts v u : Int32) (Q : Int32 → Prop) : Prop :=
  ∀ J41 : Int32 → Prop, (∀ (x2_17 : Int32), (Q x2_17) → J41 x2_17) →
wp_X1_bits_via_L4 wa wy un ga lo mo li kt wk wd f t w c o nd rt ex mn kp dp tw wt st tn tr tre tm ts v u J41 0 0
theorem pf_X1_bits_via (N : NetM) (V U : Nat) (wa wy un ga lo mo li kt wk wd : Int32) (f t w c o : Nat → Int32) (nd rt ex mn : Int32) (kp dp tw wt st : Nat → Int32) (tn tr tre tm ts v u : Int32) (hp : pr_X1_bits_via N V U wa wy un ga lo mo li kt wk wd f t w c o nd rt ex mn kp dp tw wt st tn tr tre tm ts v u) : wp_X1_bits_via wa wy un ga lo mo li kt wk wd f t w c o nd rt ex mn kp dp tw wt st tn tr tre tm ts v u (ps_X1_bits_via N V U wa wy un ga lo mo li kt wk wd f t w c o nd rt ex mn kp dp tw wt st tn tr tre tm ts v u) := by
  obtain ⟨hN, hT, hcV, hlV, hcU, hlU⟩ := hp
  intro J hJ X4 hX
  have hn := hN.n16
  have e := hN.nd
  subst e
  exact up1 N.n (fun k s => IsSet s (fun n0 => n0 < k ∧ (n0 ≠ V ∧ n0 ≠ U ∧ ¬ Rs N.E (fun z => z = V) (fun z => z = n0) U))) (fun k s hk hI hK => hX _ _ ⟨fun q => absurd q (by rw [leN (by omega) (by omega)]; omega), fun _ => ⟨N, V, U, k, ⟨hN, hT, hcV, hlV, hcU, hlU, rfl, hk⟩, fun r hr => ⟨fun z => hK _ (bits0 hI hr z), fun z => hK _ (bits1 (by omega) hI hr z)⟩⟩⟩) (fun s hI => hX _ _ ⟨fun _ => hJ _ hI, fun q => absurd (Int32.le_refl _) q⟩) 0 0 (Nat.zero_le _) bitsZ
def pr_X1_l_isSound (N : NetM) (L : Nat → Prop) (n0 : Nat) (wa wy un ga lo mo li kt wk wd : Int32) (f t w c o : Nat → Int32) (nd rt ex mn : Int32) (kp dp tw wt st : Nat → Int32) (tn tr tre tm ts se n : Int32) : Prop := NetR N f t w c o nd rt ex mn ∧ TreR N.E N.root N.n kp dp tw tn tr tre ∧ n = nI n0 ∧ n0 < N.n ∧ IsSet se L
def ps_X1_l_isSound (N : NetM) (L : Nat → Prop) (n0 : Nat) (wa wy un ga lo mo li kt wk wd : Int32) (f t w c o : Nat → Int32) (nd rt ex mn : Int32) (kp dp tw wt st : Nat → Int32) (tn tr tre tm ts se n : Int32) (r : Int32)  : Prop := IsB r (L n0 ∧ ∃ b, N.E n0 b ∧ L b ∧ ¬ Dm N.E N.root b n0)
def wp_X1_l_isSound (wa wy un ga lo mo li kt wk wd : Int32) (f t w c o : Nat → Int32) (nd rt ex mn : Int32) (kp dp tw wt st : Nat → Int32) (tn tr tre tm ts se n : Int32) (Q : Int32 → Prop) : Prop :=
  ∀ (r_1 : Int32), ps_X1_has se n r_1 → (((r_1 = 0 → (Q 0)) ∧
 (¬ (r_1 = 0) → (vp_in n 16 ∧ (∃ (N_4 : NetM) (V_4 : Nat), (pr_X1_backFrom N_4 V_4 wa wy un ga lo mo li kt wk wd f t w c o nd rt ex mn kp dp tw wt st tn tr tre tm ts n ∧ (∀ (r_4 : Int32), ps_X1_backFrom N_4 V_4 wa wy un ga lo mo li kt wk wd f t w c o nd rt ex mn kp dp tw wt st tn tr tre tm ts n r_4 → ((((((w n.toNatClampNeg) &&& se) &&& (r_4 ^^^ (-1))) = 0 → (Q 0)) ∧
 (¬ ((((w n.toNatClampNeg) &&& se) &&& (r_4 ^^^ (-1))) = 0) → (Q 1)))))))))))
theorem pf_X1_l_isSound (N : NetM) (L : Nat → Prop) (n0 : Nat) (wa wy un ga lo mo li kt wk wd : Int32) (f t w c o : Nat → Int32) (nd rt ex mn : Int32) (kp dp tw wt st : Nat → Int32) (tn tr tre tm ts se n : Int32) (hp : pr_X1_l_isSound N L n0 wa wy un ga lo mo li kt wk wd f t w c o nd rt ex mn kp dp tw wt st tn tr tre tm ts se n) : wp_X1_l_isSound wa wy un ga lo mo li kt wk wd f t w c o nd rt ex mn kp dp tw wt st tn tr tre tm ts se n (ps_X1_l_isSound N L n0 wa wy un ga lo mo li kt wk wd f t w c o nd rt ex mn kp dp tw wt st tn tr tre tm ts se n) := by
  obtain ⟨hN, hT, rfl, hn, hL⟩ := hp
  have h16 := hN.n16
  refine fun r1 h1 => ⟨fun z => isB0 (fun q => has_z h1 hL (by omega) z q.1), fun z => ⟨hN.in16N hn, N, n0, ⟨hN, hT, rfl, hn⟩, fun r4 h4 => ?_⟩⟩
  rw [clN (by omega)]
  have hA := ((hN.rows (a := n0) (by omega)).and hL).andNot h4
  refine ⟨fun z3 => isB0 ?_, fun z3 => isB1 ?_⟩
  · rintro ⟨-, b, e, hb, hd⟩
    exact hA.eq0.1 z3 b (by have := (NetM.E_lt hN.1 e).2; omega) ⟨⟨e, hb⟩, hd⟩
  · refine ⟨has_p h1 hL (by omega) z, Classical.byContradiction fun q => z3 (hA.eq0.2 (fun k _ hk => q ⟨k, hk.1.1, hk.1.2, hk.2⟩))⟩
def pr_X1_bits_isSound (N : NetM) (L : Nat → Prop) (wa wy un ga lo mo li kt wk wd : Int32) (f t w c o : Nat → Int32) (nd rt ex mn : Int32) (kp dp tw wt st : Nat → Int32) (tn tr tre tm ts se : Int32) : Prop := NetR N f t w c o nd rt ex mn ∧ TreR N.E N.root N.n kp dp tw tn tr tre ∧ IsSet se L
def ps_X1_bits_isSound (N : NetM) (L : Nat → Prop) (wa wy un ga lo mo li kt wk wd : Int32) (f t w c o : Nat → Int32) (nd rt ex mn : Int32) (kp dp tw wt st : Nat → Int32) (tn tr tre tm ts se : Int32) (r : Int32)  : Prop := IsSet r (fun n0 => n0 < N.n ∧ (L n0 ∧ ∃ b, N.E n0 b ∧ L b ∧ ¬ Dm N.E N.root b n0))
def wp_X1_bits_isSound_L4 (wa wy un ga lo mo li kt wk wd : Int32) (f t w c o : Nat → Int32) (nd rt ex mn : Int32) (kp dp tw wt st : Nat → Int32) (tn tr tre tm ts se : Int32) (J41 : Int32 → Nat → Nat → Prop) (ix3_25 ix2_26 : Int32) (ikc_27 iks_28 : Nat) : Prop :=
  ∀ X4 : Int32 → Int32 → Nat → Nat → Prop, (∀ (x3_25 : Int32) (x2_26 : Int32) (kc_27 : Nat) (ks_28 : Nat), (((nd ≤ x3_25 → (J41 x2_26 kc_27 ks_28)) ∧
 (¬ (nd ≤ x3_25) → ((kc_27 + 1 ≤ 16 ∧ ks_28 + 2 ≤ 32) ∧ (∃ (N_31 : NetM) (L_31 : Nat → Prop) (n0_31 : Nat), (pr_X1_l_isSound N_31 L_31 n0_31 wa wy un ga lo mo li kt wk wd f t w c o nd rt ex mn kp dp tw wt st tn tr tre tm ts se x3_25 ∧ (∀ (r_31 : Int32), ps_X1_l_isSound N_31 L_31 n0_31 wa wy un ga lo mo li kt wk wd f t w c o nd rt ex mn kp dp tw wt st tn tr tre tm ts se x3_25 r_31 → (((r_31 = 0 → (X4 (x3_25 + 1) (x2_26 ||| 0) (kc_27 + 1) (ks_28 + 2))) ∧
 (¬ (r_31 = 0) → (X4 (x3_25 + 1) (x2_26 ||| (1 <<< (x3_25 &&& 31))) (kc_27 + 1) (ks_28 + 2)))))))))))) → X4 x3_25 x2_26 kc_27 ks_28) → X4 ix3_25 ix2_26 ikc_27 iks_28
def wp_X1_bits_isSound (wa wy un ga lo mo li kt wk wd : Int32) (f t w c o : Nat → Int32) (nd rt ex mn : Int32) (kp dp tw wt st : Nat → Int32) (tn tr tre tm ts se : Int32) (Q : Int32 → Prop) : Prop :=
  ∀ J41 : Int32 → Nat → Nat → Prop, (∀ (x2_21 : Int32) (kc_22 : Nat) (ks_23 : Nat), (kc_22 ≤ 16 ∧ (ks_23 ≤ 32 ∧ (Q x2_21))) → J41 x2_21 kc_22 ks_23) →
wp_X1_bits_isSound_L4 wa wy un ga lo mo li kt wk wd f t w c o nd rt ex mn kp dp tw wt st tn tr tre tm ts se J41 0 0 0 0
theorem pf_X1_bits_isSound (N : NetM) (L : Nat → Prop) (wa wy un ga lo mo li kt wk wd : Int32) (f t w c o : Nat → Int32) (nd rt ex mn : Int32) (kp dp tw wt st : Nat → Int32) (tn tr tre tm ts se : Int32) (hp : pr_X1_bits_isSound N L wa wy un ga lo mo li kt wk wd f t w c o nd rt ex mn kp dp tw wt st tn tr tre tm ts se) : wp_X1_bits_isSound wa wy un ga lo mo li kt wk wd f t w c o nd rt ex mn kp dp tw wt st tn tr tre tm ts se (ps_X1_bits_isSound N L wa wy un ga lo mo li kt wk wd f t w c o nd rt ex mn kp dp tw wt st tn tr tre tm ts se) := by
  obtain ⟨hN, hT, hx0⟩ := hp
  intro J hJ X4 hX
  have hn := hN.n16
  have e := hN.nd
  subst e
  exact up3 N.n (fun k s kc ks => IsSet s (fun n0 => n0 < k ∧ (L n0 ∧ ∃ b, N.E n0 b ∧ L b ∧ ¬ Dm N.E N.root b n0)) ∧ kc = k * 1 ∧ ks = k * 2) (fun k s kc ks hk ⟨hI, h1, h2⟩ hK => hX _ _ _ _ ⟨fun q => absurd q (by rw [leN (by omega) (by omega)]; omega), fun _ => ⟨⟨by omega, by omega⟩, N, L, k, ⟨hN, hT, rfl, hk, hx0⟩, fun r hr => ⟨fun z => hK _ _ _ ⟨bits0 hI hr z, by omega, by omega⟩, fun z => hK _ _ _ ⟨bits1 (by omega) hI hr z, by omega, by omega⟩⟩⟩⟩) (fun s kc ks ⟨hI, h1, h2⟩ => hX _ _ _ _ ⟨fun _ => hJ _ _ _ ⟨by omega, by omega, hI⟩, fun q => absurd (Int32.le_refl _) q⟩) 0 0 0 0 (Nat.zero_le _) ⟨bitsZ, by omega, by omega⟩
def pr_X1_edgeOf (N : NetM) (V : Nat) (wa wy un ga lo mo li kt wk wd : Int32) (f t w c o : Nat → Int32) (nd rt ex mn : Int32) (kp dp tw wt st : Nat → Int32) (tn tr tre tm ts v : Int32) : Prop := NetR N f t w c o nd rt ex mn ∧ TreR N.E N.root N.n kp dp tw tn tr tre ∧ v = nI V ∧ V < N.n
def ps_X1_edgeOf (N : NetM) (V : Nat) (wa wy un ga lo mo li kt wk wd : Int32) (f t w c o : Nat → Int32) (nd rt ex mn : Int32) (kp dp tw wt st : Nat → Int32) (tn tr tre tm ts v : Int32) (r : Int32)  : Prop := IsSet r (fun b => Rd N.E N.root V ∧ ∃ n, Dm N.E N.root V n ∧ N.E n b ∧ ¬ Pd N.E N.root V b)
def wp_X1_edgeOf_L31 (w : Nat → Int32) (nd v r_3 : Int32) (J75 : Int32 → Prop) (ix4_25 ix3_26 : Int32) : Prop :=
  ∀ X31 : Int32 → Int32 → Prop, (∀ (x4_25 : Int32) (x3_26 : Int32), (((nd ≤ x4_25 → (J75 x3_26)) ∧
 (¬ (nd ≤ x4_25) → (∀ (r_29 : Int32), ps_X1_has (r_3 ||| (1 <<< (v &&& 31))) x4_25 r_29 → (((r_29 = 0 → (X31 (x4_25 + 1) (x3_26 ||| 0))) ∧
 (¬ (r_29 = 0) → (vp_in x4_25 16 ∧ (X31 (x4_25 + 1) (x3_26 ||| (w x4_25.toNatClampNeg))))))))))) → X31 x4_25 x3_26) → X31 ix4_25 ix3_26
def wp_X1_edgeOf (wa wy un ga lo mo li kt wk wd : Int32) (f t w c o : Nat → Int32) (nd rt ex mn : Int32) (kp dp tw wt st : Nat → Int32) (tn tr tre tm ts v : Int32) (Q : Int32 → Prop) : Prop :=
  ∀ (r_1 : Int32), ps_X1_has tre v r_1 → (((¬ r_1 = 0 → (∃ (N_3 : NetM) (V_3 : Nat), (pr_X1_keptBy N_3 V_3 wa wy un ga lo mo li kt wk wd f t w c o nd rt ex mn kp dp tw wt st tn tr tre tm ts v ∧ (∀ (r_3 : Int32), ps_X1_keptBy N_3 V_3 wa wy un ga lo mo li kt wk wd f t w c o nd rt ex mn kp dp tw wt st tn tr tre tm ts v r_3 → (∀ J75 : Int32 → Prop, (∀ (x3_22 : Int32), (∃ (N_23 : NetM) (V_23 : Nat), (pr_X1_keptBy N_23 V_23 wa wy un ga lo mo li kt wk wd f t w c o nd rt ex mn kp dp tw wt st tn tr tre tm ts v ∧ (∀ (r_23 : Int32), ps_X1_keptBy N_23 V_23 wa wy un ga lo mo li kt wk wd f t w c o nd rt ex mn kp dp tw wt st tn tr tre tm ts v r_23 → (Q (x3_22 &&& (r_23 ^^^ (-1))))))) → J75 x3_22) →
wp_X1_edgeOf_L31 w nd v r_3 J75 0 0))))) ∧
 (r_1 = 0 → (Q 0))))
theorem pf_X1_edgeOf (N : NetM) (V : Nat) (wa wy un ga lo mo li kt wk wd : Int32) (f t w c o : Nat → Int32) (nd rt ex mn : Int32) (kp dp tw wt st : Nat → Int32) (tn tr tre tm ts v : Int32) (hp : pr_X1_edgeOf N V wa wy un ga lo mo li kt wk wd f t w c o nd rt ex mn kp dp tw wt st tn tr tre tm ts v) : wp_X1_edgeOf wa wy un ga lo mo li kt wk wd f t w c o nd rt ex mn kp dp tw wt st tn tr tre tm ts v (ps_X1_edgeOf N V wa wy un ga lo mo li kt wk wd f t w c o nd rt ex mn kp dp tw wt st tn tr tre tm ts v) := by
  obtain ⟨hN, hT, rfl, hV⟩ := hp
  have h16 := hN.n16
  refine fun r1 h1 => ⟨fun z => ⟨N, V, ⟨hN, hT, rfl, hV⟩, fun r3 h3 J hJ X hX => ?_⟩, fun z => IsSet.zero.congr (fun k _ => ⟨fun q => q.elim, fun q => has_z h1 hT.2.2.2.2 (by omega) z q.1⟩)⟩
  have hR := has_p h1 hT.2.2.2.2 (by omega) z
  have hin := (IsSet.or h3 (IsSet.bit (k := V) (by omega))).congr (Q := fun n => Dm N.E N.root V n) (fun k _ => ⟨fun q => q.elim (fun q => q.2) (fun q => by subst q; exact Dm.refl hR), fun q => by
    by_cases e : V = k
    · exact Or.inr e.symm
    · exact Or.inl ⟨e, q⟩⟩)
  have e := hN.nd
  subst e
  refine up1 N.n (fun k s => IsSet s (fun b => ∃ n, n < k ∧ Dm N.E N.root V n ∧ N.E n b)) (fun k s hk hI hK => hX _ _ ⟨fun q => absurd q (by rw [leN (by omega) (by omega)]; omega), fun _ r hr => ⟨fun y => hK _ ((IsSet.or hI IsSet.zero).congr (fun b _ => ⟨?_, ?_⟩)), fun y => ⟨vp_in_nI (by omega) (by decide), hK _ ?_⟩⟩⟩) (fun s hI => hX _ _ ⟨fun _ => hJ _ ⟨N, V, ⟨hN, hT, rfl, hV⟩, fun r5 h5 => (IsSet.andNot hI h5).congr (fun b _ => ⟨fun q => ?_, fun q => ?_⟩)⟩, fun q => absurd (Int32.le_refl _) q⟩) 0 0 (Nat.zero_le _) (IsSet.zero.congr (fun b _ => ⟨fun q => q.elim, fun q => by obtain ⟨n, h, -⟩ := q; omega⟩))
  · rintro (⟨n, h, q⟩ | q)
    · exact ⟨n, by omega, q⟩
    · exact q.elim
  · rintro ⟨n, h, q1, q2⟩
    by_cases e : n = k
    · subst e; exact absurd q1 (has_z hr hin (by omega) y)
    · exact Or.inl ⟨n, by omega, q1, q2⟩
  · rw [clN (by omega)]
    refine (IsSet.or hI (hN.rows (a := k) (by omega))).congr (fun b _ => ⟨?_, ?_⟩)
    · rintro (⟨n, h, q⟩ | q)
      · exact ⟨n, by omega, q⟩
      · exact ⟨k, by omega, has_p hr hin (by omega) y, q⟩
    · rintro ⟨n, h, q1, q2⟩
      by_cases e : n = k
      · subst e; exact Or.inr q2
      · exact Or.inl ⟨n, by omega, q1, q2⟩
  · obtain ⟨⟨n, -, q1, q2⟩, q3⟩ := q
    exact ⟨hR, n, q1, q2, q3⟩
  · obtain ⟨-, n, q1, q2, q3⟩ := q
    exact ⟨⟨n, hT.1.lt q1.R, q1, q2⟩, q3⟩
def pr_X1_nearOf (N : NetM) (V : Nat) (wa wy un ga lo mo li kt wk wd : Int32) (f t w c o : Nat → Int32) (nd rt ex mn : Int32) (kp dp tw wt st : Nat → Int32) (tn tr tre tm ts v : Int32) : Prop := NetR N f t w c o nd rt ex mn ∧ TreR N.E N.root N.n kp dp tw tn tr tre ∧ v = nI V ∧ V < N.n
def ps_X1_nearOf (N : NetM) (V : Nat) (wa wy un ga lo mo li kt wk wd : Int32) (f t w c o : Nat → Int32) (nd rt ex mn : Int32) (kp dp tw wt st : Nat → Int32) (tn tr tre tm ts v : Int32) (r : Int32)  : Prop := NearIs N.E N.root V r
def wp_X1_nearOf_L34 (w : Nat → Int32) (nd x2_101 : Int32) (J80 : Int32 → Prop) (ix5_126 ix4_127 : Int32) : Prop :=
  ∀ X34 : Int32 → Int32 → Prop, (∀ (x5_126 : Int32) (x4_127 : Int32), (((nd ≤ x5_126 → (J80 x4_127)) ∧
 (¬ (nd ≤ x5_126) → (∀ (r_130 : Int32), ps_X1_has x2_101 x5_126 r_130 → (((r_130 = 0 → (X34 (x5_126 + 1) (x4_127 ||| 0))) ∧
 (¬ (r_130 = 0) → (vp_in x5_126 16 ∧ (X34 (x5_126 + 1) (x4_127 ||| (w x5_126.toNatClampNeg))))))))))) → X34 x5_126 x4_127) → X34 ix5_126 ix4_127
def wp_X1_nearOf_L12 (w : Nat → Int32) (nd v : Int32) (J26 : Int32 → Prop) (J89 : Prop) (ix3_100 ix2_101 : Int32) : Prop :=
  ∀ X12 : Int32 → Int32 → Prop, (∀ (x3_100 : Int32) (x2_101 : Int32), (((16 ≤ x3_100 → (J89)) ∧
 (¬ (16 ≤ x3_100) → (∀ (r_104 : Int32), ps_X1_has x2_101 v r_104 → (((r_104 = 0 → (∀ J80 : Int32 → Prop, (∀ (x4_124 : Int32), (X12 (x3_100 + 1) x4_124) → J80 x4_124) →
wp_X1_nearOf_L34 w nd x2_101 J80 0 x2_101)) ∧
 (¬ (r_104 = 0) → (J26 x3_100)))))))) → X12 x3_100 x2_101) → X12 ix3_100 ix2_101
def wp_X1_nearOf (wa wy un ga lo mo li kt wk wd : Int32) (f t w c o : Nat → Int32) (nd rt ex mn : Int32) (kp dp tw wt st : Nat → Int32) (tn tr tre tm ts v : Int32) (Q : Int32 → Prop) : Prop :=
  ∀ J26 : Int32 → Prop, (∀ (x3_97 : Int32), (Q x3_97) → J26 x3_97) →
∀ J89 : Prop, ((Q (-1)) → J89) →
wp_X1_nearOf_L12 w nd v J26 J89 0 (1 <<< (rt &&& 31))
theorem pf_X1_nearOf (N : NetM) (V : Nat) (wa wy un ga lo mo li kt wk wd : Int32) (f t w c o : Nat → Int32) (nd rt ex mn : Int32) (kp dp tw wt st : Nat → Int32) (tn tr tre tm ts v : Int32) (hp : pr_X1_nearOf N V wa wy un ga lo mo li kt wk wd f t w c o nd rt ex mn kp dp tw wt st tn tr tre tm ts v) : wp_X1_nearOf wa wy un ga lo mo li kt wk wd f t w c o nd rt ex mn kp dp tw wt st tn tr tre tm ts v (ps_X1_nearOf N V wa wy un ga lo mo li kt wk wd f t w c o nd rt ex mn kp dp tw wt st tn tr tre tm ts v) := by
  obtain ⟨hN, hT, rfl, hV⟩ := hp
  have h16 := hN.n16
  have hr0 := hN.1.2.2.1
  intro J26 hJ J89 hJ9 X hX
  have e := hN.nd
  subst e
  obtain ⟨-, -, e2, -⟩ := id hN
  have hroot := IsSet.bit (k := N.root) (by omega)
  rw [← e2] at hroot
  refine up1 16 (fun d s => IsSet s (Lv N.E N.root d) ∧ ∀ k, k < d → ¬ Lv N.E N.root k V) (fun d s hd hI hK => hX _ _ ⟨fun q => absurd q (by rw [n16, leN (by omega) (by omega)]; omega), fun _ r hr => ⟨fun z J80 hJ80 X34 hX34 => ?_, fun z => hJ _ (Or.inl ⟨d, rfl, hd, has_p hr hI.1 (by omega) z, hI.2⟩)⟩⟩) (fun s hI => hX _ _ ⟨fun _ => hJ9 (Or.inr ⟨rfl, fun d hd => ?_⟩), fun q => absurd (Int32.le_refl _) q⟩) 0 _ (Nat.zero_le _) ⟨hroot, fun k hk => absurd hk (by omega)⟩
  · refine up1 N.n (fun k s2 => IsSet s2 (fun b => Lv N.E N.root d b ∨ ∃ n, n < k ∧ Lv N.E N.root d n ∧ N.E n b)) (fun k s2 hk hI2 hK2 => hX34 _ _ ⟨fun q => absurd q (by rw [leN (by omega) (by omega)]; omega), fun _ r2 hr2 => ⟨fun y => hK2 _ ((IsSet.or hI2 IsSet.zero).congr (fun b _ => ⟨?_, ?_⟩)), fun y => ⟨vp_in_nI (by omega) (by decide), hK2 _ ?_⟩⟩⟩) (fun s2 hI2 => hX34 _ _ ⟨fun _ => hJ80 _ (hK _ ⟨IsSet.congr hI2 (fun b _ => ?_), fun k hk => ?_⟩), fun q => absurd (Int32.le_refl _) q⟩) 0 _ (Nat.zero_le _) (IsSet.congr hI.1 (fun b _ => ⟨Or.inl, fun q => q.elim id (fun q => by obtain ⟨n, h, -⟩ := q; omega)⟩))
    · rintro ((q | ⟨n, h, q⟩) | q)
      · exact Or.inl q
      · exact Or.inr ⟨n, by omega, q⟩
      · exact q.elim
    · rintro (q | ⟨n, h, q1, q2⟩)
      · exact Or.inl (Or.inl q)
      · by_cases e : n = k
        · subst e; exact absurd q1 (has_z hr2 hI.1 (by omega) y)
        · exact Or.inl (Or.inr ⟨n, by omega, q1, q2⟩)
    · rw [clN (by omega)]
      refine (IsSet.or hI2 (hN.rows (a := k) (by omega))).congr (fun b _ => ⟨?_, ?_⟩)
      · rintro ((q | ⟨n, h, q⟩) | q)
        · exact Or.inl q
        · exact Or.inr ⟨n, by omega, q⟩
        · exact Or.inr ⟨k, by omega, has_p hr2 hI.1 (by omega) y, q⟩
      · rintro (q | ⟨n, h, q1, q2⟩)
        · exact Or.inl (Or.inl q)
        · by_cases e : n = k
          · subst e; exact Or.inr q2
          · exact Or.inl (Or.inr ⟨n, by omega, q1, q2⟩)
    · exact ⟨fun q => q.elim Or.inl (fun ⟨n, _, q1, q2⟩ => Or.inr ⟨n, q1, q2⟩), fun q => q.elim Or.inl (fun ⟨n, q1, q2⟩ => Or.inr ⟨n, (NetM.E_lt hN.1 q2).1, q1, q2⟩)⟩
    · by_cases e : k = d
      · subst e; exact has_z hr hI.1 (by omega) z
      · exact hI.2 k (by omega)
  · obtain ⟨k, hk, q⟩ := Lv.few hr0 (fun a b e => (NetM.E_lt hN.1 e).2) hd
    exact hI.2 k (by omega) q
def pr_X1_hasOut (N : NetM) (V : Nat) (wa wy un ga lo mo li kt wk wd : Int32) (f t w c o : Nat → Int32) (nd rt ex mn : Int32) (kp dp tw wt st : Nat → Int32) (tn tr tre tm ts v : Int32) : Prop := NetR N f t w c o nd rt ex mn ∧ TreR N.E N.root N.n kp dp tw tn tr tre ∧ v = nI V ∧ V < N.n
def ps_X1_hasOut (N : NetM) (V : Nat) (wa wy un ga lo mo li kt wk wd : Int32) (f t w c o : Nat → Int32) (nd rt ex mn : Int32) (kp dp tw wt st : Nat → Int32) (tn tr tre tm ts v : Int32) (r : Int32)  : Prop := IsB r (Rd N.E N.root V ∧ Rs N.E (fun z => z = V) (fun _ => False) N.exit)
def wp_X1_hasOut (wa wy un ga lo mo li kt wk wd : Int32) (f t w c o : Nat → Int32) (nd rt ex mn : Int32) (kp dp tw wt st : Nat → Int32) (tn tr tre tm ts v : Int32) (Q : Int32 → Prop) : Prop :=
  ∀ (r_1 : Int32), ps_X1_has tre v r_1 → (((r_1 = 0 → (Q 0)) ∧
 (¬ (r_1 = 0) → (pr_X8_reach_N f t w c o nd rt ex mn v 0 ∧ (∀ (r_3 : Int32), ps_X8_reach_N f t w c o nd rt ex mn v 0 r_3 → (∀ (r_4 : Int32), ps_X1_has r_3 ex r_4 → (((r_4 = 0 → (Q 0)) ∧
 (¬ (r_4 = 0) → (Q 1))))))))))
theorem pf_X1_hasOut (N : NetM) (V : Nat) (wa wy un ga lo mo li kt wk wd : Int32) (f t w c o : Nat → Int32) (nd rt ex mn : Int32) (kp dp tw wt st : Nat → Int32) (tn tr tre tm ts v : Int32) (hp : pr_X1_hasOut N V wa wy un ga lo mo li kt wk wd f t w c o nd rt ex mn kp dp tw wt st tn tr tre tm ts v) : wp_X1_hasOut wa wy un ga lo mo li kt wk wd f t w c o nd rt ex mn kp dp tw wt st tn tr tre tm ts v (ps_X1_hasOut N V wa wy un ga lo mo li kt wk wd f t w c o nd rt ex mn kp dp tw wt st tn tr tre tm ts v) := by
  obtain ⟨hN, hT, rfl, hV⟩ := hp
  have h16 := hN.n16
  have hx := hN.1.2.2.2.1
  obtain ⟨-, -, -, e3, -⟩ := id hN
  subst e3
  refine fun r1 h1 => ⟨fun z => isB0 (fun q => has_z h1 hT.2.2.2.2 (by omega) z q.1), fun z => ⟨hN.rchP hV (by rw [b_0]; simp), fun r3 h3 r4 h4 => ?_⟩⟩
  have hS := hN.rch hV bt_zero h3
  exact ⟨fun z4 => isB0 (fun q => has_z h4 hS (by omega) z4 q.2), fun z4 => isB1 ⟨has_p h1 hT.2.2.2.2 (by omega) z, has_p h4 hS (by omega) z4⟩⟩
def pr_X1_kindOf (N : NetM) (K : Nat) (wa wy un ga lo mo li kt wk wd : Int32) (f t w c o : Nat → Int32) (nd rt ex mn : Int32) (kp dp tw wt st : Nat → Int32) (tn tr tre tm ts k : Int32) : Prop := NetR N f t w c o nd rt ex mn ∧ TreR N.E N.root N.n kp dp tw tn tr tre ∧ k = nI K ∧ K < N.m
def ps_X1_kindOf (N : NetM) (K : Nat) (wa wy un ga lo mo li kt wk wd : Int32) (f t w c o : Nat → Int32) (nd rt ex mn : Int32) (kp dp tw wt st : Nat → Int32) (tn tr tre tm ts k : Int32) (r : Int32)  : Prop := KindIs N K r
def wp_X1_kindOf (wa wy un ga lo mo li kt wk wd : Int32) (f t w c o : Nat → Int32) (nd rt ex mn : Int32) (kp dp tw wt st : Nat → Int32) (tn tr tre tm ts k : Int32) (Q : Int32 → Prop) : Prop :=
  vp_in k 60 ∧ (((¬ (o k.toNatClampNeg) = 0 → (∀ (r_3 : Int32), ps_X1_has tre (f k.toNatClampNeg) r_3 → (((¬ r_3 = 0 → (pr_X5_isBack kp dp tw wt st tn tr tre tm ts (f k.toNatClampNeg) (t k.toNatClampNeg) ∧ (∀ (r_5 : Int32), ps_X5_isBack kp dp tw wt st tn tr tre tm ts (f k.toNatClampNeg) (t k.toNatClampNeg) r_5 → (((r_5 = 0 → (vp_in (t k.toNatClampNeg) 16 ∧ (((¬ (kp (t k.toNatClampNeg).toNatClampNeg) = (f k.toNatClampNeg) → (Q 4)) ∧
 ((kp (t k.toNatClampNeg).toNatClampNeg) = (f k.toNatClampNeg) → (Q 3)))))) ∧
 (¬ (r_5 = 0) → (Q 2))))))) ∧
 (r_3 = 0 → (Q 1)))))) ∧
 ((o k.toNatClampNeg) = 0 → (Q 0))))
theorem pf_X1_kindOf (N : NetM) (K : Nat) (wa wy un ga lo mo li kt wk wd : Int32) (f t w c o : Nat → Int32) (nd rt ex mn : Int32) (kp dp tw wt st : Nat → Int32) (tn tr tre tm ts k : Int32) (hp : pr_X1_kindOf N K wa wy un ga lo mo li kt wk wd f t w c o nd rt ex mn kp dp tw wt st tn tr tre tm ts k) : wp_X1_kindOf wa wy un ga lo mo li kt wk wd f t w c o nd rt ex mn kp dp tw wt st tn tr tre tm ts k (ps_X1_kindOf N K wa wy un ga lo mo li kt wk wd f t w c o nd rt ex mn kp dp tw wt st tn tr tre tm ts k) := by
  obtain ⟨hN, hT, rfl, hK⟩ := hp
  have h16 := hN.n16
  have h60 : N.m ≤ 60 := hN.1.2.2.2.2.1
  obtain ⟨q1, q2⟩ := hN.1.2.2.2.2.2.1 K hK
  obtain ⟨-, -, -, -, -, hft, ho, hop, -⟩ := id hN
  obtain ⟨e1, e2⟩ := hft K hK
  refine ⟨vp_in_nI (by omega) (by decide), ?_⟩
  rw [clN (by omega), e1, e2]
  have hopn : o K = 0 → N.op K = false := fun z => by
    cases q : N.op K with
    | false => rfl
    | true => exact absurd (((hop K hK).1 q).symm.trans z) (by decide)
  refine ⟨fun z => ?_, fun z => Or.inl ⟨hopn z, rfl⟩⟩
  have hop1 : N.op K = true := (hop K hK).2 ((ho K (by omega)).resolve_left z)
  refine fun r3 h3 => ⟨fun z3 => ⟨⟨_, _, _, N.fr K, N.to K, hT.1, hT.2.2.2.2, rfl, rfl, by omega, by omega⟩, fun r5 h5 => ?_⟩, fun z3 => Or.inr (Or.inl ⟨hop1, has_z h3 hT.2.2.2.2 (by omega) z3, rfl⟩)⟩
  have hR := has_p h3 hT.2.2.2.2 (by omega) z3
  have h := h5 _ _ _ (N.fr K) (N.to K) hT.1 hT.2.2.2.2 rfl rfl (by omega) (by omega)
  refine ⟨fun z5 => ⟨vp_in_nI (by omega) (by decide), ?_⟩, fun z5 => Or.inr (Or.inr (Or.inl ⟨hop1, hR, h.pos z5, rfl⟩))⟩
  rw [clN (by omega)]
  have hR2 : Rd N.E N.root (N.to K) := hR.step ⟨K, hK, hop1, rfl, rfl⟩
  have hI := hT.1.kp_iff hR2 (V := N.fr K) (by omega)
  exact ⟨fun z6 => Or.inr (Or.inr (Or.inr (Or.inr ⟨hop1, hR, h.neg z5, fun q => z6 (hI.2 q), rfl⟩))), fun z6 => Or.inr (Or.inr (Or.inr (Or.inl ⟨hop1, hR, h.neg z5, hI.1 z6, rfl⟩)))⟩
