/-! gates from a node out (own work) -/
abbrev NetM.X (N : NetM) (a b : Nat) : Prop := N.E b a
def OutG (N : NetM) (v g : Nat) : Prop := Rd N.E N.root v ∧ Pd N.X N.exit g v
def OutK (N : NetM) (v : Nat) (r : Int32) : Prop := (r = -1 ∧ ∀ g, ¬ OutG N v g) ∨ ∃ g, r = nI g ∧ g < N.n ∧ Rd N.E N.root v ∧ Id N.X N.exit g v
def Ctl (N : NetM) (v x : Nat) : Prop := Rd N.E N.root v ∧ Rd N.X N.exit v ∧ (∃ n, N.E v n ∧ Dm N.X N.exit x n) ∧ ¬ OutG N v x
section TU
variable {N : NetM} {f t w c o : Nat → Int32} {nd rt ex mn : Int32}
theorem erU (hN : NetR N f t w c o nd rt ex mn) (a b : Nat) : Er nd (trow nd w) a b ↔ N.X a b := by
  have h16 := hN.n16
  have e := hN.nd
  subst e
  unfold Er
  rw [clN (by omega)]
  constructor
  · rintro ⟨h1, h2⟩
    rcases Nat.lt_or_ge b 32 with q | q
    · have h3 := ((trow_is (nI N.n) w a) b q).1 h2
      rw [clN (by omega)] at h3
      exact (hN.rows (a := b) (by omega) a (by omega)).1 h3.2.2 |>.2
    · rw [b_big q] at h2; cases h2
  · intro h
    obtain ⟨h1, h2⟩ := NetM.E_lt hN.1 h
    refine ⟨h2, ((trow_is (nI N.n) w a) b (by omega)).2 ⟨by omega, by rw [clN (by omega)]; exact h1, (hN.rows (a := b) (by omega) a (by omega)).2 ⟨by omega, h⟩⟩⟩
theorem rowsU (hN : NetR N f t w c o nd rt ex mn) : RowsW N.n (trow nd w) := fun a ha b hb h => (NetM.E_lt hN.1 ((erU hN a b).1 ⟨by rw [hN.nd, clN (by have := hN.n16; omega)]; exact ha, h⟩)).1
theorem rchU (hN : NetR N f t w c o nd rt ex mn) {a : Nat} {bu r : Int32} {W : Nat → Prop} (ha : a < N.n) (hb : ∀ x, bt bu x = true ↔ W x) (h : ps_X8_reach_U f t w c o nd rt ex mn (nI a) bu r) : IsSet r (Rs N.X (fun z => z = a) W) := by
  have h16 := hN.n16
  have e : (nI a).toNatClampNeg = a := clN (by omega)
  exact IsSet.congr h (fun x _ => Rs.congr (fun a b => erU hN a b) (fun z => by rw [e]) (fun z => (hb z).symm))
theorem rchPU (hN : NetR N f t w c o nd rt ex mn) {a : Nat} {bu : Int32} (ha : a < N.n) (hb : ¬ bt bu a = true) : pr_X8_reach_U f t w c o nd rt ex mn (nI a) bu :=
  ⟨N.n, a, hN.nd, hN.n16, rfl, ha, by simpa using hb, rowsU hN⟩
theorem NetM.X_lt (hN : N.ok) {x : Nat} (h : Rd N.X N.exit x) : x < N.n := Rs.ind (X := fun x => x < N.n) (fun z s _ => by rw [s]; exact hN.2.2.2.1) (fun _ v _ _ e _ => (NetM.E_lt hN e).1) h
end TU
theorem El.rs {E : Nat → Nat → Prop} {al : Int32} {f : Nat} (hal : ∀ x, bt al x = true ↔ Rd E f x) (W : Nat → Prop) (x : Nat) : Rs (El E al) (fun z => z = f) W x ↔ Rs E (fun z => z = f) W x := by
  constructor
  · exact fun h => h.mono (fun _ _ e => e.1) (fun _ s => s) (fun _ q => q)
  · exact fun h => Rs.ind (X := fun x => Rs (El E al) (fun z => z = f) W x) (fun z s w => Rs.base s w) (fun u v hu ih e w => ih.step ⟨e, (hal u).2 (Rd.of hu), (hal v).2 (Rd.step (Rd.of hu) e)⟩ w) h
theorem El.dm {E : Nat → Nat → Prop} {al : Int32} {f : Nat} (hal : ∀ x, bt al x = true ↔ Rd E f x) (g x : Nat) : Dm (El E al) f g x ↔ Dm E f g x := and_congr (El.rs hal _ x) (not_congr (El.rs hal _ x))
theorem El.congr {E E' : Nat → Nat → Prop} {al : Int32} (h : ∀ a b, E a b ↔ E' a b) (a b : Nat) : El E al a b ↔ El E' al a b := and_congr (h a b) Iff.rfl
theorem Dm.congr {E E' : Nat → Nat → Prop} {r g x : Nat} (h : ∀ a b, E a b ↔ E' a b) : Dm E r g x ↔ Dm E' r g x := and_congr (Rd.congr h) (not_congr (Rs.congr h (fun _ => Iff.rfl) (fun _ => Iff.rfl)))
/-! gl4: contracts, pure predicates (printed by gen.py) -/
def pr_X1_outGatesOf (N : NetM) (V : Nat) (wa wy un ga lo mo li kt wk wd : Int32) (f t w c o : Nat → Int32) (nd rt ex mn : Int32) (kp dp tw wt st : Nat → Int32) (tn tr tre tm ts : Int32) (ou : Nat → Int32) (v : Int32) : Prop := NetR N f t w c o nd rt ex mn ∧ TreR N.E N.root N.n kp dp tw tn tr tre ∧ v = nI V ∧ V < N.n
def ps_X1_outGatesOf (N : NetM) (V : Nat) (wa wy un ga lo mo li kt wk wd : Int32) (f t w c o : Nat → Int32) (nd rt ex mn : Int32) (kp dp tw wt st : Nat → Int32) (tn tr tre tm ts : Int32) (ou : Nat → Int32) (v : Int32) (r : Int32) (ou' : Nat → Int32) : Prop := IsSet r (OutG N V) ∧ (Rd N.E N.root V → Rd N.X N.exit V → ∀ x, x < N.n → Rd N.X N.exit x → IsSet (ou' x) (fun g => Dm N.X N.exit g x))
def wp_X1_outGatesOf (wa wy un ga lo mo li kt wk wd : Int32) (f t w c o : Nat → Int32) (nd rt ex mn : Int32) (kp dp tw wt st : Nat → Int32) (tn tr tre tm ts : Int32) (ou : Nat → Int32) (v : Int32) (Q : Int32 → (Nat → Int32) → Prop) : Prop :=
  ps_X8_turned → (pr_X8_reach_U f t w c o nd rt ex mn ex 0 ∧ (∀ (r_2 : Int32), ps_X8_reach_U f t w c o nd rt ex mn ex 0 r_2 → (∀ (r_3 : Int32), ps_X1_has (tre &&& r_2) v r_3 → (((¬ r_3 = 0 → (pr_X1_gates_U f t w c o nd rt ex mn ou ex r_2 ∧ (∀ (ou_5 : Nat → Int32), ps_X1_gates_U f t w c o nd rt ex mn ou ex r_2 ou_5 → (vp_in v 16 ∧ (Q ((ou_5 v.toNatClampNeg) &&& ((1 <<< (v &&& 31)) ^^^ (-1))) ou_5))))) ∧
 (r_3 = 0 → (Q 0 ou)))))))
theorem pf_X1_outGatesOf (N : NetM) (V : Nat) (wa wy un ga lo mo li kt wk wd : Int32) (f t w c o : Nat → Int32) (nd rt ex mn : Int32) (kp dp tw wt st : Nat → Int32) (tn tr tre tm ts : Int32) (ou : Nat → Int32) (v : Int32) (hp : pr_X1_outGatesOf N V wa wy un ga lo mo li kt wk wd f t w c o nd rt ex mn kp dp tw wt st tn tr tre tm ts ou v) : wp_X1_outGatesOf wa wy un ga lo mo li kt wk wd f t w c o nd rt ex mn kp dp tw wt st tn tr tre tm ts ou v (ps_X1_outGatesOf N V wa wy un ga lo mo li kt wk wd f t w c o nd rt ex mn kp dp tw wt st tn tr tre tm ts ou v) := by
  obtain ⟨hN, hT, rfl, hV⟩ := hp
  have h16 := hN.n16
  have hx := hN.1.2.2.2.1
  have e3 : ex = nI N.exit := hN.2.2.2.1
  subst e3
  refine fun _ => ⟨rchPU hN hx (by rw [b_0]; simp), fun r2 h2 r3 h3 => ?_⟩
  have hS : IsSet r2 (Rd N.X N.exit) := rchU hN hx bt_zero h2
  have hall := hS.all (fun k hk => by have := NetM.X_lt hN.1 hk; omega)
  have hI := hT.2.2.2.2.and hS
  refine ⟨fun z => ?_, fun z => ⟨IsSet.zero.congr (fun g _ => ⟨fun q => q.elim, fun q => has_z h3 hI (by omega) z ⟨q.1, q.2.2.R⟩⟩), fun q1 q2 => absurd ⟨q1, q2⟩ (has_z h3 hI (by omega) z)⟩⟩
  have hb := has_p h3 hI (by omega) z
  have hEl : ∀ a b, El (Er nd (trow nd w)) r2 a b ↔ El N.X r2 a b := fun a b => El.congr (fun a b => erU hN a b) a b
  refine ⟨⟨N.n, N.exit, hN.nd, h16, rfl, hx, rowsU hN, hS.congr (fun x _ => ((Rd.congr hEl).trans (El.rs hall _ x)).symm), fun k hk => NetM.X_lt hN.1 ((hall k).1 hk)⟩, fun o5 h5 => ⟨hN.in16N hV, ?_⟩⟩
  have hg : ∀ x, x < N.n → Rd N.X N.exit x → IsSet (o5 x) (fun g => Dm N.X N.exit g x) := fun x hx' hR => ((h5 N.n N.exit hN.nd h16 rfl (by omega) x hx').1 ((hall x).2 hR)).congr (fun g _ => (Dm.congr hEl).trans (El.dm hall g x))
  rw [clN (by omega)]
  exact ⟨((hg V hV hb.2).andNot (IsSet.bit (k := V) (by omega))).congr (fun g _ => ⟨fun q => ⟨hb.1, q.2, q.1⟩, fun q => ⟨q.2.2, q.2.1⟩⟩), fun _ _ => hg⟩
def pr_X1_outKeeperOf (N : NetM) (V : Nat) (wa wy un ga lo mo li kt wk wd : Int32) (f t w c o : Nat → Int32) (nd rt ex mn : Int32) (kp dp tw wt st : Nat → Int32) (tn tr tre tm ts : Int32) (ou : Nat → Int32) (v : Int32) : Prop := NetR N f t w c o nd rt ex mn ∧ TreR N.E N.root N.n kp dp tw tn tr tre ∧ v = nI V ∧ V < N.n
def ps_X1_outKeeperOf (N : NetM) (V : Nat) (wa wy un ga lo mo li kt wk wd : Int32) (f t w c o : Nat → Int32) (nd rt ex mn : Int32) (kp dp tw wt st : Nat → Int32) (tn tr tre tm ts : Int32) (ou : Nat → Int32) (v : Int32) (r : Int32) (ou' : Nat → Int32) : Prop := OutK N V r
def wp_X1_outKeeperOf_L11 (nd r_1 : Int32) (ou_1 : Nat → Int32) (J68 : Int32 → Prop) (ix4_32 ix3_33 : Int32) : Prop :=
  ∀ X11 : Int32 → Int32 → Prop, (∀ (x4_32 : Int32) (x3_33 : Int32), (((nd ≤ x4_32 → (J68 x3_33)) ∧
 (¬ (nd ≤ x4_32) → (∀ (r_36 : Int32), ps_X1_has r_1 x4_32 r_36 → (((r_36 = 0 → (X11 (x4_32 + 1) x3_33)) ∧
 (¬ (r_36 = 0) → ((x3_33 = (-1) → (X11 (x4_32 + 1) x4_32)) ∧
 (¬ (x3_33 = (-1)) → (vp_in x4_32 16 ∧ (pr_J7_bitCount (ou_1 x4_32.toNatClampNeg) ∧ (∀ (r_40 : Int32), ps_J7_bitCount (ou_1 x4_32.toNatClampNeg) r_40 → (vp_in x3_33 16 ∧ (pr_J7_bitCount (ou_1 x3_33.toNatClampNeg) ∧ (∀ (r_42 : Int32), ps_J7_bitCount (ou_1 x3_33.toNatClampNeg) r_42 → (((r_40 ≤ r_42 → (X11 (x4_32 + 1) x3_33)) ∧
 (¬ (r_40 ≤ r_42) → (X11 (x4_32 + 1) x4_32))))))))))))))))))) → X11 x4_32 x3_33) → X11 ix4_32 ix3_33
def wp_X1_outKeeperOf (wa wy un ga lo mo li kt wk wd : Int32) (f t w c o : Nat → Int32) (nd rt ex mn : Int32) (kp dp tw wt st : Nat → Int32) (tn tr tre tm ts : Int32) (ou : Nat → Int32) (v : Int32) (Q : Int32 → (Nat → Int32) → Prop) : Prop :=
  ∃ (N_1 : NetM) (V_1 : Nat), (pr_X1_outGatesOf N_1 V_1 wa wy un ga lo mo li kt wk wd f t w c o nd rt ex mn kp dp tw wt st tn tr tre tm ts ou v ∧ (∀ (r_1 : Int32) (ou_1 : Nat → Int32), ps_X1_outGatesOf N_1 V_1 wa wy un ga lo mo li kt wk wd f t w c o nd rt ex mn kp dp tw wt st tn tr tre tm ts ou v r_1 ou_1 → (∀ J68 : Int32 → Prop, (∀ (x3_30 : Int32), (Q x3_30 ou_1) → J68 x3_30) →
wp_X1_outKeeperOf_L11 nd r_1 ou_1 J68 0 (-1))))
theorem pf_X1_outKeeperOf (N : NetM) (V : Nat) (wa wy un ga lo mo li kt wk wd : Int32) (f t w c o : Nat → Int32) (nd rt ex mn : Int32) (kp dp tw wt st : Nat → Int32) (tn tr tre tm ts : Int32) (ou : Nat → Int32) (v : Int32) (hp : pr_X1_outKeeperOf N V wa wy un ga lo mo li kt wk wd f t w c o nd rt ex mn kp dp tw wt st tn tr tre tm ts ou v) : wp_X1_outKeeperOf wa wy un ga lo mo li kt wk wd f t w c o nd rt ex mn kp dp tw wt st tn tr tre tm ts ou v (ps_X1_outKeeperOf N V wa wy un ga lo mo li kt wk wd f t w c o nd rt ex mn kp dp tw wt st tn tr tre tm ts ou v) := by
  obtain ⟨hN, hT, rfl, hV⟩ := hp
  have h16 := hN.n16
  refine ⟨N, V, ⟨hN, hT, rfl, hV⟩, fun r1 ou1 h1 J hJ X hX => ?_⟩
  obtain ⟨hS, hO⟩ := h1
  have hnd := hN.nd
  subst hnd
  have hlt : ∀ x, OutG N V x → x < N.n := fun x hx => NetM.X_lt hN.1 hx.2.2.Rg
  have hob : ∀ x, OutG N V x → IsSet (ou1 x) (fun g => Dm N.X N.exit g x) := fun x hx => hO hx.1 hx.2.2.R x (hlt x hx) hx.2.2.Rg
  have hpc : ∀ x, OutG N V x → pc (ou1 x) = cnt 16 (fun g => Dm N.X N.exit g x) := fun x hx => pc_set (P := fun g => Dm N.X N.exit g x) (hob x hx)
  refine up1 N.n (fun k b => (b = -1 ∧ ∀ g, g < k → ¬ OutG N V g) ∨ ∃ g, b = nI g ∧ g < k ∧ OutG N V g ∧ ∀ j, j < k → OutG N V j → cnt 16 (fun z => Dm N.X N.exit z j) ≤ cnt 16 (fun z => Dm N.X N.exit z g)) (fun k b hk hI hh => hX _ _ ⟨fun q => absurd q (by rw [leN (by omega) (by omega)]; omega), fun _ r3 h3 => ⟨fun z => hh _ ?_, fun z => ⟨fun z1 => hh _ ?_, fun z1 => ?_⟩⟩⟩) (fun b hI => hX _ _ ⟨fun _ => hJ _ ?_, fun q => absurd (Int32.le_refl _) q⟩) 0 _ (Nat.zero_le _) (Or.inl ⟨rfl, fun g hg => absurd hg (by omega)⟩)
  · have no := has_z h3 hS (by omega) z
    rcases hI with ⟨q1, q2⟩ | ⟨g, q1, q2, q3, q4⟩
    · refine Or.inl ⟨q1, fun g hg => ?_⟩
      by_cases e : g = k
      · subst e; exact no
      · exact q2 g (by omega)
    · refine Or.inr ⟨g, q1, by omega, q3, fun j hj hb => ?_⟩
      by_cases e : j = k
      · subst e; exact absurd hb no
      · exact q4 j (by omega) hb
  · have yes := has_p h3 hS (by omega) z
    rcases hI with ⟨q1, q2⟩ | ⟨g, q1, q2, q3, q4⟩
    · refine Or.inr ⟨k, rfl, by omega, yes, fun j hj hb => ?_⟩
      by_cases e : j = k
      · subst e; exact Nat.le_refl _
      · exact absurd hb (q2 j (by omega))
    · exact absurd (q1.symm.trans z1) (nI_m1 (by omega))
  · have yes := has_p h3 hS (by omega) z
    rcases hI with ⟨q1, q2⟩ | ⟨g, q1, q2, q3, q4⟩
    · exact absurd q1 z1
    · subst q1
      rw [clN (by omega), clN (by omega)]
      refine ⟨vp_in_nI (by omega) (by decide), B16.of (hob k yes), fun r4 h4 => ⟨vp_in_nI (by omega) (by decide), B16.of (hob g q3), fun r5 h5 => ?_⟩⟩
      have h4 : r4 = nI (pc (ou1 k)) := h4
      have h5 : r5 = nI (pc (ou1 g)) := h5
      have c1 : cnt 16 (fun z => Dm N.X N.exit z k) ≤ 16 := cnt_le _ _
      have c2 : cnt 16 (fun z => Dm N.X N.exit z g) ≤ 16 := cnt_le _ _
      rw [hpc k yes] at h4
      rw [hpc g q3] at h5
      rw [h4, h5, leN (by omega) (by omega)]
      refine ⟨fun z5 => hh _ (Or.inr ⟨g, rfl, by omega, q3, fun j hj hb => ?_⟩), fun z5 => hh _ (Or.inr ⟨k, rfl, by omega, yes, fun j hj hb => ?_⟩)⟩
      · by_cases e : j = k
        · subst e; exact z5
        · exact q4 j (by omega) hb
      · by_cases e : j = k
        · subst e; exact Nat.le_refl _
        · have := q4 j (by omega) hb; omega
  · rcases hI with ⟨q1, q2⟩ | ⟨g, q1, q2, q3, q4⟩
    · exact Or.inl ⟨q1, fun g hg => q2 g (hlt g hg) hg⟩
    · refine Or.inr ⟨g, q1, q2, q3.1, q3.2, fun h hh => ?_⟩
      rcases hh.2.chain q3.2.2 with q | q
      · exact q
      · refine Classical.byContradiction fun no => ?_
        have h5 := cnt_lt (n := 16) (P := fun z => Dm N.X N.exit z g) (Q := fun z => Dm N.X N.exit z h) (g := h) (by have := hlt h ⟨q3.1, hh⟩; omega) (fun z _ hz => hz.trans q) no (Dm.refl hh.2.Rg)
        have := q4 h (hlt h ⟨q3.1, hh⟩) ⟨q3.1, hh⟩
        omega
def pr_X1_controlledBy (N : NetM) (V : Nat) (wa wy un ga lo mo li kt wk wd : Int32) (f t w c o : Nat → Int32) (nd rt ex mn : Int32) (kp dp tw wt st : Nat → Int32) (tn tr tre tm ts : Int32) (ou : Nat → Int32) (v : Int32) : Prop := NetR N f t w c o nd rt ex mn ∧ TreR N.E N.root N.n kp dp tw tn tr tre ∧ v = nI V ∧ V < N.n
def ps_X1_controlledBy (N : NetM) (V : Nat) (wa wy un ga lo mo li kt wk wd : Int32) (f t w c o : Nat → Int32) (nd rt ex mn : Int32) (kp dp tw wt st : Nat → Int32) (tn tr tre tm ts : Int32) (ou : Nat → Int32) (v : Int32) (r : Int32) (ou' : Nat → Int32) : Prop := IsSet r (Ctl N V)
def wp_X1_controlledBy_L21 (wa wy un ga lo mo li kt wk wd : Int32) (f t w c o : Nat → Int32) (nd rt ex mn : Int32) (kp dp tw wt st : Nat → Int32) (tn tr tre tm ts v : Int32) (J79 : Int32 → (Nat → Int32) → Nat → Nat → Prop) (ix4_43 ix3_44 : Int32) (ia_45 : Nat → Int32) (ikc_46 iks_47 : Nat) : Prop :=
  ∀ X21 : Int32 → Int32 → (Nat → Int32) → Nat → Nat → Prop, (∀ (x4_43 : Int32) (x3_44 : Int32) (a_45 : Nat → Int32) (kc_46 : Nat) (ks_47 : Nat), (((nd ≤ x4_43 → (J79 x3_44 a_45 kc_46 ks_47)) ∧
 (¬ (nd ≤ x4_43) → (vp_in v 16 ∧ ((kc_46 + 0 ≤ 17 ∧ ks_47 + 0 ≤ 17) ∧ (∀ (r_51 : Int32), ps_X1_has (w v.toNatClampNeg) x4_43 r_51 → (((r_51 = 0 → (X21 (x4_43 + 1) x3_44 a_45 (kc_46 + 0) (ks_47 + 0))) ∧
 (¬ (r_51 = 0) → ((kc_46 + 0 ≤ 17 ∧ ks_47 + 0 ≤ 17) ∧ (∃ (N_53 : NetM) (V_53 : Nat), (pr_X1_hasOut N_53 V_53 wa wy un ga lo mo li kt wk wd f t w c o nd rt ex mn kp dp tw wt st tn tr tre tm ts x4_43 ∧ (∀ (r_53 : Int32), ps_X1_hasOut N_53 V_53 wa wy un ga lo mo li kt wk wd f t w c o nd rt ex mn kp dp tw wt st tn tr tre tm ts x4_43 r_53 → (((r_53 = 0 → (X21 (x4_43 + 1) x3_44 a_45 (kc_46 + 0) (ks_47 + 0))) ∧
 (¬ (r_53 = 0) → ((kc_46 + 1 ≤ 17 ∧ ks_47 + 1 ≤ 17) ∧ (∃ (N_55 : NetM) (V_55 : Nat), (pr_X1_outGatesOf N_55 V_55 wa wy un ga lo mo li kt wk wd f t w c o nd rt ex mn kp dp tw wt st tn tr tre tm ts a_45 x4_43 ∧ (∀ (r_55 : Int32) (ou_55 : Nat → Int32), ps_X1_outGatesOf N_55 V_55 wa wy un ga lo mo li kt wk wd f t w c o nd rt ex mn kp dp tw wt st tn tr tre tm ts a_45 x4_43 r_55 ou_55 → (X21 (x4_43 + 1) (x3_44 ||| (r_55 ||| (1 <<< (x4_43 &&& 31)))) ou_55 (kc_46 + 1) (ks_47 + 1)))))))))))))))))))))) → X21 x4_43 x3_44 a_45 kc_46 ks_47) → X21 ix4_43 ix3_44 ia_45 ikc_46 iks_47
def wp_X1_controlledBy (wa wy un ga lo mo li kt wk wd : Int32) (f t w c o : Nat → Int32) (nd rt ex mn : Int32) (kp dp tw wt st : Nat → Int32) (tn tr tre tm ts : Int32) (ou : Nat → Int32) (v : Int32) (Q : Int32 → (Nat → Int32) → Prop) : Prop :=
  ∃ (N_1 : NetM) (V_1 : Nat), (pr_X1_hasOut N_1 V_1 wa wy un ga lo mo li kt wk wd f t w c o nd rt ex mn kp dp tw wt st tn tr tre tm ts v ∧ (∀ (r_1 : Int32), ps_X1_hasOut N_1 V_1 wa wy un ga lo mo li kt wk wd f t w c o nd rt ex mn kp dp tw wt st tn tr tre tm ts v r_1 → (((¬ r_1 = 0 → (∃ (N_3 : NetM) (V_3 : Nat), (pr_X1_outGatesOf N_3 V_3 wa wy un ga lo mo li kt wk wd f t w c o nd rt ex mn kp dp tw wt st tn tr tre tm ts ou v ∧ (∀ (r_3 : Int32) (ou_3 : Nat → Int32), ps_X1_outGatesOf N_3 V_3 wa wy un ga lo mo li kt wk wd f t w c o nd rt ex mn kp dp tw wt st tn tr tre tm ts ou v r_3 ou_3 → (∀ J79 : Int32 → (Nat → Int32) → Nat → Nat → Prop, (∀ (x3_38 : Int32) (a_39 : Nat → Int32) (kc_40 : Nat) (ks_41 : Nat), (kc_40 ≤ 17 ∧ (ks_41 ≤ 17 ∧ (Q (x3_38 &&& (r_3 ^^^ (-1))) a_39))) → J79 x3_38 a_39 kc_40 ks_41) →
wp_X1_controlledBy_L21 wa wy un ga lo mo li kt wk wd f t w c o nd rt ex mn kp dp tw wt st tn tr tre tm ts v J79 0 0 ou_3 1 1))))) ∧
 (r_1 = 0 → (Q 0 ou))))))
theorem pf_X1_controlledBy (N : NetM) (V : Nat) (wa wy un ga lo mo li kt wk wd : Int32) (f t w c o : Nat → Int32) (nd rt ex mn : Int32) (kp dp tw wt st : Nat → Int32) (tn tr tre tm ts : Int32) (ou : Nat → Int32) (v : Int32) (hp : pr_X1_controlledBy N V wa wy un ga lo mo li kt wk wd f t w c o nd rt ex mn kp dp tw wt st tn tr tre tm ts ou v) : wp_X1_controlledBy wa wy un ga lo mo li kt wk wd f t w c o nd rt ex mn kp dp tw wt st tn tr tre tm ts ou v (ps_X1_controlledBy N V wa wy un ga lo mo li kt wk wd f t w c o nd rt ex mn kp dp tw wt st tn tr tre tm ts ou v) := by
  obtain ⟨hN, hT, rfl, hV⟩ := hp
  have h16 := hN.n16
  refine ⟨N, V, ⟨hN, hT, rfl, hV⟩, fun r1 h1 => ⟨fun z => ⟨N, V, ⟨hN, hT, rfl, hV⟩, fun r3 ou3 h3 J hJ X hX => ?_⟩, fun z => IsSet.zero.congr (fun g _ => ⟨fun q => q.elim, fun q => IsB.neg h1 z ⟨q.1, Rs.flip_iff.2 q.2.1⟩⟩)⟩⟩
  have hR := IsB.pos h1 z
  have hRx : Rd N.X N.exit V := Rs.flip hR.2
  obtain ⟨hS, -⟩ := h3
  have hnd := hN.nd
  subst hnd
  refine up4 N.n (fun k s a kc ks => IsSet s (fun x => ∃ n, n < k ∧ N.E V n ∧ Dm N.X N.exit x n) ∧ kc ≤ 1 + k ∧ ks ≤ 1 + k) (fun k s a kc ks hk hI hh => ?_) (fun s a kc ks hI => hX _ _ _ _ _ ⟨fun _ => hJ _ _ _ _ ⟨by have := hI.2.1; omega, by have := hI.2.2; omega, (hI.1.andNot hS).congr (fun x _ => ⟨fun q => ⟨hR.1, hRx, by obtain ⟨⟨n, -, q1, q2⟩, -⟩ := q; exact ⟨n, q1, q2⟩, q.2⟩, fun q => ⟨by obtain ⟨-, -, ⟨n, q1, q2⟩, -⟩ := q; exact ⟨n, (NetM.E_lt hN.1 q1).2, q1, q2⟩, q.2.2.2⟩⟩)⟩, fun q => absurd (Int32.le_refl _) q⟩) 0 0 ou3 1 1 (Nat.zero_le _) ⟨IsSet.zero.congr (fun x _ => ⟨fun q => q.elim, fun q => by obtain ⟨n, h, -⟩ := q; omega⟩), by omega, by omega⟩
  obtain ⟨i1', i2', i3'⟩ := hI
  refine hX _ _ _ _ _ ⟨fun q => absurd q (by rw [leN (by omega) (by omega)]; omega), fun _ => ⟨hN.in16N hV, ⟨by omega, by omega⟩, fun r5 h5 => ?_⟩⟩
  rw [clN (by omega)] at h5
  have hw := hN.rows (a := V) (by omega)
  have keep : (¬ (N.E V k ∧ Rd N.X N.exit k)) → IsSet s (fun x => ∃ n, n < k + 1 ∧ N.E V n ∧ Dm N.X N.exit x n) := fun no => i1'.congr (fun x _ => ⟨fun q => by obtain ⟨n, q1, q2⟩ := q; exact ⟨n, by omega, q2⟩, fun q => by
    obtain ⟨n, q1, q2, q3⟩ := q
    by_cases e : n = k
    · subst e; exact absurd ⟨q2, q3.R⟩ no
    · exact ⟨n, by omega, q2, q3⟩⟩)
  refine ⟨fun y => hh _ _ _ _ ⟨keep (fun q => has_z h5 hw (by omega) y q.1), by omega, by omega⟩, fun y => ⟨⟨by omega, by omega⟩, N, k, ⟨hN, hT, rfl, hk⟩, fun r6 h6 => ⟨fun y2 => hh _ _ _ _ ⟨keep (fun q => ?_), by omega, by omega⟩, fun y2 => ⟨⟨by omega, by omega⟩, N, k, ⟨hN, hT, rfl, hk⟩, fun r7 ou7 h7 => hh _ _ _ _ ⟨?_, by omega, by omega⟩⟩⟩⟩⟩
  · exact IsB.neg h6 y2 ⟨hR.1.step q.1, Rs.flip_iff.2 q.2⟩
  · have hE := has_p h5 hw (by omega) y
    have hk6 := IsB.pos h6 y2
    have hkx : Rd N.X N.exit k := Rs.flip hk6.2
    refine (i1'.or (IsSet.or h7.1 (IsSet.bit (k := k) (by omega)))).congr (fun x _ => ⟨fun q => ?_, fun q => ?_⟩)
    · rcases q with ⟨n, q1, q2⟩ | q | q
      · exact ⟨n, by omega, q2⟩
      · exact ⟨k, by omega, hE, q.2.2⟩
      · subst q; exact ⟨x, by omega, hE, Dm.refl hkx⟩
    · obtain ⟨n, q1, q2, q3⟩ := q
      by_cases e : n = k
      · subst e
        by_cases e2 : x = n
        · exact Or.inr (Or.inr e2)
        · exact Or.inr (Or.inl ⟨hk6.1, e2, q3⟩)
      · exact Or.inl ⟨n, by omega, q2, q3⟩
def pr_X1_spans (N : NetM) (wa wy un ga lo mo li kt wk wd : Int32) (f t w c o : Nat → Int32) (nd rt ex mn : Int32) (kp dp tw wt st : Nat → Int32) (tn tr tre tm ts : Int32) (ou : Nat → Int32) : Prop := NetR N f t w c o nd rt ex mn ∧ TreR N.E N.root N.n kp dp tw tn tr tre
def ps_X1_spans (N : NetM) (wa wy un ga lo mo li kt wk wd : Int32) (f t w c o : Nat → Int32) (nd rt ex mn : Int32) (kp dp tw wt st : Nat → Int32) (tn tr tre tm ts : Int32) (ou : Nat → Int32) (r : Int32) (ou' : Nat → Int32) : Prop := r = nI (smP N.n (Rd N.E N.root) (fun a => cnt 16 (fun x => Pd N.E N.root a x ∧ OutG N a x)))
def wp_X1_spans_L4 (wa wy un ga lo mo li kt wk wd : Int32) (f t w c o : Nat → Int32) (nd rt ex mn : Int32) (kp dp tw wt st : Nat → Int32) (tn tr tre tm ts : Int32) (J56 : Int32 → (Nat → Int32) → Nat → Nat → Prop) (ix2_37 ix1_38 : Int32) (ia_39 : Nat → Int32) (ikc_40 iks_41 : Nat) : Prop :=
  ∀ X4 : Int32 → Int32 → (Nat → Int32) → Nat → Nat → Prop, (∀ (x2_37 : Int32) (x1_38 : Int32) (a_39 : Nat → Int32) (kc_40 : Nat) (ks_41 : Nat), (((nd ≤ x2_37 → (J56 x1_38 a_39 kc_40 ks_41)) ∧
 (¬ (nd ≤ x2_37) → ((kc_40 + 0 ≤ 32 ∧ ks_41 + 0 ≤ 48) ∧ (∀ (r_44 : Int32), ps_X1_has tre x2_37 r_44 → (((r_44 = 0 → (X4 (x2_37 + 1) (x1_38 + 0) a_39 (kc_40 + 0) (ks_41 + 0))) ∧
 (¬ (r_44 = 0) → ((kc_40 + 1 ≤ 32 ∧ ks_41 + 2 ≤ 48) ∧ (∃ (N_46 : NetM) (V_46 : Nat), (pr_X1_keptBy N_46 V_46 wa wy un ga lo mo li kt wk wd f t w c o nd rt ex mn kp dp tw wt st tn tr tre tm ts x2_37 ∧ (∀ (r_46 : Int32), ps_X1_keptBy N_46 V_46 wa wy un ga lo mo li kt wk wd f t w c o nd rt ex mn kp dp tw wt st tn tr tre tm ts x2_37 r_46 → ((kc_40 + 2 ≤ 32 ∧ ks_41 + 3 ≤ 48) ∧ (∃ (N_47 : NetM) (V_47 : Nat), (pr_X1_outGatesOf N_47 V_47 wa wy un ga lo mo li kt wk wd f t w c o nd rt ex mn kp dp tw wt st tn tr tre tm ts a_39 x2_37 ∧ (∀ (r_47 : Int32) (ou_47 : Nat → Int32), ps_X1_outGatesOf N_47 V_47 wa wy un ga lo mo li kt wk wd f t w c o nd rt ex mn kp dp tw wt st tn tr tre tm ts a_39 x2_37 r_47 ou_47 → ((kc_40 + 2 ≤ 32 ∧ ks_41 + 3 ≤ 48) ∧ (pr_J7_bitCount (r_46 &&& r_47) ∧ (∀ (r_48 : Int32), ps_J7_bitCount (r_46 &&& r_47) r_48 → (X4 (x2_37 + 1) (x1_38 + r_48) ou_47 (kc_40 + 2) (ks_41 + 3))))))))))))))))))))) → X4 x2_37 x1_38 a_39 kc_40 ks_41) → X4 ix2_37 ix1_38 ia_39 ikc_40 iks_41
def wp_X1_spans (wa wy un ga lo mo li kt wk wd : Int32) (f t w c o : Nat → Int32) (nd rt ex mn : Int32) (kp dp tw wt st : Nat → Int32) (tn tr tre tm ts : Int32) (ou : Nat → Int32) (Q : Int32 → (Nat → Int32) → Prop) : Prop :=
  ∀ J56 : Int32 → (Nat → Int32) → Nat → Nat → Prop, (∀ (x1_32 : Int32) (a_33 : Nat → Int32) (kc_34 : Nat) (ks_35 : Nat), (kc_34 ≤ 32 ∧ (ks_35 ≤ 48 ∧ (Q x1_32 a_33))) → J56 x1_32 a_33 kc_34 ks_35) →
wp_X1_spans_L4 wa wy un ga lo mo li kt wk wd f t w c o nd rt ex mn kp dp tw wt st tn tr tre tm ts J56 0 0 ou 0 0
theorem pf_X1_spans (N : NetM) (wa wy un ga lo mo li kt wk wd : Int32) (f t w c o : Nat → Int32) (nd rt ex mn : Int32) (kp dp tw wt st : Nat → Int32) (tn tr tre tm ts : Int32) (ou : Nat → Int32) (hp : pr_X1_spans N wa wy un ga lo mo li kt wk wd f t w c o nd rt ex mn kp dp tw wt st tn tr tre tm ts ou) : wp_X1_spans wa wy un ga lo mo li kt wk wd f t w c o nd rt ex mn kp dp tw wt st tn tr tre tm ts ou (ps_X1_spans N wa wy un ga lo mo li kt wk wd f t w c o nd rt ex mn kp dp tw wt st tn tr tre tm ts ou) := by
  obtain ⟨hN, hT⟩ := hp
  intro J hJ X hX
  have h16 := hN.n16
  have hnd := hN.nd
  subst hnd
  refine up4 N.n (fun k s a kc ks => s = nI (smP k (Rd N.E N.root) (fun a => cnt 16 (fun x => Pd N.E N.root a x ∧ OutG N a x))) ∧ kc ≤ k * 2 ∧ ks ≤ k * 3) (fun k s a kc ks hk hI hh => ?_) (fun s a kc ks hI => hX _ _ _ _ _ ⟨fun _ => hJ _ _ _ _ ⟨by have := hI.2.1; omega, by have := hI.2.2; omega, hI.1⟩, fun q => absurd (Int32.le_refl _) q⟩) 0 0 ou 0 0 (Nat.zero_le _) ⟨rfl, by omega, by omega⟩
  obtain ⟨i1', i2', i3'⟩ := hI
  refine hX _ _ _ _ _ ⟨fun q => absurd q (by rw [leN (by omega) (by omega)]; omega), fun _ => ⟨⟨by omega, by omega⟩, fun r1 h1 => ⟨fun z => hh _ _ _ _ ⟨by rw [i1', smP_n (has_z h1 hT.2.2.2.2 (by omega) z), nI_z], by omega, by omega⟩, fun z => ⟨⟨by omega, by omega⟩, N, k, ⟨hN, hT, rfl, hk⟩, fun r2 h2 => ⟨⟨by omega, by omega⟩, N, k, ⟨hN, hT, rfl, hk⟩, fun r3 ou3 h3 => ⟨⟨by omega, by omega⟩, B16.of (IsSet.and h2 h3.1), fun r4 h4 => hh _ _ _ _ ⟨?_, by omega, by omega⟩⟩⟩⟩⟩⟩⟩
  have h4 : r4 = nI (pc (r2 &&& r3)) := h4
  rw [pc_set (P := fun x => Pd N.E N.root k x ∧ OutG N k x) (IsSet.and h2 h3.1)] at h4
  rw [i1', smP_s (has_p h1 hT.2.2.2.2 (by omega) z), h4, nI_add]
