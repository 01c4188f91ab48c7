/-! what is told of a node (own work) -/
def KeepIs (N : NetM) (v : Nat) (r : Int32) : Prop := (r = -1 ∧ ∀ g, ¬ Id N.E N.root g v) ∨ ∃ g, r = nI g ∧ g < 16 ∧ Id N.E N.root g v
def DepIs (N : NetM) (v : Nat) (r : Int32) : Prop := (¬ Rd N.E N.root v ∧ r = -1) ∨ (Rd N.E N.root v ∧ r = nI (dep N.E N.root N.n v))
def FeeIs (N : NetM) (v : Nat) (r : Int32) : Prop := (¬ Rd N.E N.root v ∧ r = -1) ∨ (Rd N.E N.root v ∧ r = nI (smP N.n (fun g => Dm N.E N.root g v) N.tl))
def NodeIs (N : NetM) (v : Nat) (r : Int32) : Nat → Prop
  | 0 => IsB r (Rd N.E N.root v)
  | 1 => KeepIs N v r
  | 2 => DepIs N v r
  | 3 => IsSet r (fun n => Pd N.E N.root n v)
  | 4 => IsSet r (fun n => Pd N.E N.root v n)
  | 5 => IsSet r (fun n0 => n0 < N.n ∧ (Id N.E N.root v n0))
  | 6 => IsSet r (fun b => Rd N.E N.root v ∧ ∃ n, Dm N.E N.root v n ∧ N.E n b ∧ ¬ Pd N.E N.root v b)
  | 7 => IsSet r (fun n => Body N.E N.root v n)
  | 8 => r = nI (cnt 16 (fun h => h < N.n ∧ Body N.E N.root h v))
  | 9 => NearIs N.E N.root v r
  | 10 => OutK N v r
  | 11 => IsSet r (OutG N v)
  | 12 => HardIs N v r
  | 13 => WallIs N v r
  | 14 => r = nI (N.tl v)
  | 15 => FeeIs N v r
  | 16 => FareIs N v r
  | 17 => IsSet r (Ctl N v)
  | 18 => IsSet r (fun n => Rd N.E N.root v ∧ Rs N.E (fun z => z = v) (fun _ => False) n ∧ Rs N.E (fun z => z = n) (fun _ => False) v)
  | 19 => InnerIs N.E N.root N.n v 0 r
  | 20 => OuterIs N.E N.root N.n v r
  | _ => IsSet r (fun x => Rd N.E N.root v ∧ TiedTo N v x)
theorem Id.noroot {E : Nat → Nat → Prop} {r g : Nat} (h : Id E r g r) : False := h.1.1 (h.1.2.antisymm (Dm.root h.1.2.Rg))
/-! node: contracts, pure predicates (printed by gen.py) -/
def pr_X1_node (N : NetM) (wa wy un ga lo mo li kt wk wd : Int32) (f t w c o : Nat → Int32) (nd rt ex mn : Int32) (kp dp tw wt st : Nat → Int32) (tn tr tre tm ts : Int32) (ou fa : Nat → Int32) (ra : Nat → Nat) (by_ rw_ : Nat → Int32) (rm : Nat → Nat → Int32) (v j : Int32) : Prop := NetR N f t w c o nd rt ex mn ∧ TreR N.E N.root N.n kp dp tw tn tr tre
def ps_X1_node (N : NetM) (wa wy un ga lo mo li kt wk wd : Int32) (f t w c o : Nat → Int32) (nd rt ex mn : Int32) (kp dp tw wt st : Nat → Int32) (tn tr tre tm ts : Int32) (ou fa : Nat → Int32) (ra : Nat → Nat) (by_ rw_ : Nat → Int32) (rm : Nat → Nat → Int32) (v j : Int32) (r : Int32) (w' o' ou' fa' by_' rw_' : Nat → Int32) (rm' : Nat → Nat → Int32) : Prop := NetR N f t w' c o' nd rt ex mn ∧ ∃ V, v = nI V ∧ V < N.n ∧ (∃ J, j = nI J ∧ J ≤ 21 ∧ NodeIs N V r J)
def px_X1_node (N : NetM) (wa wy un ga lo mo li kt wk wd : Int32) (f t w c o : Nat → Int32) (nd rt ex mn : Int32) (kp dp tw wt st : Nat → Int32) (tn tr tre tm ts : Int32) (ou fa : Nat → Int32) (ra : Nat → Nat) (by_ rw_ : Nat → Int32) (rm : Nat → Nat → Int32) (v j : Int32) (E : String) (w' o' ou' fa' by_' rw_' : Nat → Int32) (rm' : Nat → Nat → Int32) : Prop := w' = w ∧ o' = o ∧ ((¬ (0 ≤ v ∧ v < nI N.n) ∧ E = "java/lang/IndexOutOfBoundsException") ∨ ((0 ≤ v ∧ v < nI N.n) ∧ ¬ (0 ≤ j ∧ j ≤ 21) ∧ E = "java/util/NoSuchElementException"))
def wp_X1_node (wa wy un ga lo mo li kt wk wd : Int32) (f t w c o : Nat → Int32) (nd rt ex mn : Int32) (kp dp tw wt st : Nat → Int32) (tn tr tre tm ts : Int32) (ou fa : Nat → Int32) (ra : Nat → Nat) (by_ rw_ : Nat → Int32) (rm : Nat → Nat → Int32) (v j : Int32) (Q : Int32 → (Nat → Int32) → (Nat → Int32) → (Nat → Int32) → (Nat → Int32) → (Nat → Int32) → (Nat → Int32) → (Nat → Nat → Int32) → Prop) (QX : String → (Nat → Int32) → (Nat → Int32) → (Nat → Int32) → (Nat → Int32) → (Nat → Int32) → (Nat → Int32) → (Nat → Nat → Int32) → Prop) : Prop :=
  (∀ (E_1 : String), px_X1_isNode wa wy un ga lo mo li kt wk wd f t w c o nd rt ex mn kp dp tw wt st tn tr tre tm ts v E_1 → QX E_1 w o ou fa by_ rw_ rm) ∧ (ps_X1_isNode wa wy un ga lo mo li kt wk wd f t w c o nd rt ex mn kp dp tw wt st tn tr tre tm ts v → (∀ (r_2 : Int32), ps_X1_isIn j 0 21 r_2 → ((∀ (E_3 : String), px_X1_thereIs r_2 E_3 → QX E_3 w o ou fa by_ rw_ rm) ∧ (ps_X1_thereIs r_2 → (∀ (r_4 : Int32), ps_X1_has tre v r_4 → (∀ J364 : Int32 → (Nat → Int32) → (Nat → Int32) → (Nat → Int32) → (Nat → Int32) → (Nat → Int32) → (Nat → Int32) → (Nat → Nat → Int32) → Prop, (∀ (t_35 : Int32) (a_36 : Nat → Int32) (a_37 : Nat → Int32) (a_38 : Nat → Int32) (a_39 : Nat → Int32) (a_40 : Nat → Int32) (a_41 : Nat → Int32) (g_42 : Nat → Nat → Int32), (Q t_35 a_36 a_37 a_38 a_39 a_40 a_41 g_42) → J364 t_35 a_36 a_37 a_38 a_39 a_40 a_41 g_42) →
((j.toInt < 0 ∨ 20 < j.toInt → ((r_4 = 0 → (J364 0 w o ou fa by_ rw_ rm)) ∧
 (¬ (r_4 = 0) → (∃ (N_46 : NetM) (V_46 : Nat), (pr_X1_tiedTo N_46 V_46 wa wy un ga lo mo li kt wk wd f t w c o nd rt ex mn kp dp tw wt st tn tr tre tm ts v ∧ (∀ (r_46 : Int32) (w_46 o_46 : Nat → Int32), ps_X1_tiedTo N_46 V_46 wa wy un ga lo mo li kt wk wd f t w c o nd rt ex mn kp dp tw wt st tn tr tre tm ts v r_46 w_46 o_46 → (J364 r_46 w_46 o_46 ou fa by_ rw_ rm))))))) ∧
(j.toInt = 0 → ((r_4 = 0 → (J364 0 w o ou fa by_ rw_ rm)) ∧
 (¬ (r_4 = 0) → (J364 1 w o ou fa by_ rw_ rm)))) ∧
(j.toInt = 1 → ((r_4 = 0 → (J364 (-1) w o ou fa by_ rw_ rm)) ∧
 (¬ (r_4 = 0) → (vp_in v 16 ∧ (J364 (kp v.toNatClampNeg) w o ou fa by_ rw_ rm))))) ∧
(j.toInt = 2 → ((r_4 = 0 → (J364 (-1) w o ou fa by_ rw_ rm)) ∧
 (¬ (r_4 = 0) → (vp_in v 16 ∧ (J364 (dp v.toNatClampNeg) w o ou fa by_ rw_ rm))))) ∧
(j.toInt = 3 → (∃ (N_52 : NetM) (V_52 : Nat), (pr_X1_gatesOf N_52 V_52 wa wy un ga lo mo li kt wk wd f t w c o nd rt ex mn kp dp tw wt st tn tr tre tm ts v ∧ (∀ (r_52 : Int32), ps_X1_gatesOf N_52 V_52 wa wy un ga lo mo li kt wk wd f t w c o nd rt ex mn kp dp tw wt st tn tr tre tm ts v r_52 → (J364 r_52 w o ou fa by_ rw_ rm))))) ∧
(j.toInt = 4 → (∃ (N_53 : NetM) (V_53 : Nat), (pr_X1_keptBy N_53 V_53 wa wy un ga lo mo li kt wk wd f t w c o nd rt ex mn kp dp tw wt st tn tr tre tm ts v ∧ (∀ (r_53 : Int32), ps_X1_keptBy N_53 V_53 wa wy un ga lo mo li kt wk wd f t w c o nd rt ex mn kp dp tw wt st tn tr tre tm ts v r_53 → (J364 r_53 w o ou fa by_ rw_ rm))))) ∧
(j.toInt = 5 → (∃ (N_56 : NetM) (V_56 : Nat), (pr_X1_bits_own N_56 V_56 wa wy un ga lo mo li kt wk wd f t w c o nd rt ex mn kp dp tw wt st tn tr tre tm ts v ∧ (∀ (r_56 : Int32), ps_X1_bits_own N_56 V_56 wa wy un ga lo mo li kt wk wd f t w c o nd rt ex mn kp dp tw wt st tn tr tre tm ts v r_56 → (J364 r_56 w o ou fa by_ rw_ rm))))) ∧
(j.toInt = 6 → (∃ (N_57 : NetM) (V_57 : Nat), (pr_X1_edgeOf N_57 V_57 wa wy un ga lo mo li kt wk wd f t w c o nd rt ex mn kp dp tw wt st tn tr tre tm ts v ∧ (∀ (r_57 : Int32), ps_X1_edgeOf N_57 V_57 wa wy un ga lo mo li kt wk wd f t w c o nd rt ex mn kp dp tw wt st tn tr tre tm ts v r_57 → (J364 r_57 w o ou fa by_ rw_ rm))))) ∧
(j.toInt = 7 → (∃ (N_58 : NetM) (V_58 : Nat), (pr_X1_bodyOf N_58 V_58 wa wy un ga lo mo li kt wk wd f t w c o nd rt ex mn kp dp tw wt st tn tr tre tm ts v ∧ (∀ (r_58 : Int32), ps_X1_bodyOf N_58 V_58 wa wy un ga lo mo li kt wk wd f t w c o nd rt ex mn kp dp tw wt st tn tr tre tm ts v r_58 → (J364 r_58 w o ou fa by_ rw_ rm))))) ∧
(j.toInt = 8 → (∃ (N_59 : NetM) (V_59 : Nat), (pr_X1_nestOf N_59 V_59 wa wy un ga lo mo li kt wk wd f t w c o nd rt ex mn kp dp tw wt st tn tr tre tm ts v ∧ (∀ (r_59 : Int32), ps_X1_nestOf N_59 V_59 wa wy un ga lo mo li kt wk wd f t w c o nd rt ex mn kp dp tw wt st tn tr tre tm ts v r_59 → (J364 r_59 w o ou fa by_ rw_ rm))))) ∧
(j.toInt = 9 → (∃ (N_60 : NetM) (V_60 : Nat), (pr_X1_nearOf N_60 V_60 wa wy un ga lo mo li kt wk wd f t w c o nd rt ex mn kp dp tw wt st tn tr tre tm ts v ∧ (∀ (r_60 : Int32), ps_X1_nearOf N_60 V_60 wa wy un ga lo mo li kt wk wd f t w c o nd rt ex mn kp dp tw wt st tn tr tre tm ts v r_60 → (J364 r_60 w o ou fa by_ rw_ rm))))) ∧
(j.toInt = 10 → (∃ (N_61 : NetM) (V_61 : Nat), (pr_X1_outKeeperOf N_61 V_61 wa wy un ga lo mo li kt wk wd f t w c o nd rt ex mn kp dp tw wt st tn tr tre tm ts ou v ∧ (∀ (r_61 : Int32) (ou_61 : Nat → Int32), ps_X1_outKeeperOf N_61 V_61 wa wy un ga lo mo li kt wk wd f t w c o nd rt ex mn kp dp tw wt st tn tr tre tm ts ou v r_61 ou_61 → (J364 r_61 w o ou_61 fa by_ rw_ rm))))) ∧
(j.toInt = 11 → (∃ (N_62 : NetM) (V_62 : Nat), (pr_X1_outGatesOf N_62 V_62 wa wy un ga lo mo li kt wk wd f t w c o nd rt ex mn kp dp tw wt st tn tr tre tm ts ou v ∧ (∀ (r_62 : Int32) (ou_62 : Nat → Int32), ps_X1_outGatesOf N_62 V_62 wa wy un ga lo mo li kt wk wd f t w c o nd rt ex mn kp dp tw wt st tn tr tre tm ts ou v r_62 ou_62 → (J364 r_62 w o ou_62 fa by_ rw_ rm))))) ∧
(j.toInt = 12 → (∃ (N_63 : NetM) (V_63 : Nat), (pr_X1_hardOf N_63 V_63 wa wy un ga lo mo li kt wk wd f t w c o nd rt ex mn kp dp tw wt st tn tr tre tm ts ra by_ rw_ rm v ∧ (∀ (r_63 : Int32) (by__63 rw__63 : Nat → Int32) (rm_63 : Nat → Nat → Int32), ps_X1_hardOf N_63 V_63 wa wy un ga lo mo li kt wk wd f t w c o nd rt ex mn kp dp tw wt st tn tr tre tm ts ra by_ rw_ rm v r_63 by__63 rw__63 rm_63 → (J364 r_63 w o ou fa by__63 rw__63 rm_63))))) ∧
(j.toInt = 13 → (∃ (N_64 : NetM) (V_64 : Nat), (pr_X1_wallOf N_64 V_64 wa wy un ga lo mo li kt wk wd f t w c o nd rt ex mn kp dp tw wt st tn tr tre tm ts ra by_ rw_ rm v ∧ (∀ (r_64 : Int32) (by__64 rw__64 : Nat → Int32) (rm_64 : Nat → Nat → Int32), ps_X1_wallOf N_64 V_64 wa wy un ga lo mo li kt wk wd f t w c o nd rt ex mn kp dp tw wt st tn tr tre tm ts ra by_ rw_ rm v r_64 by__64 rw__64 rm_64 → (J364 r_64 w o ou fa by__64 rw__64 rm_64))))) ∧
(j.toInt = 14 → (vp_in v 16 ∧ (J364 (c v.toNatClampNeg) w o ou fa by_ rw_ rm))) ∧
(j.toInt = 15 → ((r_4 = 0 → (J364 (-1) w o ou fa by_ rw_ rm)) ∧
 (¬ (r_4 = 0) → (∃ (N_67 : NetM) (V_67 : Nat), (pr_X1_feeOf 17 N_67 V_67 wa wy un ga lo mo li kt wk wd f t w c o nd rt ex mn kp dp tw wt st tn tr tre tm ts v ∧ (∀ (r_67 : Int32), ps_X1_feeOf N_67 V_67 wa wy un ga lo mo li kt wk wd f t w c o nd rt ex mn kp dp tw wt st tn tr tre tm ts v r_67 → (J364 r_67 w o ou fa by_ rw_ rm))))))) ∧
(j.toInt = 16 → (∃ (N_68 : NetM) (V_68 : Nat), (pr_X1_fareOf N_68 V_68 wa wy un ga lo mo li kt wk wd f t w c o nd rt ex mn kp dp tw wt st tn tr tre tm ts fa v ∧ (∀ (r_68 : Int32) (fa_68 : Nat → Int32), ps_X1_fareOf N_68 V_68 wa wy un ga lo mo li kt wk wd f t w c o nd rt ex mn kp dp tw wt st tn tr tre tm ts fa v r_68 fa_68 → (J364 r_68 w o ou fa_68 by_ rw_ rm))))) ∧
(j.toInt = 17 → (∃ (N_69 : NetM) (V_69 : Nat), (pr_X1_controlledBy N_69 V_69 wa wy un ga lo mo li kt wk wd f t w c o nd rt ex mn kp dp tw wt st tn tr tre tm ts ou v ∧ (∀ (r_69 : Int32) (ou_69 : Nat → Int32), ps_X1_controlledBy N_69 V_69 wa wy un ga lo mo li kt wk wd f t w c o nd rt ex mn kp dp tw wt st tn tr tre tm ts ou v r_69 ou_69 → (J364 r_69 w o ou_69 fa by_ rw_ rm))))) ∧
(j.toInt = 18 → ((r_4 = 0 → (J364 0 w o ou fa by_ rw_ rm)) ∧
 (¬ (r_4 = 0) → (∃ (N_71 : NetM) (V_71 : Nat), (pr_X1_ringOf N_71 V_71 wa wy un ga lo mo li kt wk wd f t w c o nd rt ex mn kp dp tw wt st tn tr tre tm ts v ∧ (∀ (r_71 : Int32), ps_X1_ringOf N_71 V_71 wa wy un ga lo mo li kt wk wd f t w c o nd rt ex mn kp dp tw wt st tn tr tre tm ts v r_71 → (J364 r_71 w o ou fa by_ rw_ rm))))))) ∧
(j.toInt = 19 → (∃ (N_72 : NetM) (V_72 M_72 : Nat), (pr_X1_innerOf N_72 V_72 M_72 wa wy un ga lo mo li kt wk wd f t w c o nd rt ex mn kp dp tw wt st tn tr tre tm ts v 0 ∧ (∀ (r_72 : Int32), ps_X1_innerOf N_72 V_72 M_72 wa wy un ga lo mo li kt wk wd f t w c o nd rt ex mn kp dp tw wt st tn tr tre tm ts v 0 r_72 → (J364 r_72 w o ou fa by_ rw_ rm))))) ∧
(j.toInt = 20 → (∃ (N_73 : NetM) (V_73 : Nat), (pr_X1_outerOf N_73 V_73 wa wy un ga lo mo li kt wk wd f t w c o nd rt ex mn kp dp tw wt st tn tr tre tm ts v ∧ (∀ (r_73 : Int32), ps_X1_outerOf N_73 V_73 wa wy un ga lo mo li kt wk wd f t w c o nd rt ex mn kp dp tw wt st tn tr tre tm ts v r_73 → (J364 r_73 w o ou fa by_ rw_ rm))))))))))))
theorem pf_X1_node (N : NetM) (wa wy un ga lo mo li kt wk wd : Int32) (f t w c o : Nat → Int32) (nd rt ex mn : Int32) (kp dp tw wt st : Nat → Int32) (tn tr tre tm ts : Int32) (ou fa : Nat → Int32) (ra : Nat → Nat) (by_ rw_ : Nat → Int32) (rm : Nat → Nat → Int32) (v j : Int32) (hp : pr_X1_node N wa wy un ga lo mo li kt wk wd f t w c o nd rt ex mn kp dp tw wt st tn tr tre tm ts ou fa ra by_ rw_ rm v j) : wp_X1_node wa wy un ga lo mo li kt wk wd f t w c o nd rt ex mn kp dp tw wt st tn tr tre tm ts ou fa ra by_ rw_ rm v j (ps_X1_node N wa wy un ga lo mo li kt wk wd f t w c o nd rt ex mn kp dp tw wt st tn tr tre tm ts ou fa ra by_ rw_ rm v j) (px_X1_node N wa wy un ga lo mo li kt wk wd f t w c o nd rt ex mn kp dp tw wt st tn tr tre tm ts ou fa ra by_ rw_ rm v j) := by
  obtain ⟨hN, hT⟩ := hp
  have hn := hN.n16
  have e := hN.nd
  subst e
  refine ⟨fun E h => ⟨rfl, rfl, Or.inl h⟩, fun h1 r2 h2 => ?_⟩
  have h2 : r2 = i1 (0 ≤ j ∧ j ≤ 21) := h2
  refine ⟨fun E h => ⟨rfl, rfl, Or.inr ⟨h1, i1_eq0.1 (h2.symm.trans h.1), h.2⟩⟩, fun h3 r4 h4 J364 hJ364 => ?_⟩
  have hj := Classical.not_not.1 (fun q => h3 (h2.trans (i1_eq0.2 q)))
  obtain ⟨V, hV, rfl⟩ := (of_in (by omega)).1 h1
  obtain ⟨J, hJ, rfl⟩ := nat_of (n := 21) (by decide) hj.1 hj.2
  rw [nI_toInt (by omega), clN (k := V) (by omega)]
  have hv : vp_in (nI V) 16 := vp_in_nI (by omega) (by decide)
  have fin : ∀ r w2 o2 ou2 fa2 by2 rw2 rm2, NetR N f t w2 c o2 (nI N.n) rt ex mn → NodeIs N V r J → J364 r w2 o2 ou2 fa2 by2 rw2 rm2 := fun r w2 o2 ou2 fa2 by2 rw2 rm2 hN2 hr => hJ364 _ _ _ _ _ _ _ _ ⟨hN2, V, rfl, hV, J, rfl, hJ, hr⟩
  have no : r4 = 0 → ¬ Rd N.E N.root V := fun z => has_z h4 hT.2.2.2.2 (by omega) z
  have yes : ¬ r4 = 0 → Rd N.E N.root V := fun z => has_p h4 hT.2.2.2.2 (by omega) z
  have hn2 := hT.1.2.1
  have keep : Rd N.E N.root V → KeepIs N V (kp V) := fun hR => by
    by_cases q : V = N.root
    · exact Or.inl ⟨by rw [q]; exact hT.1.2.2.2.1, fun g z => by rw [q] at z; exact z.noroot⟩
    · obtain ⟨g, g1, g2, g3, -, -⟩ := hT.1.up hR q
      exact Or.inr ⟨g, g1, by omega, g2⟩
  refine ⟨fun z => ⟨fun y => fin _ _ _ _ _ _ _ _ hN (by obtain rfl : J = 21 := (by omega); exact IsSet.zero.congr (fun x _ => ⟨fun q => q.elim, fun q => no y q.1⟩)), fun y => ⟨N, V, ⟨hN, hT, rfl, hV⟩, fun r w6 o6 h => fin _ _ _ _ _ _ _ _ h.1 (by obtain rfl : J = 21 := (by omega); exact h.2.congr (fun x _ => ⟨fun q => ⟨yes y, q⟩, fun q => q.2⟩))⟩⟩,
    fun z => ⟨fun y => fin _ _ _ _ _ _ _ _ hN (by obtain rfl : J = 0 := (by omega); exact isB0 (no y)), fun y => fin _ _ _ _ _ _ _ _ hN (by obtain rfl : J = 0 := (by omega); exact isB1 (yes y))⟩,
    fun z => ⟨fun y => fin _ _ _ _ _ _ _ _ hN (by obtain rfl : J = 1 := (by omega); exact Or.inl ⟨rfl, fun g q => no y q.1.2.1⟩), fun y => ⟨hv, fin _ _ _ _ _ _ _ _ hN (by obtain rfl : J = 1 := (by omega); exact keep (yes y))⟩⟩,
    fun z => ⟨fun y => fin _ _ _ _ _ _ _ _ hN (by obtain rfl : J = 2 := (by omega); exact Or.inl ⟨no y, rfl⟩), fun y => ⟨hv, fin _ _ _ _ _ _ _ _ hN (by obtain rfl : J = 2 := (by omega); exact Or.inr ⟨yes y, hT.1.dp_eq (yes y)⟩)⟩⟩,
    fun z => ⟨N, V, ⟨hN, hT, rfl, hV⟩, fun r h => fin _ _ _ _ _ _ _ _ hN (by obtain rfl : J = 3 := (by omega); exact h)⟩,
    fun z => ⟨N, V, ⟨hN, hT, rfl, hV⟩, fun r h => fin _ _ _ _ _ _ _ _ hN (by obtain rfl : J = 4 := (by omega); exact h)⟩,
    fun z => ⟨N, V, ⟨hN, hT, rfl, hV⟩, fun r h => fin _ _ _ _ _ _ _ _ hN (by obtain rfl : J = 5 := (by omega); exact h)⟩,
    fun z => ⟨N, V, ⟨hN, hT, rfl, hV⟩, fun r h => fin _ _ _ _ _ _ _ _ hN (by obtain rfl : J = 6 := (by omega); exact h)⟩,
    fun z => ⟨N, V, ⟨hN, hT, rfl, hV⟩, fun r h => fin _ _ _ _ _ _ _ _ hN (by obtain rfl : J = 7 := (by omega); exact h)⟩,
    fun z => ⟨N, V, ⟨hN, hT, rfl, hV⟩, fun r h => fin _ _ _ _ _ _ _ _ hN (by obtain rfl : J = 8 := (by omega); exact h)⟩,
    fun z => ⟨N, V, ⟨hN, hT, rfl, hV⟩, fun r h => fin _ _ _ _ _ _ _ _ hN (by obtain rfl : J = 9 := (by omega); exact h)⟩,
    fun z => ⟨N, V, ⟨hN, hT, rfl, hV⟩, fun r ou2 h => fin _ _ _ _ _ _ _ _ hN (by obtain rfl : J = 10 := (by omega); exact h)⟩,
    fun z => ⟨N, V, ⟨hN, hT, rfl, hV⟩, fun r ou2 h => fin _ _ _ _ _ _ _ _ hN (by obtain rfl : J = 11 := (by omega); exact h.1)⟩,
    fun z => ⟨N, V, ⟨hN, hT, rfl, hV⟩, fun r b2 rw2 rm2 h => fin _ _ _ _ _ _ _ _ hN (by obtain rfl : J = 12 := (by omega); exact h)⟩,
    fun z => ⟨N, V, ⟨hN, hT, rfl, hV⟩, fun r b2 rw2 rm2 h => fin _ _ _ _ _ _ _ _ hN (by obtain rfl : J = 13 := (by omega); exact h)⟩,
    fun z => ⟨hv, fin _ _ _ _ _ _ _ _ hN (by obtain rfl : J = 14 := (by omega); exact hN.2.2.2.2.2.2.2.2.1 V (by omega))⟩,
    fun z => ⟨fun y => fin _ _ _ _ _ _ _ _ hN (by obtain rfl : J = 15 := (by omega); exact Or.inl ⟨no y, rfl⟩), fun y => ⟨N, V, ⟨hN, hT, rfl, yes y, by have := dep16 (E := N.E) (x := V) hn hN.1.2.2.1 (fun a b e => NetM.E_lt hN.1 e); omega⟩, fun r h => fin _ _ _ _ _ _ _ _ hN (by obtain rfl : J = 15 := (by omega); exact Or.inr ⟨yes y, h⟩)⟩⟩,
    fun z => ⟨N, V, ⟨hN, hT, rfl, hV⟩, fun r fa2 h => fin _ _ _ _ _ _ _ _ hN (by obtain rfl : J = 16 := (by omega); exact h)⟩,
    fun z => ⟨N, V, ⟨hN, hT, rfl, hV⟩, fun r ou2 h => fin _ _ _ _ _ _ _ _ hN (by obtain rfl : J = 17 := (by omega); exact h)⟩,
    fun z => ⟨fun y => fin _ _ _ _ _ _ _ _ hN (by obtain rfl : J = 18 := (by omega); exact IsSet.zero.congr (fun x _ => ⟨fun q => q.elim, fun q => no y q.1⟩)), fun y => ⟨N, V, ⟨hN, hT, rfl, hV⟩, fun r h => fin _ _ _ _ _ _ _ _ hN (by obtain rfl : J = 18 := (by omega); exact h.congr (fun x _ => ⟨fun q => ⟨yes y, q⟩, fun q => q.2⟩))⟩⟩,
    fun z => ⟨N, V, 0, ⟨hN, hT, rfl, hV, rfl, by omega⟩, fun r h => fin _ _ _ _ _ _ _ _ hN (by obtain rfl : J = 19 := (by omega); exact h)⟩,
    fun z => ⟨N, V, ⟨hN, hT, rfl, hV⟩, fun r h => fin _ _ _ _ _ _ _ _ hN (by obtain rfl : J = 20 := (by omega); exact h)⟩⟩
