/-! what moves from one tree to another one (own work) -/
def Mv (E : Nat → Nat → Prop) (r : Nat) (E' : Nat → Nat → Prop) (r' : Nat) (x : Nat) : Prop := Rd E r x ∧ Rd E' r' x ∧ ¬ ∀ g, Id E r g x ↔ Id E' r' g x
def Spare (N : NetM) (k : Nat) : Prop := N.op k = true ∧ (∀ x, Rd N.E N.root x → Rd (N.Eb k) N.root x) ∧ ∀ x, ¬ Mv N.E N.root (N.Eb k) N.root x
theorem NetM.Eb_turn (N : NetM) (k : Nat) : (N.turn k false).E = N.Eb k := funext fun _ => funext fun _ => propext NetM.turn_Eb
theorem TreK.ext {E : Nat → Nat → Prop} {r n : Nat} {kp dp kq dq : Nat → Int32} (h : TreK E r n kp dp) (e : ∀ j, j < 16 → kq j = kp j ∧ dq j = dp j) : TreK E r n kq dq := by
  have lt : ∀ x, Rd E r x → x < 16 := fun x hx => by have := h.lt hx; have := h.1; omega
  refine ⟨h.1, h.2.1, h.2.2.1, ?_, fun x hx hr => ?_, fun x hx => ?_⟩
  · rw [(e r (lt r Rd.root)).1]; exact h.2.2.2.1
  · rw [(e x (lt x hx)).1]; exact h.2.2.2.2.1 x hx hr
  · rw [(e x (lt x hx)).2]; exact h.2.2.2.2.2 x hx
theorem TreR.ext {E : Nat → Nat → Prop} {r n : Nat} {kp dp tw kq dq tq : Nat → Int32} {tn tr tre : Int32} (h : TreR E r n kp dp tw tn tr tre) (e : ∀ j, j < 16 → kq j = kp j ∧ dq j = dp j ∧ tq j = tw j) : TreR E r n kq dq tq tn tr tre :=
  ⟨h.1.ext (fun j hj => ⟨(e j hj).1, (e j hj).2.1⟩), h.2.1, h.2.2.1, fun a ha => by rw [(e a ha).2.2]; exact h.2.2.2.1 a ha, h.2.2.2.2⟩
/-- keepers differ just where gates differ -/
theorem TreK.mv {E E' : Nat → Nat → Prop} {r r' n n' : Nat} {kp dp kq dq : Nat → Int32} (h : TreK E r n kp dp) (h' : TreK E' r' n' kq dq) {x : Nat} (hx : Rd E r x) (hx' : Rd E' r' x) : kp x = kq x ↔ ∀ g, Id E r g x ↔ Id E' r' g x := by
  have hn := h.1
  have hn' := h'.1
  constructor
  · intro e g
    constructor
    · intro q
      have g16 : g < 16 := by have := h.lt q.1.2.Rg; omega
      exact (h'.kp_iff hx' g16).1 (e ▸ (h.kp_iff hx g16).2 q)
    · intro q
      have g16 : g < 16 := by have := h'.lt q.1.2.Rg; omega
      exact (h.kp_iff hx g16).1 (e ▸ (h'.kp_iff hx' g16).2 q)
  · intro e
    by_cases q : x = r
    · by_cases q' : x = r'
      · subst q; subst q'
        rw [h.2.2.2.1, h'.2.2.2.1]
      · obtain ⟨g, g1, g2, -⟩ := h'.up hx' q'
        have := (e g).2 g2
        subst q
        exact absurd (this.1.2.antisymm (Dm.root this.1.2.Rg)) this.1.1
    · obtain ⟨g, g1, g2, g3, -, -⟩ := h.up hx q
      rw [g1]
      exact ((h'.kp_iff hx' (by omega)).2 ((e g).1 g2)).symm
/-! gl5: contracts, pure predicates (printed by gen.py) -/
def pr_X1_shuts (N : NetM) (K : Nat) (wa wy un ga lo mo li kt wk wd : Int32) (f t w c o : Nat → Int32) (nd rt ex mn : Int32) (kp dp tw wt st : Nat → Int32) (tn tr tre tm ts : Int32) (kp9 dp9 tw9 wt9 st9 : Nat → Int32) (tn9 tr9 tre9 tm9 ts9 k : Int32) : Prop := NetR N f t w c o nd rt ex mn ∧ TreR N.E N.root N.n kp dp tw tn tr tre ∧ k = nI K ∧ K < N.m ∧ N.op K = true
def ps_X1_shuts (N : NetM) (K : Nat) (wa wy un ga lo mo li kt wk wd : Int32) (f t w c o : Nat → Int32) (nd rt ex mn : Int32) (kp dp tw wt st : Nat → Int32) (tn tr tre tm ts : Int32) (kp9 dp9 tw9 wt9 st9 : Nat → Int32) (tn9 tr9 tre9 tm9 ts9 k : Int32) (w' o' kp9' dp9' tw9' st9' : Nat → Int32) (tn9' tr9' tre9' : Int32) : Prop := NetR N f t w' c o' nd rt ex mn ∧ TreR (N.Eb K) N.root N.n kp9' dp9' tw9' tn9' tr9' tre9'
def wp_X1_shuts (wa wy un ga lo mo li kt wk wd : Int32) (f t w c o : Nat → Int32) (nd rt ex mn : Int32) (kp dp tw wt st : Nat → Int32) (tn tr tre tm ts : Int32) (kp9 dp9 tw9 wt9 st9 : Nat → Int32) (tn9 tr9 tre9 tm9 ts9 k : Int32) (Q : (Nat → Int32) → (Nat → Int32) → (Nat → Int32) → (Nat → Int32) → (Nat → Int32) → (Nat → Int32) → Int32 → Int32 → Int32 → Prop) : Prop :=
  vp_in k 60 ∧ (∀ u_2 : Nat → Int32, u_2 = upd o k.toNatClampNeg (vp_nar .boolean 0) → (pr_X3_rows f t w c u_2 nd rt ex mn ∧ (∀ (w_3 : Nat → Int32), ps_X3_rows f t w c u_2 nd rt ex mn w_3 → (pr_X5_grows kp9 dp9 tw9 wt9 st9 tn9 tr9 tre9 tm9 ts9 f t w_3 c u_2 nd rt ex mn ∧ (∀ (kp_4 dp_4 tw_4 st_4 : Nat → Int32) (tn_4 tr_4 tre_4 : Int32), ps_X5_grows kp9 dp9 tw9 wt9 st9 tn9 tr9 tre9 tm9 ts9 f t w_3 c u_2 nd rt ex mn kp_4 dp_4 tw_4 st_4 tn_4 tr_4 tre_4 → (∀ u_5 : Nat → Int32, u_5 = upd u_2 k.toNatClampNeg (vp_nar .boolean 1) → (pr_X3_rows f t w_3 c u_5 nd rt ex mn ∧ (∀ (w_6 : Nat → Int32), ps_X3_rows f t w_3 c u_5 nd rt ex mn w_6 → (Q w_6 u_5 kp_4 dp_4 tw_4 st_4 tn_4 tr_4 tre_4)))))))))
theorem pf_X1_shuts (N : NetM) (K : Nat) (wa wy un ga lo mo li kt wk wd : Int32) (f t w c o : Nat → Int32) (nd rt ex mn : Int32) (kp dp tw wt st : Nat → Int32) (tn tr tre tm ts : Int32) (kp9 dp9 tw9 wt9 st9 : Nat → Int32) (tn9 tr9 tre9 tm9 ts9 k : Int32) (hp : pr_X1_shuts N K wa wy un ga lo mo li kt wk wd f t w c o nd rt ex mn kp dp tw wt st tn tr tre tm ts kp9 dp9 tw9 wt9 st9 tn9 tr9 tre9 tm9 ts9 k) : wp_X1_shuts wa wy un ga lo mo li kt wk wd f t w c o nd rt ex mn kp dp tw wt st tn tr tre tm ts kp9 dp9 tw9 wt9 st9 tn9 tr9 tre9 tm9 ts9 k (ps_X1_shuts N K wa wy un ga lo mo li kt wk wd f t w c o nd rt ex mn kp dp tw wt st tn tr tre tm ts kp9 dp9 tw9 wt9 st9 tn9 tr9 tre9 tm9 ts9 k) := by
  obtain ⟨hN, hT, rfl, hK, hop⟩ := hp
  have h60 := hN.m60
  refine ⟨vp_in_nI (by omega) (by decide), ?_⟩
  rw [clN (by omega)]
  intro u eu
  have eu : u = upd o K 0 := eu
  subst eu
  have hB := hN.B
  have hB0 : NetB f t (upd o K 0) mn := by
    have := hB.opn (k := nI K) (z := 0) (Or.inl rfl)
    rwa [clN (by omega)] at this
  refine ⟨hB0, fun w3 h3 => ?_⟩
  have hN0 := hN.turn (x := K) false 0 ⟨fun q => absurd q (by simp), fun _ => rfl⟩ h3
  refine ⟨⟨_, hN0⟩, fun kp4 dp4 tw4 st4 tn4 tr4 tre4 h4 u5 eu5 => ?_⟩
  have hT4 := h4 _ hN0
  rw [NetM.Eb_turn] at hT4
  have ho : o K = 1 := by
    obtain ⟨-, -, -, -, -, -, -, hop', -⟩ := id hN
    exact (hop' K hK).1 hop
  have eu5 : u5 = upd (upd o K 0) K 1 := eu5
  rw [upd_back ho] at eu5
  subst eu5
  exact ⟨hB, fun w6 h6 => ⟨hN.rowsNew h6, hT4⟩⟩
def pr_X1_spareArcs (N : NetM) (wa wy un ga lo mo li kt wk wd : Int32) (f t w c o : Nat → Int32) (nd rt ex mn : Int32) (kp dp tw wt st : Nat → Int32) (tn tr tre tm ts : Int32) (kp9 dp9 tw9 wt9 st9 : Nat → Int32) (tn9 tr9 tre9 tm9 ts9 : Int32) : Prop := NetR N f t w c o nd rt ex mn ∧ TreR N.E N.root N.n kp dp tw tn tr tre
def ps_X1_spareArcs (N : NetM) (wa wy un ga lo mo li kt wk wd : Int32) (f t w c o : Nat → Int32) (nd rt ex mn : Int32) (kp dp tw wt st : Nat → Int32) (tn tr tre tm ts : Int32) (kp9 dp9 tw9 wt9 st9 : Nat → Int32) (tn9 tr9 tre9 tm9 ts9 : Int32) (r : Int32) (w' o' kp9' dp9' tw9' st9' : Nat → Int32) (tn9' tr9' tre9' : Int32) : Prop := NetR N f t w' c o' nd rt ex mn ∧ r = nI (cnt N.m (Spare N))
def wp_X1_spareArcs_L4 (wa wy un ga lo mo li kt wk wd : Int32) (f t c : Nat → Int32) (nd rt ex mn : Int32) (kp dp tw wt st : Nat → Int32) (tn tr tre tm ts : Int32) (wt9 : Nat → Int32) (tm9 ts9 : Int32) (J80 : Int32 → (Nat → Int32) → (Nat → Int32) → Int32 → Int32 → Int32 → (Nat → Int32) → (Nat → Int32) → (Nat → Int32) → (Nat → Int32) → Prop) (ix2_57 ix1_58 : Int32) (ia_59 ia_60 : Nat → Int32) (inodes_61 iroot_62 ireached_63 : Int32) (ia_64 ia_65 ia_66 ia_67 : Nat → Int32) : Prop :=
  ∀ X4 : Int32 → Int32 → (Nat → Int32) → (Nat → Int32) → Int32 → Int32 → Int32 → (Nat → Int32) → (Nat → Int32) → (Nat → Int32) → (Nat → Int32) → Prop, (∀ (x2_57 : Int32) (x1_58 : Int32) (a_59 : Nat → Int32) (a_60 : Nat → Int32) (nodes_61 : Int32) (root_62 : Int32) (reached_63 : Int32) (a_64 : Nat → Int32) (a_65 : Nat → Int32) (a_66 : Nat → Int32) (a_67 : Nat → Int32), (((mn ≤ x2_57 → (J80 x1_58 a_59 a_60 nodes_61 root_62 reached_63 a_64 a_65 a_66 a_67)) ∧
 (¬ (mn ≤ x2_57) → (vp_in x2_57 60 ∧ (((¬ (a_60 x2_57.toNatClampNeg) = 0 → (∃ (N_72 : NetM) (K_72 : Nat), (pr_X1_shuts N_72 K_72 wa wy un ga lo mo li kt wk wd f t a_59 c a_60 nd rt ex mn kp dp tw wt st tn tr tre tm ts a_64 a_65 a_66 wt9 a_67 nodes_61 root_62 reached_63 tm9 ts9 x2_57 ∧ (∀ (w_72 o_72 kp9_72 dp9_72 tw9_72 st9_72 : Nat → Int32) (tn9_72 tr9_72 tre9_72 : Int32), ps_X1_shuts N_72 K_72 wa wy un ga lo mo li kt wk wd f t a_59 c a_60 nd rt ex mn kp dp tw wt st tn tr tre tm ts a_64 a_65 a_66 wt9 a_67 nodes_61 root_62 reached_63 tm9 ts9 x2_57 w_72 o_72 kp9_72 dp9_72 tw9_72 st9_72 tn9_72 tr9_72 tre9_72 → (((¬ tre9_72 = tre → (X4 (x2_57 + 1) (x1_58 + 0) w_72 o_72 tn9_72 tr9_72 tre9_72 kp9_72 dp9_72 tw9_72 st9_72)) ∧
 (tre9_72 = tre → (pr_X5_movedFrom kp9_72 dp9_72 tw9_72 wt9 st9_72 tn9_72 tr9_72 tre9_72 tm9 ts9 kp dp tw wt st tn tr tre tm ts ∧ (∀ (r_74 : Int32), ps_X5_movedFrom kp9_72 dp9_72 tw9_72 wt9 st9_72 tn9_72 tr9_72 tre9_72 tm9 ts9 kp dp tw wt st tn tr tre tm ts r_74 → (((¬ r_74 = 0 → (X4 (x2_57 + 1) (x1_58 + 0) w_72 o_72 tn9_72 tr9_72 tre9_72 kp9_72 dp9_72 tw9_72 st9_72)) ∧
 (r_74 = 0 → (X4 (x2_57 + 1) (x1_58 + 1) w_72 o_72 tn9_72 tr9_72 tre9_72 kp9_72 dp9_72 tw9_72 st9_72))))))))))))) ∧
 ((a_60 x2_57.toNatClampNeg) = 0 → (X4 (x2_57 + 1) x1_58 a_59 a_60 nodes_61 root_62 reached_63 a_64 a_65 a_66 a_67)))))))) → X4 x2_57 x1_58 a_59 a_60 nodes_61 root_62 reached_63 a_64 a_65 a_66 a_67) → X4 ix2_57 ix1_58 ia_59 ia_60 inodes_61 iroot_62 ireached_63 ia_64 ia_65 ia_66 ia_67
def wp_X1_spareArcs (wa wy un ga lo mo li kt wk wd : Int32) (f t w c o : Nat → Int32) (nd rt ex mn : Int32) (kp dp tw wt st : Nat → Int32) (tn tr tre tm ts : Int32) (kp9 dp9 tw9 wt9 st9 : Nat → Int32) (tn9 tr9 tre9 tm9 ts9 : Int32) (Q : Int32 → (Nat → Int32) → (Nat → Int32) → (Nat → Int32) → (Nat → Int32) → (Nat → Int32) → (Nat → Int32) → Int32 → Int32 → Int32 → Prop) : Prop :=
  ∀ J80 : Int32 → (Nat → Int32) → (Nat → Int32) → Int32 → Int32 → Int32 → (Nat → Int32) → (Nat → Int32) → (Nat → Int32) → (Nat → Int32) → Prop, (∀ (x1_46 : Int32) (a_47 : Nat → Int32) (a_48 : Nat → Int32) (nodes_49 : Int32) (root_50 : Int32) (reached_51 : Int32) (a_52 : Nat → Int32) (a_53 : Nat → Int32) (a_54 : Nat → Int32) (a_55 : Nat → Int32), (Q x1_46 a_47 a_48 a_52 a_53 a_54 a_55 nodes_49 root_50 reached_51) → J80 x1_46 a_47 a_48 nodes_49 root_50 reached_51 a_52 a_53 a_54 a_55) →
wp_X1_spareArcs_L4 wa wy un ga lo mo li kt wk wd f t c nd rt ex mn kp dp tw wt st tn tr tre tm ts wt9 tm9 ts9 J80 0 0 w o tn9 tr9 tre9 kp9 dp9 tw9 st9
theorem pf_X1_spareArcs (N : NetM) (wa wy un ga lo mo li kt wk wd : Int32) (f t w c o : Nat → Int32) (nd rt ex mn : Int32) (kp dp tw wt st : Nat → Int32) (tn tr tre tm ts : Int32) (kp9 dp9 tw9 wt9 st9 : Nat → Int32) (tn9 tr9 tre9 tm9 ts9 : Int32) (hp : pr_X1_spareArcs N wa wy un ga lo mo li kt wk wd f t w c o nd rt ex mn kp dp tw wt st tn tr tre tm ts kp9 dp9 tw9 wt9 st9 tn9 tr9 tre9 tm9 ts9) : wp_X1_spareArcs wa wy un ga lo mo li kt wk wd f t w c o nd rt ex mn kp dp tw wt st tn tr tre tm ts kp9 dp9 tw9 wt9 st9 tn9 tr9 tre9 tm9 ts9 (ps_X1_spareArcs N wa wy un ga lo mo li kt wk wd f t w c o nd rt ex mn kp dp tw wt st tn tr tre tm ts kp9 dp9 tw9 wt9 st9 tn9 tr9 tre9 tm9 ts9) := by
  obtain ⟨hN, hT⟩ := hp
  intro J hJ X hX
  have h16 := hN.n16
  have h60 := hN.m60
  have e := hN.mn
  subst e
  refine up1 (T := Int32 × (Nat → Int32) × (Nat → Int32) × Int32 × Int32 × Int32 × (Nat → Int32) × (Nat → Int32) × (Nat → Int32) × (Nat → Int32)) (X := fun i p => X i p.1 p.2.1 p.2.2.1 p.2.2.2.1 p.2.2.2.2.1 p.2.2.2.2.2.1 p.2.2.2.2.2.2.1 p.2.2.2.2.2.2.2.1 p.2.2.2.2.2.2.2.2.1 p.2.2.2.2.2.2.2.2.2) N.m (fun k p => p.1 = nI (cnt k (Spare N)) ∧ NetR N f t p.2.1 c p.2.2.1 nd rt ex (nI N.m)) (fun k p hk hI hh => ?_) (fun p hI => hX _ _ _ _ _ _ _ _ _ _ _ ⟨fun _ => hJ _ _ _ _ _ _ _ _ _ _ ⟨hI.2, hI.1⟩, fun q => absurd (Int32.le_refl _) q⟩) 0 (0, w, o, tn9, tr9, tre9, kp9, dp9, tw9, st9) (Nat.zero_le _) ⟨rfl, hN⟩
  obtain ⟨s, w, o, p4, p5, p6, p7, p8, p9, p10⟩ := p
  obtain ⟨i1', i2'⟩ := hI
  dsimp only at i1' i2' hh ⊢
  refine hX _ _ _ _ _ _ _ _ _ _ _ ⟨fun q => absurd q (by rw [leN (by omega) (by omega)]; omega), fun _ => ⟨vp_in_nI (by omega) (by decide), ?_⟩⟩
  rw [clN (by omega)]
  have no : (¬ Spare N k) → s + 0 = nI (cnt (k + 1) (Spare N)) := fun q => by rw [i1', cnt_n q, nI_z]
  refine ⟨fun z => ⟨N, k, ⟨i2', hT, rfl, hk, (i2'.opn hk).1 z⟩, fun w' o' kp' dp' tw' st' tn' tr' tre' h' => ?_⟩, fun z => hh (s, w, o, p4, p5, p6, p7, p8, p9, p10) ⟨by rw [cnt_n (fun q => (i2'.opn hk).2 q.1 z)]; exact i1', i2'⟩⟩
  obtain ⟨hN', hT'⟩ := h'
  have hsub : ∀ x, Rd (N.Eb k) N.root x → Rd N.E N.root x := fun x hx => hx.mono (fun _ _ e => NetM.Eb_E e) (fun _ q => q) (fun _ q => q)
  have hop1 := (i2'.opn hk).1 z
  refine ⟨fun z1 => hh (_, w', o', tn', tr', tre', kp', dp', tw', st') ⟨no (fun q => z1 ?_), hN'⟩, fun z1 => ⟨?_, fun r hr => ⟨fun z2 => hh (_, w', o', tn', tr', tre', kp', dp', tw', st') ⟨no (fun q => z2 ?_), hN'⟩, fun z2 => hh (_, w', o', tn', tr', tre', kp', dp', tw', st') ⟨?_, hN'⟩⟩⟩⟩
  · exact IsSet.uniq hT'.2.2.2.2 (hT.2.2.2.2.congr (fun x _ => ⟨q.2.1 x, hsub x⟩))
  · rw [hT'.2.1]
    show nI N.n ≤ nI 16 ∧ nI 0 ≤ nI N.n
    exact ⟨by rw [leN (by omega) (by omega)]; omega, by rw [leN (by omega) (by omega)]; omega⟩
  · refine (IsSet.eq0 hr).2 (fun x hx hq => ?_)
    have hx1 := ((hT'.2.2.2.2 x (by omega)).1 hq.2.1).2
    have hx2 := ((hT.2.2.2.2 x (by omega)).1 hq.2.2.1).2
    exact q.2.2 x ⟨hx2, hx1, fun y => hq.2.2.2 ((hT.1.mv hT'.1 hx2 hx1).2 y).symm⟩
  · rw [i1', cnt_s, nI_1]
    have hall : ∀ x, Rd N.E N.root x ↔ Rd (N.Eb k) N.root x := fun x => by
      rw [← hT.2.2.2.2.all (fun k hk => by have := hT.1.lt hk; omega) x, ← hT'.2.2.2.2.all (fun k hk => by have := hT'.1.lt hk; omega) x, z1]
    refine ⟨hop1, fun x hx => (hall x).1 hx, fun x hm => ?_⟩
    have hlt := hT.1.lt hm.1
    refine (IsSet.eq0 hr).1 z2 x (by omega) ⟨by rw [hT'.2.1, clN (by omega)]; exact hlt, (hT'.2.2.2.2 x (by omega)).2 ⟨by omega, hm.2.1⟩, (hT.2.2.2.2 x (by omega)).2 ⟨by omega, hm.1⟩, fun y => hm.2.2 ((hT.1.mv hT'.1 hm.1 hm.2.1).1 y.symm)⟩
def pr_X1_tries (N : NetM) (A B : Nat) (wa wy un ga lo mo li kt wk wd : Int32) (f t w c o : Nat → Int32) (nd rt ex mn : Int32) (kp dp tw wt st : Nat → Int32) (tn tr tre tm ts : Int32) (kp9 dp9 tw9 wt9 st9 : Nat → Int32) (tn9 tr9 tre9 tm9 ts9 a b : Int32) : Prop := NetR N f t w c o nd rt ex mn ∧ TreR N.E N.root N.n kp dp tw tn tr tre ∧ a = nI A ∧ A < N.n ∧ b = nI B ∧ B < N.n
def ps_X1_tries (N : NetM) (A B : Nat) (wa wy un ga lo mo li kt wk wd : Int32) (f t w c o : Nat → Int32) (nd rt ex mn : Int32) (kp dp tw wt st : Nat → Int32) (tn tr tre tm ts : Int32) (kp9 dp9 tw9 wt9 st9 : Nat → Int32) (tn9 tr9 tre9 tm9 ts9 a b : Int32) (kp9' dp9' tw9' wt9' st9' : Nat → Int32) (tn9' tr9' tre9' tm9' ts9' : Int32) : Prop := TreR (Ins N.E A B) N.root N.n kp9' dp9' tw9' tn9' tr9' tre9'
def wp_X1_tries (wa wy un ga lo mo li kt wk wd : Int32) (f t w c o : Nat → Int32) (nd rt ex mn : Int32) (kp dp tw wt st : Nat → Int32) (tn tr tre tm ts : Int32) (kp9 dp9 tw9 wt9 st9 : Nat → Int32) (tn9 tr9 tre9 tm9 ts9 a b : Int32) (Q : (Nat → Int32) → (Nat → Int32) → (Nat → Int32) → (Nat → Int32) → (Nat → Int32) → Int32 → Int32 → Int32 → Int32 → Int32 → Prop) : Prop :=
  ∀ (kp_1 dp_1 tw_1 : Nat → Int32) (tn_1 tr_1 tre_1 : Int32), ps_X5_be kp9 dp9 tw9 wt9 st9 tn9 tr9 tre9 tm9 ts9 kp dp tw wt st tn tr tre tm ts kp_1 dp_1 tw_1 tn_1 tr_1 tre_1 → (∃ (E_2 : Nat → Nat → Prop) (r_2 n_2 u_2 v_2 : Nat), (pr_X5_lays E_2 r_2 n_2 u_2 v_2 kp_1 dp_1 tw_1 wt9 st9 tn_1 tr_1 tre_1 tm9 ts9 a b ∧ (∀ (kp_2 dp_2 tw_2 wt_2 st_2 : Nat → Int32) (tre_2 tm_2 ts_2 : Int32), ps_X5_lays E_2 r_2 n_2 u_2 v_2 kp_1 dp_1 tw_1 wt9 st9 tn_1 tr_1 tre_1 tm9 ts9 a b kp_2 dp_2 tw_2 wt_2 st_2 tre_2 tm_2 ts_2 → (Q kp_2 dp_2 tw_2 wt_2 st_2 tn_1 tr_1 tre_2 tm_2 ts_2))))
theorem pf_X1_tries (N : NetM) (A B : Nat) (wa wy un ga lo mo li kt wk wd : Int32) (f t w c o : Nat → Int32) (nd rt ex mn : Int32) (kp dp tw wt st : Nat → Int32) (tn tr tre tm ts : Int32) (kp9 dp9 tw9 wt9 st9 : Nat → Int32) (tn9 tr9 tre9 tm9 ts9 a b : Int32) (hp : pr_X1_tries N A B wa wy un ga lo mo li kt wk wd f t w c o nd rt ex mn kp dp tw wt st tn tr tre tm ts kp9 dp9 tw9 wt9 st9 tn9 tr9 tre9 tm9 ts9 a b) : wp_X1_tries wa wy un ga lo mo li kt wk wd f t w c o nd rt ex mn kp dp tw wt st tn tr tre tm ts kp9 dp9 tw9 wt9 st9 tn9 tr9 tre9 tm9 ts9 a b (ps_X1_tries N A B wa wy un ga lo mo li kt wk wd f t w c o nd rt ex mn kp dp tw wt st tn tr tre tm ts kp9 dp9 tw9 wt9 st9 tn9 tr9 tre9 tm9 ts9 a b) := by
  obtain ⟨hN, hT, rfl, hA, rfl, hB⟩ := hp
  refine fun kp1 dp1 tw1 tn1 tr1 tre1 h1 => ?_
  obtain ⟨h1, rfl, rfl, rfl⟩ := h1
  exact ⟨N.E, N.root, N.n, A, B, ⟨hT.ext h1, rfl, rfl, hA, hB⟩, fun _ _ _ _ _ _ _ _ h2 => h2⟩
