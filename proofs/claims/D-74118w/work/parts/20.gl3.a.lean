/-! a net turned round (own work) -/
theorem set_ex (P : Nat → Prop) : ∀ n, n ≤ 16 → ∃ x : Int32, IsSet x (fun k => k < n ∧ P k)
  | 0, _ => ⟨0, IsSet.zero.congr (fun k _ => ⟨fun z => z.elim, fun z => by omega⟩)⟩
  | n + 1, h => by
    obtain ⟨x, hx⟩ := set_ex P n (by omega)
    by_cases q : P n
    · refine ⟨_, (hx.or (IsSet.bit (k := n) (by omega))).congr (fun k _ => ⟨fun z => z.elim (fun z => ⟨by omega, z.2⟩) (fun z => by subst z; exact ⟨by omega, q⟩), fun z => ?_⟩)⟩
      by_cases e : k = n
      · exact Or.inr e
      · exact Or.inl ⟨by omega, z.2⟩
    · refine ⟨x, hx.congr (fun k _ => ⟨fun z => ⟨by omega, z.2⟩, fun z => ⟨?_, z.2⟩⟩)⟩
      by_cases e : k = n
      · subst e; exact absurd z.2 q
      · omega
noncomputable def trow (nd : Int32) (w : Nat → Int32) (k : Nat) : Int32 := Classical.choose (set_ex (fun b => b < nd.toNatClampNeg ∧ bt (w b) k = true) 16 (by omega))
theorem trow_is (nd : Int32) (w : Nat → Int32) (k : Nat) : IsSet (trow nd w k) (fun b => b < nd.toNatClampNeg ∧ bt (w b) k = true) := (Classical.choose_spec (set_ex (fun b => b < nd.toNatClampNeg ∧ bt (w b) k = true) 16 (by omega))).congr (fun _ hk => ⟨fun z => z.2, fun z => ⟨hk, z⟩⟩)
/-! gl3: contracts, pure predicates (printed by gen.py) -/
def ps_X9_init   : Prop := True
def wp_X9_init  (Q : Prop) : Prop :=
  Q
theorem pf_X9_init  : wp_X9_init  (ps_X9_init) := by
  trivial
def ps_X8_turned   : Prop := True
def wp_X8_turned  (Q : Prop) : Prop :=
  ps_X9_init → (Q)
theorem pf_X8_turned  : wp_X8_turned  (ps_X8_turned) := by
  exact fun _ => trivial
def ps_X9_nodes (f t w c o : Nat → Int32) (nd rt ex mn : Int32) (r : Int32)  : Prop := r = nd
def wp_X9_nodes (f t w c o : Nat → Int32) (nd rt ex mn : Int32) (Q : Int32 → Prop) : Prop :=
  ∀ (r_1 : Int32), ps_X3_nodes f t w c o nd rt ex mn r_1 → (Q r_1)
theorem pf_X9_nodes (f t w c o : Nat → Int32) (nd rt ex mn : Int32) : wp_X9_nodes f t w c o nd rt ex mn (ps_X9_nodes f t w c o nd rt ex mn) := by
  exact fun r hr => hr
def pr_X9_next (f t w c o : Nat → Int32) (nd rt ex mn k : Int32) : Prop := (∃ n : Nat, nd = nI n ∧ n ≤ 16) ∧ vp_in k 16
def ps_X9_next (f t w c o : Nat → Int32) (nd rt ex mn k : Int32) (r : Int32)  : Prop := r = trow nd w k.toNatClampNeg
def wp_X9_next_L4 (f t w c o : Nat → Int32) (nd rt ex mn k : Int32) (J50 : Int32 → Prop) (ix3_25 ix2_26 : Int32) : Prop :=
  ∀ X4 : Int32 → Int32 → Prop, (∀ (x3_25 : Int32) (x2_26 : Int32), (∀ (r_28 : Int32), ps_X3_nodes f t w c o nd rt ex mn r_28 → (((r_28 ≤ x3_25 → (J50 x2_26)) ∧
 (¬ (r_28 ≤ x3_25) → (pr_X3_next f t w c o nd rt ex mn x3_25 ∧ (∀ (r_30 : Int32), ps_X3_next f t w c o nd rt ex mn x3_25 r_30 → (∀ (r_31 : Int32), ps_X1_has r_30 k r_31 → (((r_31 = 0 → (X4 (x3_25 + 1) (x2_26 ||| 0))) ∧
 (¬ (r_31 = 0) → (X4 (x3_25 + 1) (x2_26 ||| (1 <<< (x3_25 &&& 31)))))))))))))) → X4 x3_25 x2_26) → X4 ix3_25 ix2_26
def wp_X9_next (f t w c o : Nat → Int32) (nd rt ex mn k : Int32) (Q : Int32 → Prop) : Prop :=
  ∀ J50 : Int32 → Prop, (∀ (x2_23 : Int32), (Q x2_23) → J50 x2_23) →
wp_X9_next_L4 f t w c o nd rt ex mn k J50 0 0
theorem pf_X9_next (f t w c o : Nat → Int32) (nd rt ex mn k : Int32) (hp : pr_X9_next f t w c o nd rt ex mn k) : wp_X9_next f t w c o nd rt ex mn k (ps_X9_next f t w c o nd rt ex mn k) := by
  obtain ⟨⟨n, rfl, hn⟩, hk⟩ := hp
  obtain ⟨K, hK, rfl⟩ : ∃ K : Nat, K < 16 ∧ k = nI K := by
    obtain ⟨j, h1, h2⟩ := nI_of (x := k) (fun z => hk (Or.inl z))
    subst h2
    refine ⟨j, ?_, rfl⟩
    have : ¬ 16 ≤ (nI j).toNatClampNeg := fun z => hk (Or.inr z)
    rw [clN (by omega)] at this
    omega
  intro J hJ X hX
  refine up1 n (fun i s => IsSet s (fun b => b < i ∧ bt (w b) K = true)) (fun i s hi hI hh => hX _ _ (fun r hr => ?_)) (fun s hI => hX _ _ (fun r hr => ?_)) 0 0 (Nat.zero_le _) bitsZ
  · cases hr
    refine ⟨fun c => by rw [leN (by omega) (by omega)] at c; omega, fun _ => ⟨vp_in_nI (by omega) (by decide), fun r3 hr3 r4 hr4 => ?_⟩⟩
    cases hr3
    have hr4 : r4 = i1 (hs (w (nI i).toNatClampNeg) (nI K)) := hr4
    rw [clN (by omega)] at hr4
    have hB : IsB r4 (bt (w i) K = true) := by
      by_cases q : bt (w i) K = true
      · exact Or.inl ⟨hr4.trans (i1_t ((hs_bt (by omega)).2 q)), q⟩
      · exact Or.inr ⟨hr4.trans (i1_f (fun z => q ((hs_bt (by omega)).1 z))), q⟩
    exact ⟨fun z => hh _ (bits0 hI hB z), fun z => hh _ (bits1 (by omega) hI hB z)⟩
  · cases hr
    refine ⟨fun _ => hJ _ ?_, fun c => absurd (Int32.le_refl _) c⟩
    show s = _
    have h := trow_is (nI n) w (nI K).toNatClampNeg
    rw [clN (k := K) (by omega)] at h ⊢
    exact IsSet.uniq hI (h.congr (fun b _ => by rw [clN (by omega)]))
def pr_X8_reach_U (f t w c o : Nat → Int32) (nd rt ex mn fr bu : Int32) : Prop := RPre nd (trow nd w) fr bu
def ps_X8_reach_U (f t w c o : Nat → Int32) (nd rt ex mn fr bu : Int32) (r : Int32)  : Prop := IsSet r (Rs (Er nd (trow nd w)) (fun x => x = fr.toNatClampNeg) (fun x => bt bu x = true))
def wp_X8_reach_U_L19 (f t w c o : Nat → Int32) (nd rt ex mn bu : Int32) (J60 : Int32 → Prop) (ix5_137 ix3_138 : Int32) : Prop :=
  ∀ X19 : Int32 → Int32 → Prop, (∀ (x5_137 : Int32) (x3_138 : Int32), (∀ (r_140 : Int32), ps_X9_nodes f t w c o nd rt ex mn r_140 → (((r_140 ≤ x5_137 → (J60 x3_138)) ∧
 (¬ (r_140 ≤ x5_137) → (∀ (r_142 : Int32), ps_X1_has x3_138 x5_137 r_142 → (((r_142 = 0 → (X19 (x5_137 + 1) x3_138)) ∧
 (¬ (r_142 = 0) → (pr_X9_next f t w c o nd rt ex mn x5_137 ∧ (∀ (r_144 : Int32), ps_X9_next f t w c o nd rt ex mn x5_137 r_144 → (X19 (x5_137 + 1) (x3_138 ||| (r_144 &&& (bu ^^^ (-1))))))))))))))) → X19 x5_137 x3_138) → X19 ix5_137 ix3_138
def wp_X8_reach_U_L7 (f t w c o : Nat → Int32) (nd rt ex mn bu : Int32) (J63 : Int32 → Prop) (ix4_109 ix3_110 : Int32) : Prop :=
  ∀ X7 : Int32 → Int32 → Prop, (∀ (x4_109 : Int32) (x3_110 : Int32), (((x4_109 = x3_110 → (J63 x3_110)) ∧
 (¬ (x4_109 = x3_110) → (∀ J60 : Int32 → Prop, (∀ (x3_135 : Int32), (X7 x3_110 x3_135) → J60 x3_135) →
wp_X8_reach_U_L19 f t w c o nd rt ex mn bu J60 0 x3_110)))) → X7 x4_109 x3_110) → X7 ix4_109 ix3_110
def wp_X8_reach_U (f t w c o : Nat → Int32) (nd rt ex mn fr bu : Int32) (Q : Int32 → Prop) : Prop :=
  ∀ J63 : Int32 → Prop, (∀ (x3_107 : Int32), (Q x3_107) → J63 x3_107) →
wp_X8_reach_U_L7 f t w c o nd rt ex mn bu J63 0 (1 <<< (fr &&& 31))
theorem pf_X8_reach_U (f t w c o : Nat → Int32) (nd rt ex mn fr bu : Int32) (hp : pr_X8_reach_U f t w c o nd rt ex mn fr bu) : wp_X8_reach_U f t w c o nd rt ex mn fr bu (ps_X8_reach_U f t w c o nd rt ex mn fr bu) := by
  obtain ⟨n, a, rfl, hn, rfl, ha, hb, hρ⟩ := hp
  intro J hJ X hX
  refine reach_core (J := J) hn ha hb hρ (fun s hs => hJ s (by unfold ps_X8_reach_U; rw [clN (by omega)]; exact hs)) (X := X) (fun w s h => hX w s ⟨h.1, fun c J2 hJ2 Y hY => ?_⟩)
  refine h.2 c J2 hJ2 Y (fun i s' h2 => hY i s' (fun r er => ?_))
  cases er
  refine ⟨h2.1, fun c2 r2 er2 => ?_⟩
  unfold ps_X1_has at er2
  rw [er2, i1_eq0]
  refine ⟨(h2.2 c2).2, fun c3 => ?_⟩
  have h3 := (h2.2 c2).1 (Classical.not_not.1 c3)
  exact ⟨⟨⟨n, rfl, hn⟩, h3.1⟩, fun r3 er3 => by cases er3; exact h3.2⟩
def pr_X1_gates_U (f t w c o : Nat → Int32) (nd rt ex mn : Int32) (ou : Nat → Int32) (fr al : Int32) : Prop := GPre nd (trow nd w) fr al
def ps_X1_gates_U (f t w c o : Nat → Int32) (nd rt ex mn : Int32) (ou : Nat → Int32) (fr al : Int32) (ou' : Nat → Int32) : Prop := GPost nd (trow nd w) fr al ou'
def wp_X1_gates_U_L100 (f t w c o : Nat → Int32) (nd rt ex mn al x5_923 : Int32) (a_925 : Nat → Int32) (J151 : Int32 → Prop) (ix7_971 ix6_972 : Int32) : Prop :=
  ∀ X100 : Int32 → Int32 → Prop, (∀ (x7_971 : Int32) (x6_972 : Int32), (∀ (r_974 : Int32), ps_X9_nodes f t w c o nd rt ex mn r_974 → (((r_974 ≤ x7_971 → (J151 x6_972)) ∧
 (¬ (r_974 ≤ x7_971) → (∀ (r_976 : Int32), ps_X1_has al x7_971 r_976 → (((r_976 = 0 → (X100 (x7_971 + 1) x6_972)) ∧
 (¬ (r_976 = 0) → (pr_X9_next f t w c o nd rt ex mn x7_971 ∧ (∀ (r_978 : Int32), ps_X9_next f t w c o nd rt ex mn x7_971 r_978 → (∀ (r_979 : Int32), ps_X1_has r_978 x5_923 r_979 → (((r_979 = 0 → (X100 (x7_971 + 1) x6_972)) ∧
 (¬ (r_979 = 0) → (vp_in x7_971 16 ∧ (X100 (x7_971 + 1) (x6_972 &&& (a_925 x7_971.toNatClampNeg)))))))))))))))))) → X100 x7_971 x6_972) → X100 ix7_971 ix6_972
def wp_X1_gates_U_L65 (f t w c o : Nat → Int32) (nd rt ex mn fr al : Int32) (J193 : Int32 → (Nat → Int32) → Prop) (ix5_923 ix4_924 : Int32) (ia_925 : Nat → Int32) : Prop :=
  ∀ X65 : Int32 → Int32 → (Nat → Int32) → Prop, (∀ (x5_923 : Int32) (x4_924 : Int32) (a_925 : Nat → Int32), (∀ (r_927 : Int32), ps_X9_nodes f t w c o nd rt ex mn r_927 → (((r_927 ≤ x5_923 → (J193 x4_924 a_925)) ∧
 (¬ (r_927 ≤ x5_923) → (∀ (r_929 : Int32), ps_X1_has al x5_923 r_929 → (((r_929 = 0 → (X65 (x5_923 + 1) x4_924 a_925)) ∧
 (¬ (r_929 = 0) → ((¬ x5_923 = fr → (∀ J151 : Int32 → Prop, (∀ (x6_962 : Int32), (((¬ x4_924 = 0 → (vp_in x5_923 16 ∧ (∀ u_965 : Nat → Int32, u_965 = upd a_925 x5_923.toNatClampNeg (x6_962 ||| (1 <<< (x5_923 &&& 31))) → (X65 (x5_923 + 1) 1 u_965)))) ∧
 (x4_924 = 0 → (vp_in x5_923 16 ∧ ((((x6_962 ||| (1 <<< (x5_923 &&& 31))) = (a_925 x5_923.toNatClampNeg) → (∀ u_968 : Nat → Int32, u_968 = upd a_925 x5_923.toNatClampNeg (x6_962 ||| (1 <<< (x5_923 &&& 31))) → (X65 (x5_923 + 1) 0 u_968))) ∧
 (¬ ((x6_962 ||| (1 <<< (x5_923 &&& 31))) = (a_925 x5_923.toNatClampNeg)) → (∀ u_969 : Nat → Int32, u_969 = upd a_925 x5_923.toNatClampNeg (x6_962 ||| (1 <<< (x5_923 &&& 31))) → (X65 (x5_923 + 1) 1 u_969))))))))) → J151 x6_962) →
wp_X1_gates_U_L100 f t w c o nd rt ex mn al x5_923 a_925 J151 0 al)) ∧
 (x5_923 = fr → (X65 (x5_923 + 1) x4_924 a_925))))))))))) → X65 x5_923 x4_924 a_925) → X65 ix5_923 ix4_924 ia_925
def wp_X1_gates_U_L54 (f t w c o : Nat → Int32) (nd rt ex mn fr al : Int32) (J196 : (Nat → Int32) → Prop) (ix4_746 : Int32) (ia_747 : Nat → Int32) : Prop :=
  ∀ X54 : Int32 → (Nat → Int32) → Prop, (∀ (x4_746 : Int32) (a_747 : Nat → Int32), (((x4_746 = 0 → (J196 a_747)) ∧
 (¬ (x4_746 = 0) → (∀ J193 : Int32 → (Nat → Int32) → Prop, (∀ (x4_920 : Int32) (a_921 : Nat → Int32), (X54 x4_920 a_921) → J193 x4_920 a_921) →
wp_X1_gates_U_L65 f t w c o nd rt ex mn fr al J193 0 0 a_747)))) → X54 x4_746 a_747) → X54 ix4_746 ia_747
def wp_X1_gates_U_L3 (f t w c o : Nat → Int32) (nd rt ex mn fr al : Int32) (J51 : (Nat → Int32) → Prop) (ix4_983 : Int32) (ia_984 : Nat → Int32) : Prop :=
  ∀ X3 : Int32 → (Nat → Int32) → Prop, (∀ (x4_983 : Int32) (a_984 : Nat → Int32), (∀ (r_986 : Int32), ps_X9_nodes f t w c o nd rt ex mn r_986 → (((r_986 ≤ x4_983 → (J51 a_984)) ∧
 (¬ (r_986 ≤ x4_983) → (∀ (r_988 : Int32), ps_X1_has al x4_983 r_988 → (((r_988 = 0 → (vp_in x4_983 16 ∧ (∀ u_991 : Nat → Int32, u_991 = upd a_984 x4_983.toNatClampNeg 0 → (X3 (x4_983 + 1) u_991)))) ∧
 (¬ (r_988 = 0) → ((¬ x4_983 = fr → (vp_in x4_983 16 ∧ (∀ u_994 : Nat → Int32, u_994 = upd a_984 x4_983.toNatClampNeg al → (X3 (x4_983 + 1) u_994)))) ∧
 (x4_983 = fr → (vp_in x4_983 16 ∧ (∀ u_996 : Nat → Int32, u_996 = upd a_984 x4_983.toNatClampNeg (1 <<< (x4_983 &&& 31)) → (X3 (x4_983 + 1) u_996))))))))))))) → X3 x4_983 a_984) → X3 ix4_983 ia_984
def wp_X1_gates_U (f t w c o : Nat → Int32) (nd rt ex mn : Int32) (ou : Nat → Int32) (fr al : Int32) (Q : (Nat → Int32) → Prop) : Prop :=
  ∀ J51 : (Nat → Int32) → Prop, (∀ (a_38 : Nat → Int32), (∀ J196 : (Nat → Int32) → Prop, (∀ (a_744 : Nat → Int32), (Q a_744) → J196 a_744) →
wp_X1_gates_U_L54 f t w c o nd rt ex mn fr al J196 1 a_38) → J51 a_38) →
wp_X1_gates_U_L3 f t w c o nd rt ex mn fr al J51 0 ou
theorem pf_X1_gates_U (f t w c o : Nat → Int32) (nd rt ex mn : Int32) (ou : Nat → Int32) (fr al : Int32) (hp : pr_X1_gates_U f t w c o nd rt ex mn ou fr al) : wp_X1_gates_U f t w c o nd rt ex mn ou fr al (ps_X1_gates_U f t w c o nd rt ex mn ou fr al) := by
  obtain ⟨n, f, rfl, hn, rfl, hf, hρ, hal, haln⟩ := hp
  intro J hJ X hX
  -- the first sets
  refine up1 n (fun i a => ∀ x, x < i → (¬ bt al x = true → a x = 0) ∧ (bt al x = true → x ≠ f → a x = al) ∧ (bt al x = true → x = f → a x = (1 : Int32) <<< (nI f &&& 31))) (fun i a hi hI hh => hX _ _ (fun r hr => ?_)) (fun a hI => hX _ _ (fun r hr => ?_)) 0 ou (by omega) (fun x hx => absurd hx (by omega))
  · cases hr
    refine ⟨fun c => ?_, fun c r2 hr2 => ?_⟩
    · rw [leN (by omega) (by omega)] at c; omega
    unfold ps_X1_has at hr2
    rw [hr2, i1_eq0, hs_bt (by omega), clN (by omega), eqN (by omega) (by omega)]
    have hin := vp_in_nI (show i < 16 by omega) (by decide)
    refine ⟨fun d => ⟨hin, fun u eu => hh _ ?_⟩, fun d => ⟨fun d2 => ⟨hin, fun u eu => hh _ ?_⟩, fun d2 => ⟨hin, fun u eu => hh _ ?_⟩⟩⟩
    all_goals
      subst eu
      intro x hx
      by_cases e : x = i
      · subst e; rw [upd_s]
        try have d := Classical.not_not.1 d
        first
          | exact ⟨fun _ => rfl, fun z => absurd z d, fun z => absurd z d⟩
          | exact ⟨fun z => absurd d z, fun _ _ => rfl, fun _ z => absurd z d2⟩
          | exact ⟨fun z => absurd d z, fun _ z => absurd d2 z, fun _ _ => by rw [d2]⟩
      · rw [upd_n e]; exact hI x (by omega)
  · cases hr
    refine ⟨fun _ => hJ _ ?_, fun c => absurd (Int32.le_refl _) c⟩
    -- the rounds
    have hfal : bt al f = true := (hal f (by omega)).2 ⟨by omega, Rd.root⟩
    have hG0 : Gi n f (Er (nI n) (trow (nI n) w)) al a := by
      have af : a f = (1 : Int32) <<< (nI f &&& 31) := (hI f hf).2.2 hfal rfl
      refine ⟨fun x hx hb => ?_, fun x hx hb => (hI x hx).1 hb, by rw [af]; exact IsSet.bit (by omega), fun x g hx hb hd => ?_, fun x g hx hb hxf hg hp => ?_⟩
      · by_cases e : x = f
        · subst e; rw [af]; exact IsSet.self _ (fun k k1 k2 => B16.of (IsSet.bit (by omega)) k k1 k2)
        · rw [(hI x hx).2.1 hb e]; exact IsSet.self _ (fun k k1 k2 => B16.of hal k k1 k2)
      · have gn := El.lt haln hf hd.Rg
        by_cases e : x = f
        · subst e
          have : g = x := hd.antisymm (Dm.root hd.Rg)
          subst this; rw [af, b_bit (by omega) (by omega)]; simp
        · rw [(hI x hx).2.1 hb e]
          exact (hal g (by omega)).2 ⟨by omega, hd.Rg⟩
      · rw [(hI x hx).2.1 hb hxf]
        rcases hp with e | e
        · rw [e]; exact hb
        · exact e.1
    intro J2 hJ2 X2 hX2
    have main := dn1 (X := fun (p : Int32 × (Nat → Int32)) => X2 p.1 p.2) (fun p => (p.1 = 0 ∨ p.1 = 1) ∧ Gi n f (Er (nI n) (trow (nI n) w)) al p.2 ∧ (p.1 = 0 → ∀ x, x < n → bt al x = true → x ≠ f → ∀ g, g < 32 → bt (p.2 x) g = true → Fp n (Er (nI n) (trow (nI n) w)) al p.2 x g)) (fun p => if p.1 = 0 then 0 else 1 + smT n p.2) (fun p hp hh => hX2 _ _ ⟨fun c => hJ2 _ ?_, fun c J3 hJ3 X3 hX3 => ?_⟩)
    · exact main (1, a) ⟨Or.inr rfl, hG0, fun e => absurd (show (1 : Int32) = 0 from e) (by decide)⟩
    · intro n' f' en hn' ef hf' x hx
      rw [eqN (by omega) (by omega)] at en ef
      subst en; subst ef
      exact ⟨fun hb => Gi.fin hal haln hn hp.2.1 (hp.2.2 c) hx hb, fun hb => hp.2.1.2.1 x hx hb⟩
    · obtain ⟨pm, pa⟩ := p
      dsimp only at hp hh c hX3 ⊢
      have m1 := hp.1.resolve_left c
      subst m1
      -- one round
      refine up2 n (fun i (w9 : Int32) (b : Nat → Int32) => Gi n f (Er (nI n) (trow (nI n) w)) al b ∧ ((w9 = 0 ∧ b = pa ∧ ∀ x, x < i → bt al x = true → x ≠ f → ∀ g, g < 32 → bt (pa x) g = true → Fp n (Er (nI n) (trow (nI n) w)) al pa x g) ∨ (w9 = 1 ∧ smT n b < smT n pa))) (fun i w9 b hi hI hn2 => hX3 _ _ _ (fun r hr => ?_)) (fun w9 b hI => hX3 _ _ _ (fun r hr => ?_)) 0 0 pa (by omega) ⟨hp.2.1, Or.inl ⟨rfl, rfl, fun x hx => absurd hx (by omega)⟩⟩
      · cases hr
        refine ⟨fun c => ?_, fun c r2 hr2 => ?_⟩
        · rw [leN (by omega) (by omega)] at c; omega
        unfold ps_X1_has at hr2
        rw [hr2, i1_eq0, hs_bt (by omega), eqN (by omega) (by omega)]
        refine ⟨fun d => hn2 _ _ ⟨hI.1, ?_⟩, fun d => ⟨fun d2 J4 hJ4 X4 hX4 => ?_, fun d2 => hn2 _ _ ⟨hI.1, ?_⟩⟩⟩
        · refine hI.2.imp (fun z => ⟨z.1, z.2.1, fun x hx hb => ?_⟩) id
          by_cases e : x = i
          · subst e; exact absurd hb d
          · exact z.2.2 x (by omega) hb
        · have d := Classical.not_not.1 d
          -- its new set
          refine up1 n (fun o (s : Int32) => IsSet s (fun g => bt al g = true ∧ ∀ q, q < o → bt al q = true → Er (nI n) (trow (nI n) w) q i → bt (b q) g = true)) (fun o s ho hS hh2 => hX4 _ _ (fun r hr => ?_)) (fun s hS => hX4 _ _ (fun r hr => ?_)) 0 al (by omega) (fun g hg => ⟨fun z => ⟨((hal g hg).1 z).1, z, fun q hq => absurd hq (by omega)⟩, fun z => z.2.1⟩)
          · cases hr
            refine ⟨fun c => ?_, fun c r2 hr2 => ?_⟩
            · rw [leN (by omega) (by omega)] at c; omega
            unfold ps_X1_has at hr2
            rw [hr2, i1_eq0, hs_bt (by omega)]
            refine ⟨fun e => hh2 _ (hS.congr (fun g hg => ⟨fun z => ⟨z.1, fun q hq hb => ?_⟩, fun z => ⟨z.1, fun q hq => z.2 q (by omega)⟩⟩)), fun e => ⟨⟨⟨n, rfl, hn⟩, vp_in_nI (by omega) (by decide)⟩, fun r3 hr3 r4 hr4 => ?_⟩⟩
            · by_cases eq : q = o
              · subst eq; exact absurd hb e
              · exact z.2 q (by omega) hb
            · have e := Classical.not_not.1 e
              cases hr3
              unfold ps_X1_has at hr4
              rw [hr4, i1_eq0, hs_bt (by omega), clN (by omega)]
              refine ⟨fun e2 => hh2 _ (hS.congr (fun g hg => ⟨fun z => ⟨z.1, fun q hq hb he => ?_⟩, fun z => ⟨z.1, fun q hq => z.2 q (by omega)⟩⟩)), fun e2 => ⟨vp_in_nI (by omega) (by decide), hh2 _ ?_⟩⟩
              · by_cases eq : q = o
                · subst eq; exact absurd he.2 e2
                · exact z.2 q (by omega) hb he
              · have e2 := Classical.not_not.1 e2
                intro g hg
                rw [b_and, Bool.and_eq_true, hS g hg]
                constructor
                · rintro ⟨⟨z1, z2, z3⟩, z4⟩
                  refine ⟨z1, z2, fun q hq hb he => ?_⟩
                  by_cases eq : q = o
                  · subst eq; exact z4
                  · exact z3 q (by omega) hb he
                · rintro ⟨z1, z2, z3⟩
                  exact ⟨⟨z1, z2, fun q hq => z3 q (by omega)⟩, z3 o (by omega) e ⟨by rw [clN (by omega)]; exact ho, e2⟩⟩
          · cases hr
            refine ⟨fun _ => hJ4 _ ?_, fun c => absurd (Int32.le_refl _) c⟩
            rw [clN (by omega)]
            have hV : IsSet (s ||| ((1 : Int32) <<< (nI i &&& 31))) (Fp n (Er (nI n) (trow (nI n) w)) al b i) := (hS.or (IsSet.bit (by omega))).congr (fun g hg => ⟨fun z => z.elim Or.inr Or.inl, fun z => z.elim Or.inr Or.inl⟩)
            obtain ⟨hG2, hsub⟩ := hI.1.put hal haln hf hn hi d d2 hV
            have hin := vp_in_nI (show i < 16 by omega) (by decide)
            have hle := tn_sub hsub
            have hsm := smT_upd (a := b) (v := s ||| ((1 : Int32) <<< (nI i &&& 31))) hi
            refine ⟨fun e => ⟨hin, fun u eu => hn2 _ _ ?_⟩, fun e => ⟨hin, fun e2 u eu => hn2 _ _ ?_, fun e2 u eu => hn2 _ _ ?_⟩⟩
            · subst eu
              rcases hI.2 with z | z
              · exact absurd z.1 e
              · exact ⟨hG2, Or.inr ⟨rfl, by omega⟩⟩
            · rcases hI.2 with z | z
              · have eb : upd b i (s ||| ((1 : Int32) <<< (nI i &&& 31))) = b := by
                  funext y
                  by_cases ey : y = i
                  · subst ey; rw [upd_s, e2]
                  · rw [upd_n ey]
                rw [eb] at eu hG2
                subst eu
                refine ⟨hG2, Or.inl ⟨rfl, z.2.1, fun x hx hb hxf g hg hbg => ?_⟩⟩
                by_cases ex : x = i
                · subst ex
                  rw [← z.2.1, ← e2] at hbg
                  have := ((hV g hg).1 hbg).2
                  rw [z.2.1] at this; exact this
                · exact z.2.2 x (by omega) hb hxf g hg hbg
              · rw [e] at z; exact absurd z.1 (by decide)
            · subst eu
              have hne : (s ||| ((1 : Int32) <<< (nI i &&& 31))).toBitVec.toNat ≠ (b i).toBitVec.toNat := fun z => e2 (tn_inj z)
              rcases hI.2 with z | z
              · refine ⟨hG2, Or.inr ⟨rfl, ?_⟩⟩
                rw [← z.2.1]; omega
              · rw [e] at z; exact absurd z.1 (by decide)
        · refine hI.2.imp (fun z => ⟨z.1, z.2.1, fun x hx hb hxf => ?_⟩) id
          by_cases e : x = i
          · subst e; exact absurd d2 hxf
          · exact z.2.2 x (by omega) hb hxf
      · cases hr
        refine ⟨fun _ => hJ3 _ _ ?_, fun c => absurd (Int32.le_refl _) c⟩
        rcases hI.2 with ⟨z1, z2, z3⟩ | ⟨z1, z2⟩
        · refine hh (w9, b) ⟨Or.inl z1, hI.1, fun _ x hx => by rw [z2]; exact z3 x hx⟩ ?_
          show (if w9 = 0 then 0 else _) < _
          rw [if_pos z1]; simp; omega
        · refine hh (w9, b) ⟨Or.inr z1, hI.1, fun z => absurd (z1.symm.trans z) (by decide)⟩ ?_
          show (if w9 = 0 then 0 else 1 + smT n b) < _
          rw [z1]; simp; omega
