/-- an int as a truth -/
def IsB (r : Int32) (P : Prop) : Prop := (r = 1 ∧ P) ∨ (r = 0 ∧ ¬ P)
def smI : Nat → (Nat → Int32) → Int32
  | 0, _ => 0
  | n + 1, f => smI n f + f n
/-- keepers and depths of a net's tree -/
def TreK (E : Nat → Nat → Prop) (r n : Nat) (kp dp : Nat → Int32) : Prop := n ≤ 16 ∧ r < n ∧ (∀ a b, E a b → a < n ∧ b < n) ∧ kp r = -1 ∧ (∀ x, Rd E r x → x ≠ r → ∃ g, kp x = nI g ∧ Id E r g x) ∧ ∀ x, Rd E r x → dp x = nI (dep E r n x)
/-- a tree that is the tree of E -/
def TreR (E : Nat → Nat → Prop) (r n : Nat) (kp dp tw : Nat → Int32) (tn tr tre : Int32) : Prop := TreK E r n kp dp ∧ tn = nI n ∧ tr = nI r ∧ (∀ a, a < 16 → IsSet (tw a) (E a)) ∧ IsSet tre (Rd E r)
/-- keepers of a part -/
def Kps (tn : Int32) (tw : Nat → Int32) (fr al bey : Int32) (kp kq : Nat → Int32) : Prop := ∀ n f : Nat, tn = nI n → n ≤ 16 → fr = nI f → f < n → ∀ x, x < 16 → (bt al x = true → (x = f → kq x = bey) ∧ (x ≠ f → ∃ g, kq x = nI g ∧ Id (El (Er tn tw) al) f g x)) ∧ (¬ bt al x = true → kq x = kp x)
theorem TreK.lt {E : Nat → Nat → Prop} {r n : Nat} {kp dp : Nat → Int32} (h : TreK E r n kp dp) {x : Nat} (hx : Rd E r x) : x < n := Rs.ind (X := fun x => x < n) (fun z s _ => by rw [s]; exact h.2.1) (fun _ v _ _ e _ => (h.2.2.1 _ v e).2) hx
theorem TreK.up {E : Nat → Nat → Prop} {r n : Nat} {kp dp : Nat → Int32} (h : TreK E r n kp dp) {x : Nat} (hx : Rd E r x) (hr : x ≠ r) : ∃ g, kp x = nI g ∧ Id E r g x ∧ g < n ∧ Rd E r g ∧ dep E r n x = dep E r n g + 1 := by
  obtain ⟨g, h1, h2⟩ := h.2.2.2.2.1 x hx hr
  exact ⟨g, h1, h2, h.lt h2.1.2.Rg, h2.1.2.Rg, dep_id (fun x hx => h.lt hx) h2⟩
/-- keepers and their depths, out of nearest gates -/
theorem Chn.of {E : Nat → Nat → Prop} {r n : Nat} {kp : Nat → Int32} (hn : n ≤ 16) (hr : r < n) (hE : ∀ a b, E a b → a < n ∧ b < n) {tre : Int32} (ht : ∀ x, bt tre x = true ↔ Rd E r x) (h1 : kp r = -1) (h2 : ∀ x, Rd E r x → x ≠ r → ∃ g, kp x = nI g ∧ Id E r g x) : Chn (fun x => bt tre x = true) kp (fun x => dep E r n x) := by
  have lt : ∀ x, Rd E r x → x < n := fun x hx => Rs.ind (X := fun x => x < n) (fun z s _ => by rw [s]; exact hr) (fun _ v _ _ e _ => (hE _ v e).2) hx
  intro x hx
  have hx := (ht x).1 hx
  refine ⟨by have := lt x hx; omega, ?_⟩
  by_cases e : x = r
  · subst e; exact Or.inl ⟨h1, dep_root⟩
  · obtain ⟨g, q1, q2⟩ := h2 x hx e
    exact Or.inr ⟨g, q1, (ht g).2 q2.1.2.Rg, dep_id lt q2⟩
theorem dep16 {E : Nat → Nat → Prop} {r n x : Nat} (hn : n ≤ 16) (hr : r < n) (hE : ∀ a b, E a b → a < n ∧ b < n) : dep E r n x < 16 := by
  have lt : ∀ x, Rd E r x → x < n := fun x hx => Rs.ind (X := fun x => x < n) (fun z s _ => by rw [s]; exact hr) (fun _ v _ _ e _ => (hE _ v e).2) hx
  by_cases hx : Rd E r x
  · have := dep_n lt hx; omega
  · have : dep E r n x = 0 := cnt_0 (fun k _ h => hx h.2.1)
    omega
theorem IsSet.all {x : Int32} {P : Nat → Prop} (h : IsSet x P) (hP : ∀ k, P k → k < 16) (k : Nat) : bt x k = true ↔ P k := by
  rcases Nat.lt_or_ge k 32 with q | q
  · exact (h k q).trans ⟨fun a => a.2, fun a => ⟨hP k a, a⟩⟩
  · rw [b_big q]; exact ⟨fun a => absurd a (by simp), fun a => absurd (hP k a) (by omega)⟩
theorem or_0 (x : Int32) : x ||| 0 = x := by
  apply b_ext; intro i _; rw [b_or, b_0]; simp
/-- a loop that gathers a set of nodes -/
theorem orLoop {X : Int32 → Int32 → Prop} {n : Nat} (hn : n ≤ 16) (P : Nat → Prop) (hs : ∀ k s, k < n → (P k → X (nI k + 1) (s ||| ((1 : Int32) <<< (nI k &&& 31)))) → (¬ P k → X (nI k + 1) (s ||| 0)) → (¬ P k → X (nI k + 1) s) → X (nI k) s) (he : ∀ s, IsSet s (fun x => x < n ∧ P x) → X (nI n) s) : X 0 0 := by
  refine up1 (X := X) n (fun k s => IsSet s (fun x => x < k ∧ P x)) (fun k s hk hI hh => ?_) (fun s hI => he s hI) 0 0 (by omega) (IsSet.zero.congr (fun j _ => ⟨fun f => f.elim, fun z => absurd z.1 (by omega)⟩))
  have no : ¬ P k → IsSet s (fun x => x < k + 1 ∧ P x) := fun hp => hI.congr (fun j _ => ⟨fun z => ⟨by omega, z.2⟩, fun z => ⟨by
    by_cases e : j = k
    · subst e; exact absurd z.2 hp
    · omega, z.2⟩⟩)
  refine hs k s hk (fun hp => hh _ ?_) (fun hp => hh _ ?_) (fun hp => hh _ (no hp))
  · refine (hI.or (IsSet.bit (by omega))).congr (fun j _ => ⟨fun z => ?_, fun z => ?_⟩)
    · rcases z with z | z
      · exact ⟨by omega, z.2⟩
      · subst z; exact ⟨by omega, hp⟩
    · by_cases e : j = k
      · exact Or.inr e
      · exact Or.inl ⟨by omega, z.2⟩
  · rw [or_0]; exact no hp
/-- a loop that adds up -/
theorem smLoop {X : Int32 → Int32 → Prop} {n : Nat} (hn : n < 2 ^ 31) (f : Nat → Int32) (hs : ∀ k s, k < n → X (nI k + 1) (s + f k) → X (nI k) s) (he : X (nI n) (smI n f)) : X 0 0 := by
  refine up1 (X := X) n (fun k s => s = smI k f) (fun k s hk hI hh => hs k s hk (hh _ (by rw [hI]; rfl))) (fun s hI => by rw [hI]; exact he) 0 0 (by omega) rfl
theorem nat_of {x : Int32} {n : Nat} (hn : n < 2 ^ 31) (h0 : 0 ≤ x) (h1 : x ≤ nI n) : ∃ k : Nat, k ≤ n ∧ x = nI k := by
  obtain ⟨j, hj, rfl⟩ := nI_of (x := x) (Int32.not_lt.2 h0)
  rw [leN hj hn] at h1
  exact ⟨j, h1, rfl⟩
/-! tree2: contracts, pure predicates (printed by gen.py) -/
def pr_X5_keepsAll (kp dp tw wt st : Nat → Int32) (tn tr tre tm ts fr al bey : Int32) : Prop := GPre tn tw fr al ∧ ∀ kq, Kps tn tw fr al bey kp kq → ∃ D : Nat → Nat, Chn (fun x => bt tre x = true) kq D ∧ ∀ x, D x < 16
def ps_X5_keepsAll (kp dp tw wt st : Nat → Int32) (tn tr tre tm ts fr al bey : Int32) (kp' dp' st' : Nat → Int32) : Prop := Kps tn tw fr al bey kp kp' ∧ ∀ D, Chn (fun x => bt tre x = true) kp' D → ∀ x : Nat, x < tn.toNatClampNeg → (bt tre x = true → dp' x = nI (D x)) ∧ (¬ bt tre x = true → dp' x = dp x)
def wp_X5_keepsAll_L13 (dp tw wt : Nat → Int32) (tn tr tre tm ts fr al bey : Int32) (st_1 : Nat → Int32) (J72 : (Nat → Int32) → Prop) (ix4_37 : Int32) (ia_38 : Nat → Int32) : Prop :=
  ∀ X13 : Int32 → (Nat → Int32) → Prop, (∀ (x4_37 : Int32) (a_38 : Nat → Int32), (((tn ≤ x4_37 → (J72 a_38)) ∧
 (¬ (tn ≤ x4_37) → (∀ (r_41 : Int32), ps_X1_has al x4_37 r_41 → (((r_41 = 0 → (X13 (x4_37 + 1) a_38)) ∧
 (¬ (r_41 = 0) → ((¬ x4_37 = fr → (vp_in x4_37 16 ∧ (pr_X5_deepest a_38 dp tw wt st_1 tn tr tre tm ts ((st_1 x4_37.toNatClampNeg) &&& ((1 <<< (x4_37 &&& 31)) ^^^ (-1))) ∧ (∀ (r_45 : Int32), ps_X5_deepest a_38 dp tw wt st_1 tn tr tre tm ts ((st_1 x4_37.toNatClampNeg) &&& ((1 <<< (x4_37 &&& 31)) ^^^ (-1))) r_45 → (∀ u_46 : Nat → Int32, u_46 = upd a_38 x4_37.toNatClampNeg r_45 → (X13 (x4_37 + 1) u_46)))))) ∧
 (x4_37 = fr → (vp_in x4_37 16 ∧ (∀ u_48 : Nat → Int32, u_48 = upd a_38 x4_37.toNatClampNeg bey → (X13 (x4_37 + 1) u_48)))))))))))) → X13 x4_37 a_38) → X13 ix4_37 ia_38
def wp_X5_keepsAll (kp dp tw wt st : Nat → Int32) (tn tr tre tm ts fr al bey : Int32) (Q : (Nat → Int32) → (Nat → Int32) → (Nat → Int32) → Prop) : Prop :=
  pr_X1_gates_T kp dp tw wt st tn tr tre tm ts fr al ∧ (∀ (st_1 : Nat → Int32), ps_X1_gates_T kp dp tw wt st tn tr tre tm ts fr al st_1 → (∀ J72 : (Nat → Int32) → Prop, (∀ (a_34 : Nat → Int32), (pr_X5_deepens a_34 dp tw wt st_1 tn tr tre tm ts ∧ (∀ (dp_35 : Nat → Int32), ps_X5_deepens a_34 dp tw wt st_1 tn tr tre tm ts dp_35 → (Q a_34 dp_35 st_1))) → J72 a_34) →
wp_X5_keepsAll_L13 dp tw wt tn tr tre tm ts fr al bey st_1 J72 0 kp))
theorem pf_X5_keepsAll (kp dp tw wt st : Nat → Int32) (tn tr tre tm ts fr al bey : Int32) (hp : pr_X5_keepsAll kp dp tw wt st tn tr tre tm ts fr al bey) : wp_X5_keepsAll kp dp tw wt st tn tr tre tm ts fr al bey (ps_X5_keepsAll kp dp tw wt st tn tr tre tm ts fr al bey) := by
  obtain ⟨hG, hD⟩ := hp
  obtain ⟨n, f, rfl, hn, rfl, hf, hρ, hal, haln⟩ := id hG
  refine ⟨hG, fun st1 hst J hJ X hX => ?_⟩
  have hst1 := hst n f rfl hn rfl (by omega)
  have hB : ∀ k, k < n → B16 (st1 k) := fun k hk => by
    by_cases hb : bt al k = true
    · exact B16.of ((hst1 k hk).1 hb)
    · rw [(hst1 k hk).2 hb]; exact fun k _ _ => b_0 k
  refine up1 n (fun i a => ∀ x, x < 16 → (x < i → bt al x = true → (x = f → a x = bey) ∧ (x ≠ f → ∃ g, a x = nI g ∧ Id (El (Er (nI n) tw) al) f g x)) ∧ ((i ≤ x ∨ ¬ bt al x = true) → a x = kp x)) (fun i a hi hI hh => hX _ _ ⟨fun c => ?_, fun c r hr => ?_⟩) (fun a hI => hX _ _ ⟨fun _ => hJ _ ?_, fun c => absurd (Int32.le_refl _) c⟩) 0 kp (by omega) (fun x hx => ⟨fun h => absurd h (by omega), fun _ => rfl⟩)
  · rw [leN (by omega) (by omega)] at c; omega
  · unfold ps_X1_has at hr
    rw [hr, i1_eq0, hs_bt (by omega), clN (by omega), eqN (by omega) (by omega)]
    have hin := vp_in_nI (show i < 16 by omega) (by decide)
    refine ⟨fun d => hh _ (fun x hx => ⟨fun h hb => ?_, fun h => (hI x hx).2 ?_⟩), fun d => ⟨fun d2 => ⟨hin, ⟨n, rfl, hn, hB⟩, fun r2 hr2 u eu => hh _ ?_⟩, fun d2 => ⟨hin, fun u eu => hh _ ?_⟩⟩⟩
    · by_cases e : x = i
      · subst e; exact absurd hb d
      · exact (hI x hx).1 (by omega) hb
    · by_cases e : x = i
      · subst e; exact Or.inr d
      · exact h.imp (fun z => by omega) id
    · have d := Classical.not_not.1 d
      subst eu
      intro x hx
      by_cases e : x = i
      · subst e
        rw [upd_s]
        refine ⟨fun _ _ => ⟨fun e => absurd e d2, fun _ => ?_⟩, fun h => h.elim (fun z => absurd z (by omega)) (fun z => absurd d z)⟩
        have hS := (hst1 x (by omega)).1 d
        have hsx : IsSet (st1 x &&& ((1 : Int32) <<< (nI x &&& 31) ^^^ (-1))) (fun g => Pd (El (Er (nI n) tw) al) f g x) := (hS.andNot (IsSet.bit (by omega))).congr (fun g _ => ⟨fun z => ⟨z.2, z.1⟩, fun z => ⟨z.2, z.1⟩⟩)
        have hRx : Rd (El (Er (nI n) tw) al) f x := ((hal x (by omega)).1 d).2
        rcases hr2 n rfl hn with ⟨-, h2⟩ | ⟨g, g1, g2, g3, g4⟩
        · exact absurd ((hsx f (by omega)).2 ⟨by omega, fun e => d2 e.symm, Dm.root hRx⟩) (h2 f hf)
        · refine ⟨g, g2, ((hsx g (by omega)).1 g3).2, fun k hk => ?_⟩
          have hg := ((hsx g (by omega)).1 g3).2
          have kn := El.lt haln hf hk.2.Rg
          have gal : bt al g = true := (hal g (by omega)).2 ⟨by omega, hg.2.Rg⟩
          have kal : bt al k = true := (hal k (by omega)).2 ⟨by omega, hk.2.Rg⟩
          rcases hk.2.chain hg.2 with q | q
          · exact q
          · by_cases e : g = k
            · subst e; exact q
            · exfalso
              have h4 := g4 k kn ((hsx k (by omega)).2 ⟨by omega, hk⟩)
              rw [pc_set ((hst1 k kn).1 kal), pc_set ((hst1 g g1).1 gal)] at h4
              have h5 : cnt 16 (fun z => Dm (El (Er (nI n) tw) al) f z g) < cnt 16 (fun z => Dm (El (Er (nI n) tw) al) f z k) := cnt_lt (g := k) (by omega) (fun z _ hz => hz.trans q) (fun z => e (q.antisymm z)) (Dm.refl hk.2.Rg)
              omega
      · rw [upd_n e]
        exact ⟨fun h hb => (hI x hx).1 (by omega) hb, fun h => (hI x hx).2 (h.imp (fun z => by omega) id)⟩
    · have d := Classical.not_not.1 d
      subst eu
      intro x hx
      by_cases e : x = i
      · subst e; rw [upd_s]
        exact ⟨fun _ _ => ⟨fun _ => rfl, fun z => absurd d2 z⟩, fun h => h.elim (fun z => absurd z (by omega)) (fun z => absurd d z)⟩
      · rw [upd_n e]
        exact ⟨fun h hb => (hI x hx).1 (by omega) hb, fun h => (hI x hx).2 (h.imp (fun z => by omega) id)⟩
  · have hK : Kps (nI n) tw (nI f) al bey kp a := by
      intro n' f' en hn' ef hf' x hx
      rw [eqN (by omega) (by omega)] at en ef
      subst en; subst ef
      exact ⟨fun hb => (hI x hx).1 (haln x hb) hb, fun hb => (hI x hx).2 (Or.inr hb)⟩
    obtain ⟨D, hc, h16⟩ := hD a hK
    exact ⟨⟨⟨n, rfl, hn⟩, D, hc, h16⟩, fun dp' hdp => ⟨hK, hdp⟩⟩
def pr_X5_grows (kp dp tw wt st : Nat → Int32) (tn tr tre tm ts : Int32) (f t w c o : Nat → Int32) (nd rt ex mn : Int32) : Prop := ∃ N, NetR N f t w c o nd rt ex mn
def ps_X5_grows (kp dp tw wt st : Nat → Int32) (tn tr tre tm ts : Int32) (f t w c o : Nat → Int32) (nd rt ex mn : Int32) (kp' dp' tw' st' : Nat → Int32) (tn' tr' tre' : Int32) : Prop := ∀ N, NetR N f t w c o nd rt ex mn → TreR N.E N.root N.n kp' dp' tw' tn' tr' tre'
def wp_X5_grows_L46 (J65 : (Nat → Int32) → Prop) (ix2_19 : Int32) (ia_20 : Nat → Int32) : Prop :=
  ∀ X46 : Int32 → (Nat → Int32) → Prop, (∀ (x2_19 : Int32) (a_20 : Nat → Int32), (((16 ≤ x2_19 → (J65 a_20)) ∧
 (¬ (16 ≤ x2_19) → (vp_in x2_19 16 ∧ (∀ u_24 : Nat → Int32, u_24 = upd a_20 x2_19.toNatClampNeg (-1) → (X46 (x2_19 + 1) u_24)))))) → X46 x2_19 a_20) → X46 ix2_19 ia_20
def wp_X5_grows (kp dp tw wt st : Nat → Int32) (tn tr tre tm ts : Int32) (f t w c o : Nat → Int32) (nd rt ex mn : Int32) (Q : (Nat → Int32) → (Nat → Int32) → (Nat → Int32) → (Nat → Int32) → Int32 → Int32 → Int32 → Prop) : Prop :=
  pr_X8_reach_T kp dp (va_cpy w tw 0 0 16) wt st nd rt tre tm ts rt 0 ∧ (∀ (r_1 : Int32), ps_X8_reach_T kp dp (va_cpy w tw 0 0 16) wt st nd rt tre tm ts rt 0 r_1 → (∀ J65 : (Nat → Int32) → Prop, (∀ (a_16 : Nat → Int32), (pr_X5_keepsAll kp a_16 (va_cpy w tw 0 0 16) wt st nd rt r_1 tm ts rt r_1 (-1) ∧ (∀ (kp_17 dp_17 st_17 : Nat → Int32), ps_X5_keepsAll kp a_16 (va_cpy w tw 0 0 16) wt st nd rt r_1 tm ts rt r_1 (-1) kp_17 dp_17 st_17 → (Q kp_17 dp_17 (va_cpy w tw 0 0 16) st_17 nd rt r_1))) → J65 a_16) →
wp_X5_grows_L46 J65 0 dp))
theorem pf_X5_grows (kp dp tw wt st : Nat → Int32) (tn tr tre tm ts : Int32) (f t w c o : Nat → Int32) (nd rt ex mn : Int32) (hp : pr_X5_grows kp dp tw wt st tn tr tre tm ts f t w c o nd rt ex mn) : wp_X5_grows kp dp tw wt st tn tr tre tm ts f t w c o nd rt ex mn (ps_X5_grows kp dp tw wt st tn tr tre tm ts f t w c o nd rt ex mn) := by
  obtain ⟨N, hN⟩ := hp
  have h1 := hN.1
  obtain ⟨q1, q2, q3, q4, q5, q6, q7⟩ := id h1
  obtain ⟨-, e1, e2, -⟩ := id hN
  subst e1; subst e2
  have hcp : ∀ a, a < 16 → va_cpy w tw 0 0 16 a = w a := fun a ha => (pk_cpy_in (by omega) (by omega)).trans (by simp)
  have hw : ∀ a, a < 16 → IsSet (va_cpy w tw 0 0 16 a) (N.E a) := fun a ha => by rw [hcp a ha]; exact hN.rows ha
  unfold wp_X5_grows
  generalize va_cpy w tw 0 0 16 = tw1 at hw ⊢
  have hE : ∀ a b, N.E a b → a < N.n ∧ b < N.n := fun a b e => NetM.E_lt h1 e
  have hEr := Er_iff q2 hE hw
  refine ⟨⟨N.n, N.root, rfl, q2, rfl, q3, b_0 _, RowsW_of q2 hE hw⟩, fun r hr J hJ X hX => ?_⟩
  have hr1 : IsSet r (Rd N.E N.root) := hr.congr (fun k _ => Rs.congr hEr (fun a => by rw [clN (by omega)]) (fun a => by rw [b_zero]))
  have lt : ∀ x, Rd N.E N.root x → x < N.n := fun x hx => Rs.ind (X := fun x => x < N.n) (fun z s _ => by rw [s]; exact q3) (fun _ v _ _ e _ => (hE _ v e).2) hx
  have hra := hr1.all (fun k hk => by have := lt k hk; omega)
  have hEl : ∀ u v, El (Er (nI N.n) tw1) r u v ↔ N.E u v ∧ Rd N.E N.root u ∧ Rd N.E N.root v := fun u v => by
    unfold El; rw [hEr, hra, hra]
  have hRl : ∀ W x, Rs (El (Er (nI N.n) tw1) r) (fun z => z = N.root) W x ↔ Rs N.E (fun z => z = N.root) W x := fun W x => by
    constructor
    · exact fun h => h.mono (fun u v e => ((hEl u v).1 e).1) (fun _ s => s) (fun _ z => z)
    · exact fun h => Rs.ind (X := fun x => Rs (El (Er (nI N.n) tw1) r) (fun z => z = N.root) W x) (fun z s w => Rs.base s w) (fun u v hu ih e w => ih.step ((hEl u v).2 ⟨e, Rd.of hu, Rd.step (Rd.of hu) e⟩) w) h
  have hDl : ∀ g x, Dm (El (Er (nI N.n) tw1) r) N.root g x ↔ Dm N.E N.root g x := fun g x => by
    unfold Dm Rd; rw [hRl, hRl]
  have hIl : ∀ g x, Id (El (Er (nI N.n) tw1) r) N.root g x ↔ Id N.E N.root g x := fun g x => by
    unfold Id Pd; simp only [hDl]
  have key : ∀ kq, Kps (nI N.n) tw1 (nI N.root) r (-1) kp kq → kq N.root = -1 ∧ ∀ x, Rd N.E N.root x → x ≠ N.root → ∃ g, kq x = nI g ∧ Id N.E N.root g x := fun kq hk => by
    have hk := hk N.n N.root rfl q2 rfl q3
    refine ⟨((hk N.root (by omega)).1 ((hra _).2 Rd.root)).1 rfl, fun x hx e => ?_⟩
    obtain ⟨g, g1, g2⟩ := ((hk x (by have := lt x hx; omega)).1 ((hra _).2 hx)).2 e
    exact ⟨g, g1, (hIl g x).1 g2⟩
  refine up1 16 (fun _ _ => True) (fun i a hi hI hh => hX _ _ ⟨fun c => ?_, fun c => ⟨vp_in_nI (by omega) (by decide), fun u _ => hh _ trivial⟩⟩) (fun a hI => hX _ _ ⟨fun _ => hJ _ ?_, fun c => absurd (Int32.le_refl _) c⟩) 0 dp (by omega) trivial
  · rw [n16, leN (by omega) (by omega)] at c; omega
  · refine ⟨⟨⟨N.n, N.root, rfl, q2, rfl, q3, RowsW_of q2 hE hw, ?_, fun k hk => lt k ((hra k).1 hk)⟩, fun kq hk => ?_⟩, fun kp' dp' st' hps N' hN' => ?_⟩
    · exact hr1.congr (fun k _ => (hRl _ k).symm)
    · obtain ⟨k1, k2⟩ := key kq hk
      exact ⟨_, Chn.of q2 q3 hE hra k1 k2, fun x => dep16 q2 q3 hE⟩
    · obtain ⟨hk, hd⟩ := hps
      obtain ⟨k1, k2⟩ := key kp' hk
      have hd := hd _ (Chn.of q2 q3 hE hra k1 k2)
      obtain ⟨-, e1', e2', -⟩ := id hN'
      have h1' := hN'.1
      obtain ⟨p1, p2, p3, -⟩ := id h1'
      rw [eqN (by omega) (by omega)] at e1' e2'
      -- the same net, whatever its name
      have hEE : ∀ a b, N'.E a b ↔ N.E a b := fun a b => by
        constructor
        · intro e
          have := NetM.E_lt h1' e
          exact ((hN.rows (a := a) (by omega)) b (by omega)).1 (((hN'.rows (a := a) (by omega)) b (by omega)).2 ⟨by omega, e⟩) |>.2
        · intro e
          have := NetM.E_lt h1 e
          exact ((hN'.rows (a := a) (by omega)) b (by omega)).1 (((hN.rows (a := a) (by omega)) b (by omega)).2 ⟨by omega, e⟩) |>.2
      have hE2 : N'.E = N.E := by funext a b; exact propext (hEE a b)
      rw [hE2, ← e1', ← e2']
      refine ⟨⟨q2, q3, hE, k1, k2, fun x hx => ?_⟩, rfl, rfl, hw, hr1⟩
      have := lt x hx
      exact (hd x (by rw [clN (by omega)]; exact this)).1 ((hra x).2 hx)
def ps_X5_be (kp dp tw wt st : Nat → Int32) (tn tr tre tm ts : Int32) (kp2 dp2 tw2 wt2 st2 : Nat → Int32) (tn2 tr2 tre2 tm2 ts2 : Int32) (kp' dp' tw' : Nat → Int32) (tn' tr' tre' : Int32) : Prop := (∀ j, j < 16 → kp' j = kp2 j ∧ dp' j = dp2 j ∧ tw' j = tw2 j) ∧ tn' = tn2 ∧ tr' = tr2 ∧ tre' = tre2
def wp_X5_be (kp dp tw wt st : Nat → Int32) (tn tr tre tm ts : Int32) (kp2 dp2 tw2 wt2 st2 : Nat → Int32) (tn2 tr2 tre2 tm2 ts2 : Int32) (Q : (Nat → Int32) → (Nat → Int32) → (Nat → Int32) → Int32 → Int32 → Int32 → Prop) : Prop :=
  Q (va_cpy kp2 kp 0 0 16) (va_cpy dp2 dp 0 0 16) (va_cpy tw2 tw 0 0 16) tn2 tr2 tre2
theorem pf_X5_be (kp dp tw wt st : Nat → Int32) (tn tr tre tm ts : Int32) (kp2 dp2 tw2 wt2 st2 : Nat → Int32) (tn2 tr2 tre2 tm2 ts2 : Int32) : wp_X5_be kp dp tw wt st tn tr tre tm ts kp2 dp2 tw2 wt2 st2 tn2 tr2 tre2 tm2 ts2 (ps_X5_be kp dp tw wt st tn tr tre tm ts kp2 dp2 tw2 wt2 st2 tn2 tr2 tre2 tm2 ts2) := by
  refine ⟨fun j hj => ⟨?_, ?_, ?_⟩, rfl, rfl, rfl⟩ <;> exact (pk_cpy_in (by omega) (by omega)).trans (by simp)
def ps_X5_init   : Prop := True
def wp_X5_init  (Q : Prop) : Prop :=
  Q
theorem pf_X5_init  : wp_X5_init  (ps_X5_init) := by
  trivial
def pr_X5_common (kp dp tw wt st : Nat → Int32) (tn tr tre tm ts a b : Int32) : Prop := ∃ E r n x y, TreK E r n kp dp ∧ a = nI x ∧ b = nI y ∧ Rd E r x ∧ Rd E r y
def ps_X5_common (kp dp tw wt st : Nat → Int32) (tn tr tre tm ts a b : Int32) (r : Int32)  : Prop := ∀ E ro n x y, TreK E ro n kp dp → a = nI x → b = nI y → Rd E ro x → Rd E ro y → ∃ z, r = nI z ∧ Near E ro x y z
def wp_X5_common_L5 (kp dp : Nat → Int32) (J49 : Int32 → Prop) (ix4_22 ix3_23 : Int32) : Prop :=
  ∀ X5 : Int32 → Int32 → Prop, (∀ (x4_22 : Int32) (x3_23 : Int32), (((x3_23 = x4_22 → (J49 x3_23)) ∧
 (¬ (x3_23 = x4_22) → (vp_in x3_23 16 ∧ (vp_in x4_22 16 ∧ ((((dp x3_23.toNatClampNeg) < (dp x4_22.toNatClampNeg) → (X5 (kp x4_22.toNatClampNeg) x3_23)) ∧
 (¬ ((dp x3_23.toNatClampNeg) < (dp x4_22.toNatClampNeg)) → (X5 x4_22 (kp x3_23.toNatClampNeg)))))))))) → X5 x4_22 x3_23) → X5 ix4_22 ix3_23
def wp_X5_common (kp dp tw wt st : Nat → Int32) (tn tr tre tm ts a b : Int32) (Q : Int32 → Prop) : Prop :=
  ∀ J49 : Int32 → Prop, (∀ (x3_20 : Int32), (Q x3_20) → J49 x3_20) →
wp_X5_common_L5 kp dp J49 b a
theorem pf_X5_common (kp dp tw wt st : Nat → Int32) (tn tr tre tm ts a b : Int32) (hp : pr_X5_common kp dp tw wt st tn tr tre tm ts a b) : wp_X5_common kp dp tw wt st tn tr tre tm ts a b (ps_X5_common kp dp tw wt st tn tr tre tm ts a b) := by
  obtain ⟨E, r, n, x, y, hT, rfl, rfl, hx, hy⟩ := hp
  intro J hJ X hX
  have lt := fun z hz => hT.lt (x := z) hz
  have hn := hT.1
  have main := dn1 (X := fun (p : Int32 × Int32) => X p.2 p.1) (fun p => ∃ u v, p.1 = nI u ∧ p.2 = nI v ∧ Dm E r u x ∧ Dm E r v y ∧ ∀ g, Dm E r g x → Dm E r g y → Dm E r g u ∧ Dm E r g v) (fun p => dep E r n p.1.toNatClampNeg + dep E r n p.2.toNatClampNeg) (fun p hp hh => ?_)
  · exact main (nI x, nI y) ⟨x, y, rfl, rfl, Dm.refl hx, Dm.refl hy, fun g h1 h2 => ⟨h1, h2⟩⟩
  · obtain ⟨p1, p2⟩ := p
    obtain ⟨u, v, e1, e2, hu, hv, hg⟩ := hp
    dsimp only at e1 e2 hh ⊢
    subst e1; subst e2
    have lu := lt u hu.Rg
    have lv := lt v hv.Rg
    refine hX _ _ ⟨fun c => hJ _ ?_, fun c => ⟨vp_in_nI (by omega) (by decide), vp_in_nI (by omega) (by decide), ?_⟩⟩
    · rw [eqN (by omega) (by omega)] at c
      subst c
      intro E' r' n' x' y' hT' ex ey hx' hy'
      have lx' := hT'.lt hx'
      have ly' := hT'.lt hy'
      have lx := lt x hx
      have ly := lt y hy
      have hn' := hT'.1
      rw [eqN (by omega) (by omega)] at ex ey
      subst ex; subst ey
      -- any other tree with these keepers has the same gates
      have same : ∀ d z, Rd E r z → Rd E' r' z → dep E r n z = d → ∀ g, Dm E r g z ↔ Dm E' r' g z := by
        intro d
        induction d with
        | zero =>
          intro z h1 h2 e g
          have er : z = r := Classical.byContradiction fun q => by obtain ⟨_, _, _, _, _, h⟩ := hT.up h1 q; omega
          have er' : z = r' := Classical.byContradiction fun q => by
            obtain ⟨g', k1, k2, k3, -⟩ := hT'.up h2 q
            rw [er, hT.2.2.2.1] at k1; exact absurd k1.symm (nI_m1 (by omega))
          constructor
          · intro h
            have : g = z := by subst er; exact h.antisymm (Dm.root h.Rg)
            rw [this]; exact Dm.refl h2
          · intro h
            have : g = z := by subst er'; exact h.antisymm (Dm.root h.Rg)
            rw [this]; exact Dm.refl h1
        | succ d ih =>
          intro z h1 h2 e g
          have er : z ≠ r := fun q => by rw [q, dep_root] at e; omega
          obtain ⟨i, i1, i2, i3, i4, i5⟩ := hT.up h1 er
          have er' : z ≠ r' := fun q => by rw [q, hT'.2.2.2.1] at i1; exact absurd i1.symm (nI_m1 (by omega))
          obtain ⟨i', j1, j2, j3, j4, j5⟩ := hT'.up h2 er'
          rw [i1, eqN (by omega) (by omega)] at j1
          subst j1
          have hi := ih i i4 j4 (by omega) g
          constructor
          · intro h
            by_cases eg : g = z
            · rw [eg]; exact Dm.refl h2
            · exact (hi.1 (i2.2 g ⟨eg, h⟩)).trans j2.1.2
          · intro h
            by_cases eg : g = z
            · rw [eg]; exact Dm.refl h1
            · exact (hi.2 (j2.2 g ⟨eg, h⟩)).trans i2.1.2
      have sx := same _ x hx hx' rfl
      have sy := same _ y hy hy' rfl
      refine ⟨u, rfl, (sx u).1 hu, (sy u).1 hv, fun g h1 h2 => ?_⟩
      have hu' := ((sx u).1 hu).Rg
      exact (same _ u hu.Rg hu' rfl g).1 (hg g ((sx g).2 h1) ((sy g).2 h2)).1
    · rw [eqN (by omega) (by omega)] at c
      rw [clN (by omega), clN (by omega), hT.2.2.2.2.2 u hu.Rg, hT.2.2.2.2.2 v hv.Rg]
      have d1 := dep_n lt hu.Rg
      have d2 := dep_n lt hv.Rg
      rw [ltN (by omega) (by omega)]
      refine ⟨fun q => ?_, fun q => ?_⟩
      · have er : v ≠ r := fun e => by rw [e, dep_root] at q; omega
        obtain ⟨i, i1, i2, i3, i4, i5⟩ := hT.up hv.Rg er
        rw [i1]
        refine hh (nI u, nI i) ⟨u, i, rfl, rfl, hu, i2.1.2.trans hv, fun g h1 h2 => ⟨(hg g h1 h2).1, i2.2 g ⟨fun e => ?_, (hg g h1 h2).2⟩⟩⟩ (by rw [clN (by omega), clN (by omega), clN (by omega)]; omega)
        subst e
        have := dep_le lt (hg g h1 h2).1; omega
      · have er : u ≠ r := fun e => by
          rw [e, dep_root] at q
          have dv : dep E r n v = 0 := by omega
          have ev : v = r := Classical.byContradiction fun z => by obtain ⟨_, _, _, _, _, h⟩ := hT.up hv.Rg z; omega
          exact c (e.trans ev.symm)
        obtain ⟨i, i1, i2, i3, i4, i5⟩ := hT.up hu.Rg er
        rw [i1]
        refine hh (nI i, nI v) ⟨i, v, rfl, rfl, i2.1.2.trans hu, hv, fun g h1 h2 => ⟨i2.2 g ⟨fun e => ?_, (hg g h1 h2).1⟩, (hg g h1 h2).2⟩⟩ (by rw [clN (by omega), clN (by omega), clN (by omega)]; omega)
        subst e
        have l1 := dep_le lt (hg g h1 h2).2
        have : g = v := Classical.byContradiction fun z => by have := dep_lt lt (⟨z, (hg g h1 h2).2⟩ : Pd E r g v); omega
        exact c this
def pr_X5_keeps (kp dp tw wt st : Nat → Int32) (tn tr tre tm ts a b : Int32) : Prop := ∃ E r n x y, TreK E r n kp dp ∧ IsSet tre (Rd E r) ∧ a = nI x ∧ b = nI y ∧ x < 16 ∧ y < 16
def ps_X5_keeps (kp dp tw wt st : Nat → Int32) (tn tr tre tm ts a b : Int32) (r : Int32)  : Prop := ∀ E ro n x y, TreK E ro n kp dp → IsSet tre (Rd E ro) → a = nI x → b = nI y → x < 16 → y < 16 → IsB r (Pd E ro x y)
def wp_X5_keeps_L20 (kp : Nat → Int32) (a : Int32) (J40 : Int32 → Prop) (ix3_21 : Int32) : Prop :=
  ∀ X20 : Int32 → Prop, (∀ (x3_21 : Int32), (((x3_21 = (-1) → (J40 x3_21)) ∧
 (¬ (x3_21 = (-1)) → ((x3_21 = a → (J40 x3_21)) ∧
 (¬ (x3_21 = a) → (vp_in x3_21 16 ∧ (X20 (kp x3_21.toNatClampNeg)))))))) → X20 x3_21) → X20 ix3_21
def wp_X5_keeps (kp dp tw wt st : Nat → Int32) (tn tr tre tm ts a b : Int32) (Q : Int32 → Prop) : Prop :=
  ∀ (r_1 : Int32), ps_X1_has tre b r_1 → (((¬ r_1 = 0 → (vp_in b 16 ∧ (∀ J40 : Int32 → Prop, (∀ (x3_18 : Int32), (((x3_18 = (-1) → (Q 0)) ∧
 (¬ (x3_18 = (-1)) → (Q 1)))) → J40 x3_18) →
wp_X5_keeps_L20 kp a J40 (kp b.toNatClampNeg)))) ∧
 (r_1 = 0 → (Q 0))))
theorem pf_X5_keeps (kp dp tw wt st : Nat → Int32) (tn tr tre tm ts a b : Int32) (hp : pr_X5_keeps kp dp tw wt st tn tr tre tm ts a b) : wp_X5_keeps kp dp tw wt st tn tr tre tm ts a b (ps_X5_keeps kp dp tw wt st tn tr tre tm ts a b) := by
  obtain ⟨E, r, n, x, y, hT, ht, rfl, rfl, x16, y16⟩ := hp
  intro r1 hr1
  unfold ps_X1_has at hr1
  rw [hr1, i1_eq0, hs_bt (by omega)]
  refine ⟨fun c => ⟨vp_in_nI y16 (by decide), fun J hJ X hX => ?_⟩, fun c => ?_⟩
  · have c := Classical.not_not.1 c
    have I0 : ∀ v : Int32, v = kp y → ∀ E' r' n' x' y', TreK E' r' n' kp dp → IsSet tre (Rd E' r') → nI x = nI x' → nI y = nI y' → x' < 16 → y' < 16 → (v = -1 ∧ ¬ Pd E' r' x' y') ∨ ∃ g : Nat, v = nI g ∧ g < 16 ∧ Rd E' r' g ∧ (Pd E' r' x' y' ↔ Dm E' r' x' g) := by
      intro v hv E' r' n' x' y' hT' ht' ex ey hx' hy'
      rw [eqN (by omega) (by omega)] at ex ey
      subst ex; subst ey
      have hy : Rd E' r' y := ((ht' y (by omega)).1 c).2
      by_cases e : y = r'
      · subst e
        exact Or.inl ⟨hv.trans hT'.2.2.2.1, fun z => z.1 (z.2.antisymm (Dm.root z.2.Rg))⟩
      · obtain ⟨g, g1, g2, g3, g4, -⟩ := hT'.up hy e
        refine Or.inr ⟨g, hv.trans g1, by have := hT'.1; omega, g4, ?_⟩
        rw [g2.iff]
        exact ⟨fun z => z.elim (fun q => q.2) (fun q => by rw [q]; exact Dm.refl g4), fun z => by
          by_cases q : x = g
          · exact Or.inr q
          · exact Or.inl ⟨q, z⟩⟩
    rw [clN (by omega)]
    refine dn1 (X := X) (fun v => ∀ E' r' n' x' y', TreK E' r' n' kp dp → IsSet tre (Rd E' r') → nI x = nI x' → nI y = nI y' → x' < 16 → y' < 16 → (v = -1 ∧ ¬ Pd E' r' x' y') ∨ ∃ g : Nat, v = nI g ∧ g < 16 ∧ Rd E' r' g ∧ (Pd E' r' x' y' ↔ Dm E' r' x' g)) (fun v => if v = -1 then 0 else 1 + dep E r n v.toNatClampNeg) (fun v hv hh => hX _ ⟨fun d => hJ _ ⟨fun _ => ?_, fun d2 => absurd d d2⟩, fun d => ⟨fun d2 => hJ _ ⟨fun d3 => absurd d3 d, fun _ => ?_⟩, fun d2 => ?_⟩⟩) (kp y) (I0 _ rfl)
    · intro E' r' n' x' y' hT' ht' ex ey hx' hy'
      rcases hv E' r' n' x' y' hT' ht' ex ey hx' hy' with z | ⟨g, g1, g2, -⟩
      · exact Or.inr ⟨rfl, z.2⟩
      · rw [g1] at d; exact absurd d (nI_m1 (by omega))
    · intro E' r' n' x' y' hT' ht' ex ey hx' hy'
      rcases hv E' r' n' x' y' hT' ht' ex ey hx' hy' with z | ⟨g, g1, g2, g3, g4⟩
      · exact absurd z.1 d
      · rw [g1, ex, eqN (by omega) (by omega)] at d2
        subst d2
        exact Or.inl ⟨rfl, g4.2 (Dm.refl g3)⟩
    · rcases hv E r n x y hT ht rfl rfl x16 y16 with z | ⟨g, g1, g2, g3, g4⟩
      · exact absurd z.1 d
      · subst g1
        rw [eqN (by omega) (by omega)] at d2
        refine ⟨vp_in_nI g2 (by decide), ?_⟩
        rw [clN (by omega)]
        refine hh _ (fun E' r' n' x' y' hT' ht' ex ey hx' hy' => ?_) ?_
        · rcases hv E' r' n' x' y' hT' ht' ex ey hx' hy' with z | ⟨g', k1, k2, k3, k4⟩
          · exact absurd z.1 d
          · rw [eqN (by omega) (by omega)] at k1 ex
            subst k1; subst ex
            by_cases e : g = r'
            · subst e
              exact Or.inl ⟨hT'.2.2.2.1, fun z => d2 ((k4.1 z).antisymm (Dm.root (k4.1 z).Rg)).symm⟩
            · obtain ⟨i, i1, i2, i3, i4, -⟩ := hT'.up k3 e
              refine Or.inr ⟨i, i1, by have := hT'.1; omega, i4, k4.trans ⟨fun z => i2.2 x ⟨fun q => d2 q.symm, z⟩, fun z => z.trans i2.1.2⟩⟩
        · rw [if_neg d, clN (by omega)]
          by_cases e : g = r
          · subst e; rw [hT.2.2.2.1]; simp; omega
          · obtain ⟨i, i1, i2, i3, i4, i5⟩ := hT.up g3 e
            have := hT.1
            rw [i1, if_neg (nI_m1 (by omega)), clN (by omega)]; omega
  · intro E' r' n' x' y' hT' ht' ex ey hx' hy'
    rw [eqN (by omega) (by omega)] at ey
    subst ey
    exact Or.inr ⟨rfl, fun z => c ((ht' y (by omega)).2 ⟨y16, z.2.1⟩)⟩
def pr_X5_isBack (kp dp tw wt st : Nat → Int32) (tn tr tre tm ts a b : Int32) : Prop := ∃ E r n x y, TreK E r n kp dp ∧ IsSet tre (Rd E r) ∧ a = nI x ∧ b = nI y ∧ x < 16 ∧ y < 16
def ps_X5_isBack (kp dp tw wt st : Nat → Int32) (tn tr tre tm ts a b : Int32) (r : Int32)  : Prop := ∀ E ro n x y, TreK E ro n kp dp → IsSet tre (Rd E ro) → a = nI x → b = nI y → x < 16 → y < 16 → IsB r (Dm E ro y x)
def wp_X5_isBack (kp dp tw wt st : Nat → Int32) (tn tr tre tm ts a b : Int32) (Q : Int32 → Prop) : Prop :=
  ∀ (r_1 : Int32), ps_X1_has tre a r_1 → (((r_1 = 0 → (Q 0)) ∧
 (¬ (r_1 = 0) → ((a = b → (Q 1)) ∧
 (¬ (a = b) → (pr_X5_keeps kp dp tw wt st tn tr tre tm ts b a ∧ (∀ (r_4 : Int32), ps_X5_keeps kp dp tw wt st tn tr tre tm ts b a r_4 → (((r_4 = 0 → (Q 0)) ∧
 (¬ (r_4 = 0) → (Q 1)))))))))))
theorem pf_X5_isBack (kp dp tw wt st : Nat → Int32) (tn tr tre tm ts a b : Int32) (hp : pr_X5_isBack kp dp tw wt st tn tr tre tm ts a b) : wp_X5_isBack kp dp tw wt st tn tr tre tm ts a b (ps_X5_isBack kp dp tw wt st tn tr tre tm ts a b) := by
  obtain ⟨E, r, n, x, y, hT, ht, rfl, rfl, x16, y16⟩ := hp
  intro r1 hr1
  unfold ps_X1_has at hr1
  rw [hr1, i1_eq0, hs_bt (by omega), eqN (by omega) (by omega)]
  refine ⟨fun c => ?_, fun c => ⟨fun d => ?_, fun d => ⟨⟨E, r, n, y, x, hT, ht, rfl, rfl, y16, x16⟩, fun r4 hr4 => ⟨fun e => ?_, fun e => ?_⟩⟩⟩⟩
  all_goals
    intro E' r' n' x' y' hT' ht' ex ey hx' hy'
    rw [eqN (by omega) (by omega)] at ex ey
    subst ex; subst ey
  · exact Or.inr ⟨rfl, fun z => c ((ht' x (by omega)).2 ⟨x16, z.1⟩)⟩
  · subst d
    exact Or.inl ⟨rfl, Dm.refl ((ht' x (by omega)).1 (Classical.not_not.1 c)).2⟩
  · rcases hr4 E' r' n' y x hT' ht' rfl rfl y16 x16 with ⟨z, -⟩ | ⟨-, z⟩
    · rw [e] at z; exact absurd z (by decide)
    · exact Or.inr ⟨rfl, fun q => z ⟨fun w => d w.symm, q⟩⟩
  · rcases hr4 E' r' n' y x hT' ht' rfl rfl y16 x16 with ⟨-, z⟩ | ⟨z, -⟩
    · exact Or.inl ⟨rfl, z.2⟩
    · exact absurd z e
def pr_X5_movedFrom (kp dp tw wt st : Nat → Int32) (tn tr tre tm ts : Int32) (kp2 dp2 tw2 wt2 st2 : Nat → Int32) (tn2 tr2 tre2 tm2 ts2 : Int32) : Prop := tn ≤ 16 ∧ 0 ≤ tn
def ps_X5_movedFrom (kp dp tw wt st : Nat → Int32) (tn tr tre tm ts : Int32) (kp2 dp2 tw2 wt2 st2 : Nat → Int32) (tn2 tr2 tre2 tm2 ts2 : Int32) (r : Int32)  : Prop := IsSet r (fun x => x < tn.toNatClampNeg ∧ bt tre x = true ∧ bt tre2 x = true ∧ ¬ kp x = kp2 x)
def wp_X5_movedFrom_L4 (kp : Nat → Int32) (tn tre : Int32) (kp2 : Nat → Int32) (tre2 : Int32) (J59 : Int32 → Prop) (ix3_24 ix2_25 : Int32) : Prop :=
  ∀ X4 : Int32 → Int32 → Prop, (∀ (x3_24 : Int32) (x2_25 : Int32), (((tn ≤ x3_24 → (J59 x2_25)) ∧
 (¬ (tn ≤ x3_24) → (∀ (r_28 : Int32), ps_X1_has (tre &&& tre2) x3_24 r_28 → (((r_28 = 0 → (X4 (x3_24 + 1) (x2_25 ||| 0))) ∧
 (¬ (r_28 = 0) → (vp_in x3_24 16 ∧ ((((kp x3_24.toNatClampNeg) = (kp2 x3_24.toNatClampNeg) → (X4 (x3_24 + 1) (x2_25 ||| 0))) ∧
 (¬ ((kp x3_24.toNatClampNeg) = (kp2 x3_24.toNatClampNeg)) → (X4 (x3_24 + 1) (x2_25 ||| (1 <<< (x3_24 &&& 31))))))))))))))) → X4 x3_24 x2_25) → X4 ix3_24 ix2_25
def wp_X5_movedFrom (kp dp tw wt st : Nat → Int32) (tn tr tre tm ts : Int32) (kp2 dp2 tw2 wt2 st2 : Nat → Int32) (tn2 tr2 tre2 tm2 ts2 : Int32) (Q : Int32 → Prop) : Prop :=
  ∀ J59 : Int32 → Prop, (∀ (x2_22 : Int32), (Q x2_22) → J59 x2_22) →
wp_X5_movedFrom_L4 kp tn tre kp2 tre2 J59 0 0
theorem pf_X5_movedFrom (kp dp tw wt st : Nat → Int32) (tn tr tre tm ts : Int32) (kp2 dp2 tw2 wt2 st2 : Nat → Int32) (tn2 tr2 tre2 tm2 ts2 : Int32) (hp : pr_X5_movedFrom kp dp tw wt st tn tr tre tm ts kp2 dp2 tw2 wt2 st2 tn2 tr2 tre2 tm2 ts2) : wp_X5_movedFrom kp dp tw wt st tn tr tre tm ts kp2 dp2 tw2 wt2 st2 tn2 tr2 tre2 tm2 ts2 (ps_X5_movedFrom kp dp tw wt st tn tr tre tm ts kp2 dp2 tw2 wt2 st2 tn2 tr2 tre2 tm2 ts2) := by
  obtain ⟨n, hn, rfl⟩ := nat_of (n := 16) (by omega) hp.2 hp.1
  intro J hJ X hX
  refine orLoop hn (fun x => bt tre x = true ∧ bt tre2 x = true ∧ ¬ kp x = kp2 x) (fun k s hk h1 h2 h3 => hX _ _ ⟨fun c => ?_, fun c r hr => ?_⟩) (fun s hs => hX _ _ ⟨fun _ => hJ _ ?_, fun c => absurd (Int32.le_refl _) c⟩)
  · rw [leN (by omega) (by omega)] at c; omega
  · unfold ps_X1_has at hr
    rw [hr, i1_eq0, hs_bt (by omega), clN (by omega), b_and, Bool.and_eq_true]
    refine ⟨fun d => h2 (fun z => d ⟨z.1, z.2.1⟩), fun d => ⟨vp_in_nI (by omega) (by decide), fun e => h2 (fun z => z.2.2 e), fun e => h1 ?_⟩⟩
    have d := Classical.not_not.1 d
    exact ⟨d.1, d.2, e⟩
  · unfold ps_X5_movedFrom
    rw [clN (by omega)]
    exact hs
def pr_X5_liftFrom (kp dp tw wt st : Nat → Int32) (tn tr tre tm ts : Int32) (kp2 dp2 tw2 wt2 st2 : Nat → Int32) (tn2 tr2 tre2 tm2 ts2 : Int32) : Prop := tn ≤ 16 ∧ 0 ≤ tn
def ps_X5_liftFrom (kp dp tw wt st : Nat → Int32) (tn tr tre tm ts : Int32) (kp2 dp2 tw2 wt2 st2 : Nat → Int32) (tn2 tr2 tre2 tm2 ts2 : Int32) (r : Int32)  : Prop := r = smI tn.toNatClampNeg (fun x => if bt tre x = true ∧ bt tre2 x = true then dp2 x - dp x else 0)
def wp_X5_liftFrom_L4 (dp : Nat → Int32) (tn tre : Int32) (dp2 : Nat → Int32) (tre2 : Int32) (J54 : Int32 → Prop) (ix3_21 ix2_22 : Int32) : Prop :=
  ∀ X4 : Int32 → Int32 → Prop, (∀ (x3_21 : Int32) (x2_22 : Int32), (((tn ≤ x3_21 → (J54 x2_22)) ∧
 (¬ (tn ≤ x3_21) → (∀ (r_25 : Int32), ps_X1_has (tre &&& tre2) x3_21 r_25 → (((r_25 = 0 → (X4 (x3_21 + 1) (x2_22 + 0))) ∧
 (¬ (r_25 = 0) → (vp_in x3_21 16 ∧ (X4 (x3_21 + 1) (x2_22 + ((dp2 x3_21.toNatClampNeg) - (dp x3_21.toNatClampNeg)))))))))))) → X4 x3_21 x2_22) → X4 ix3_21 ix2_22
def wp_X5_liftFrom (kp dp tw wt st : Nat → Int32) (tn tr tre tm ts : Int32) (kp2 dp2 tw2 wt2 st2 : Nat → Int32) (tn2 tr2 tre2 tm2 ts2 : Int32) (Q : Int32 → Prop) : Prop :=
  ∀ J54 : Int32 → Prop, (∀ (x2_19 : Int32), (Q x2_19) → J54 x2_19) →
wp_X5_liftFrom_L4 dp tn tre dp2 tre2 J54 0 0
theorem pf_X5_liftFrom (kp dp tw wt st : Nat → Int32) (tn tr tre tm ts : Int32) (kp2 dp2 tw2 wt2 st2 : Nat → Int32) (tn2 tr2 tre2 tm2 ts2 : Int32) (hp : pr_X5_liftFrom kp dp tw wt st tn tr tre tm ts kp2 dp2 tw2 wt2 st2 tn2 tr2 tre2 tm2 ts2) : wp_X5_liftFrom kp dp tw wt st tn tr tre tm ts kp2 dp2 tw2 wt2 st2 tn2 tr2 tre2 tm2 ts2 (ps_X5_liftFrom kp dp tw wt st tn tr tre tm ts kp2 dp2 tw2 wt2 st2 tn2 tr2 tre2 tm2 ts2) := by
  obtain ⟨n, hn, rfl⟩ := nat_of (n := 16) (by omega) hp.2 hp.1
  intro J hJ X hX
  refine smLoop (by omega) (fun x => if bt tre x = true ∧ bt tre2 x = true then dp2 x - dp x else 0) (fun k s hk hh => hX _ _ ⟨fun c => ?_, fun c r hr => ?_⟩) (hX _ _ ⟨fun _ => hJ _ ?_, fun c => absurd (Int32.le_refl _) c⟩)
  · rw [leN (by omega) (by omega)] at c; omega
  · unfold ps_X1_has at hr
    rw [hr, i1_eq0, hs_bt (by omega), clN (by omega), b_and, Bool.and_eq_true]
    refine ⟨fun d => ?_, fun d => ⟨vp_in_nI (by omega) (by decide), ?_⟩⟩
    · rw [if_neg d] at hh; exact hh
    · rw [if_pos (Classical.not_not.1 d)] at hh; exact hh
  · unfold ps_X5_liftFrom
    rw [clN (by omega)]
