/-! the walk from an arc's end: what is seen, what is moved, what waits -/
def VsS (E : Nat → Nat → Prop) (S : Nat → Prop) (d : Nat → Nat) (n : Nat) (tw dp : Nat → Int32) : Prop := n ≤ 16 ∧ (∀ a b, E a b → a < n ∧ b < n) ∧ (∀ a b, S a → E a b → S b) ∧ (∀ x, x < 16 → IsSet (tw x) (E x)) ∧ ∀ x, S x → x < 16 ∧ dp x = nI (d x) ∧ d x < 16
abbrev PG (E : Nat → Nat → Prop) (d : Nat → Nat) (b L : Nat) (y : Nat) : Prop := Rs E (fun z => z = b) (fun w => d w < L) y
def Vd (E : Nat → Nat → Prop) (S : Nat → Prop) (d : Nat → Nat) (b hi L : Nat) (wt : Nat → Int32) (tm ts : Int32) : Prop :=
  (∀ y, bt tm y = true → S y ∧ hi < d y ∧ PG E d b (d y) y) ∧ (∀ y, bt ts y = true → S y ∧ PG E d b L y ∧ (bt tm y = true ∨ L < d y)) ∧ ∀ j, j < 16 → ∀ y, bt (wt j) y = true → bt tm y = true ∧ ¬ bt ts y = true ∧ d y = j ∧ j ≤ L
def Vx (E : Nat → Nat → Prop) (S : Nat → Prop) (d : Nat → Nat) (b L x : Nat) (wt : Nat → Int32) (tm ts : Int32) : Prop := S x ∧ PG E d b L x ∧ (bt tm x = true ∨ L < d x) ∧ ¬ bt ts x = true ∧ ∀ j, j < 16 → ¬ bt (wt j) x = true
theorem bt_put {s : Int32} {i y : Nat} (hi : i < 32) : bt (s ||| ((1 : Int32) <<< (nI i &&& 31))) y = true ↔ bt s y = true ∨ y = i := by
  rw [b_or, Bool.or_eq_true]
  rcases Nat.lt_or_ge y 32 with q | q
  · rw [b_bit hi q, decide_eq_true_iff]
  · rw [b_big q, b_big q]
    exact ⟨fun z => Or.inl (z.elim id id), fun z => z.elim Or.inl (fun e => absurd q (by omega))⟩
theorem bt_cut {s : Int32} {i y : Nat} (hi : i < 32) : bt (s &&& (((1 : Int32) <<< (nI i &&& 31)) ^^^ (-1))) y = true ↔ bt s y = true ∧ y ≠ i := by
  rw [b_and, Bool.and_eq_true]
  rcases Nat.lt_or_ge y 32 with q | q
  · rw [b_not _ q, b_bit hi q]; simp
  · rw [b_big q]; simp
theorem b_n0 {k : Nat} : ¬ bt 0 k = true := by rw [b_0]; simp
theorem nI_s (a : Nat) : nI a + 1 = nI (a + 1) := nI_1 a
theorem PG.mono {E : Nat → Nat → Prop} {d : Nat → Nat} {b L L' y : Nat} (h : PG E d b L y) (hl : L' ≤ L) : PG E d b L' y := Rs.mono (fun _ _ e => e) (fun _ s => s) (fun w z => by omega) h
theorem Vd.down {E : Nat → Nat → Prop} {S : Nat → Prop} {d : Nat → Nat} {b hi L : Nat} {wt : Nat → Int32} {tm ts : Int32} (h : Vd E S d b hi (L + 1) wt tm ts) (h0 : ∀ y, ¬ bt (wt (L + 1)) y = true) : Vd E S d b hi L wt tm ts := by
  obtain ⟨h1, h2, h3⟩ := h
  refine ⟨h1, fun y hy => ?_, fun j hj y hy => ?_⟩
  · obtain ⟨q1, q2, q3⟩ := h2 y hy
    exact ⟨q1, PG.mono q2 (by omega), q3.imp id (fun z => by omega)⟩
  · obtain ⟨q1, q2, q3, q4⟩ := h3 j hj y hy
    refine ⟨q1, q2, q3, ?_⟩
    by_cases e : j = L + 1
    · subst e; exact absurd hy (h0 y)
    · omega
/-- what is moved at the end is what is lifted -/
theorem Vd.all {E : Nat → Nat → Prop} {S : Nat → Prop} {d : Nat → Nat} {b hi L : Nat} {wt : Nat → Int32} {tm ts : Int32} (hS : ∀ x, S x → x < 16 ∧ d x < 16) (h : Vd E S d b hi L wt tm ts) (hL : hi < L) (h0 : ∀ y, ¬ bt (wt L) y = true) (hb : bt tm b = true) (hW : ∀ y, bt tm y = true → bt ts y = true ∨ bt (wt (d y)) y = true) (hC : ∀ y, bt ts y = true → ∀ z, E y z → hi < d z → bt ts z = true ∨ bt tm z = true) {y : Nat} (hy : d y = L) (hp : PG E d b (d y) y) : bt tm y = true := by
  obtain ⟨h1, h2, h3⟩ := h
  rw [hy] at hp
  have up : ∀ z, ¬ d z < L → bt tm z = true → bt ts z = true := fun z hz hm => by
    rcases hW z hm with q | q
    · exact q
    · have hs := hS z (h1 z hm).1
      obtain ⟨-, -, -, q4⟩ := h3 (d z) hs.2 z q
      have e : d z = L := by omega
      rw [e] at q; exact absurd q (h0 z)
  have key : bt ts y = true := Rs.ind (X := fun y => bt ts y = true) (fun z s w => up z w (by rw [s]; exact hb)) (fun w w' _ ih e hw => by
    rcases hC w ih w' e (by omega) with q | q
    · exact q
    · exact up w' hw q) hp
  rcases (h2 y key).2.2 with q | q
  · exact q
  · omega
theorem Ins.pg {E : Nat → Nat → Prop} {u v : Nat} {W : Nat → Prop} {x : Nat} : Rs (Ins E u v) (fun z => z = v) W x ↔ Rs E (fun z => z = v) W x := by
  constructor
  · intro h
    exact Rs.ind (X := fun x => Rs E (fun z => z = v) W x) (fun z s w => Rs.base s w) (fun a b _ ih e w => by
      rcases e with e | ⟨-, e⟩
      · exact ih.step e w
      · exact Rs.base e w) h
  · exact fun h => h.mono (fun _ _ e => Or.inl e) (fun _ s => s) (fun _ z => z)
/-- the same keepers, the same depths -/
theorem dep_same {E E' : Nat → Nat → Prop} {r n : Nat} (hn : ∀ x, Rd E r x → x < n) (hn' : ∀ x, Rd E' r x → x < n) (h : ∀ x, Rd E r x → x ≠ r → ∃ i, Id E r i x ∧ Id E' r i x) : ∀ d x, Rd E r x → dep E r n x = d → dep E' r n x = d := by
  intro d
  induction d with
  | zero =>
    intro x hx e
    by_cases er : x = r
    · subst er; exact dep_root
    · obtain ⟨i, h1, -⟩ := h x hx er
      have := dep_id hn h1; omega
  | succ d ih =>
    intro x hx e
    by_cases er : x = r
    · subst er; rw [dep_root] at e; omega
    · obtain ⟨i, h1, h2⟩ := h x hx er
      have e1 := dep_id hn h1
      have e2 := dep_id hn' h2
      have := ih i h1.1.2.Rg (by omega)
      omega
theorem Ins.off {E : Nat → Nat → Prop} {r u v : Nat} (h : ¬ Rd E r u) {W : Nat → Prop} {x : Nat} : Rs (Ins E u v) (fun z => z = r) W x ↔ Rs E (fun z => z = r) W x := by
  constructor
  · intro q
    exact Rs.ind (X := fun x => Rs E (fun z => z = r) W x) (fun z s w => Rs.base s w) (fun a b _ ih e w => by
      rcases e with e | ⟨e, -⟩
      · exact ih.step e w
      · exact absurd (Rd.of ih) (by rw [e]; exact h)) q
  · exact fun q => q.mono (fun _ _ e => Or.inl e) (fun _ s => s) (fun _ z => z)
/-! tree3: contracts, pure predicates (printed by gen.py) -/
def pr_X5_visits (dd : Nat) (E : Nat → Nat → Prop) (S : Nat → Prop) (d : Nat → Nat) (n b L hi x : Nat) (kp dp tw wt st : Nat → Int32) (tn tr tre tm ts k lev hig : Int32) : Prop := VsS E S d n tw dp ∧ tn = nI n ∧ k = nI x ∧ lev = nI L ∧ hig = nI hi ∧ L < 16 ∧ hi < 16 ∧ Vd E S d b hi L wt tm ts ∧ Vx E S d b L x wt tm ts ∧ (∀ y, bt tm y = true → y = x ∨ bt ts y = true ∨ bt (wt (d y)) y = true) ∧ cnt 16 (fun y => ¬ bt ts y = true) ≤ dd
def ps_X5_visits (E : Nat → Nat → Prop) (S : Nat → Prop) (d : Nat → Nat) (n b L hi x : Nat) (kp dp tw wt st : Nat → Int32) (tn tr tre tm ts k lev hig : Int32) (wt' : Nat → Int32) (tm' ts' : Int32) : Prop := Vd E S d b hi L wt' tm' ts' ∧ (∀ y, bt tm' y = true → bt ts' y = true ∨ bt (wt' (d y)) y = true) ∧ bt ts' x = true ∧ (∀ y, bt tm y = true → bt tm' y = true) ∧ (∀ y, bt ts y = true → bt ts' y = true) ∧ ∀ y, bt ts' y = true → ¬ bt ts y = true → ∀ z, E y z → hi < d z → bt ts' z = true ∨ bt tm' z = true
def wp_X5_visits_L15 (dd : Nat) (kp dp tw st : Nat → Int32) (tn tr tre k lev hig : Int32) (J129 : Int32 → Int32 → (Nat → Int32) → Prop) (ix4_51 imoved_52 iseen_53 : Int32) (ia_54 : Nat → Int32) : Prop :=
  ∀ X15 : Int32 → Int32 → Int32 → (Nat → Int32) → Prop, (∀ (x4_51 : Int32) (moved_52 : Int32) (seen_53 : Int32) (a_54 : Nat → Int32), (((tn ≤ x4_51 → (J129 moved_52 seen_53 a_54)) ∧
 (¬ (tn ≤ x4_51) → (vp_in k 16 ∧ (∀ (r_58 : Int32), ps_X1_has (tw k.toNatClampNeg) x4_51 r_58 → (((r_58 = 0 → (X15 (x4_51 + 1) moved_52 seen_53 a_54)) ∧
 (¬ (r_58 = 0) → (∀ (r_60 : Int32), ps_X1_has (seen_53 ||| moved_52) x4_51 r_60 → (((¬ r_60 = 0 → (X15 (x4_51 + 1) moved_52 seen_53 a_54)) ∧
 (r_60 = 0 → (vp_in x4_51 16 ∧ (((hig < (dp x4_51.toNatClampNeg) → (((dp x4_51.toNatClampNeg) ≤ lev → (vp_in (dp x4_51.toNatClampNeg) 16 ∧ (∀ u_66 : Nat → Int32, u_66 = upd a_54 (dp x4_51.toNatClampNeg).toNatClampNeg ((a_54 (dp x4_51.toNatClampNeg).toNatClampNeg) ||| (1 <<< (x4_51 &&& 31))) → (X15 (x4_51 + 1) (moved_52 ||| (1 <<< (x4_51 &&& 31))) seen_53 u_66)))) ∧
 (¬ ((dp x4_51.toNatClampNeg) ≤ lev) → (∃ (E_67 : Nat → Nat → Prop) (S_67 : Nat → Prop) (d_67 : Nat → Nat) (n_67 b_67 L_67 hi_67 x_67 : Nat), (pr_X5_visits dd E_67 S_67 d_67 n_67 b_67 L_67 hi_67 x_67 kp dp tw a_54 st tn tr tre moved_52 seen_53 x4_51 lev hig ∧ (∀ (wt_67 : Nat → Int32) (tm_67 ts_67 : Int32), ps_X5_visits E_67 S_67 d_67 n_67 b_67 L_67 hi_67 x_67 kp dp tw a_54 st tn tr tre moved_52 seen_53 x4_51 lev hig wt_67 tm_67 ts_67 → (X15 (x4_51 + 1) tm_67 ts_67 wt_67))))))) ∧
 (¬ (hig < (dp x4_51.toNatClampNeg)) → (X15 (x4_51 + 1) moved_52 seen_53 a_54))))))))))))))))) → X15 x4_51 moved_52 seen_53 a_54) → X15 ix4_51 imoved_52 iseen_53 ia_54
def wp_X5_visits (dd : Nat) (kp dp tw wt st : Nat → Int32) (tn tr tre tm ts k lev hig : Int32) (Q : (Nat → Int32) → Int32 → Int32 → Prop) : Prop :=
  ∀ J129 : Int32 → Int32 → (Nat → Int32) → Prop, (∀ (moved_47 : Int32) (seen_48 : Int32) (a_49 : Nat → Int32), (Q a_49 moved_47 seen_48) → J129 moved_47 seen_48 a_49) →
wp_X5_visits_L15 dd kp dp tw st tn tr tre k lev hig J129 0 tm (ts ||| (1 <<< (k &&& 31))) wt
theorem pz_X5_visits (E : Nat → Nat → Prop) (S : Nat → Prop) (d : Nat → Nat) (n b L hi x : Nat) (kp dp tw wt st : Nat → Int32) (tn tr tre tm ts k lev hig : Int32) : ¬ pr_X5_visits 0 E S d n b L hi x kp dp tw wt st tn tr tre tm ts k lev hig := by
  rintro ⟨h1, -, -, -, -, -, -, -, hX, -, hc⟩
  have := h1.2.2.2.2 x hX.1
  have := cnt_pos (n := 16) (P := fun y => ¬ bt ts y = true) this.1 hX.2.2.2.1
  omega
theorem pf_X5_visits (dd : Nat) (E : Nat → Nat → Prop) (S : Nat → Prop) (d : Nat → Nat) (n b L hi x : Nat) (kp dp tw wt st : Nat → Int32) (tn tr tre tm ts k lev hig : Int32) (hp : pr_X5_visits (dd + 1) E S d n b L hi x kp dp tw wt st tn tr tre tm ts k lev hig) : wp_X5_visits dd kp dp tw wt st tn tr tre tm ts k lev hig (ps_X5_visits E S d n b L hi x kp dp tw wt st tn tr tre tm ts k lev hig) := by
  obtain ⟨hS, rfl, rfl, rfl, rfl, hL, hhi, hV, hX0, hW, hc⟩ := hp
  obtain ⟨s1, s2, s3, s4, s5⟩ := id hS
  obtain ⟨x1, x2, x3, x4, x5⟩ := id hX0
  have x16 := (s5 x x1).1
  intro J hJ X hX
  refine up3 n (fun i (M Sn : Int32) (a : Nat → Int32) => Vd E S d b hi L a M Sn ∧ (∀ y, bt M y = true → bt Sn y = true ∨ bt (a (d y)) y = true) ∧ bt Sn x = true ∧ (∀ y, bt tm y = true → bt M y = true) ∧ (∀ y, bt ts y = true → bt Sn y = true) ∧ (∀ y, bt Sn y = true → ¬ bt ts y = true → ∀ z, E y z → hi < d z → (y = x → z < i) → bt Sn z = true ∨ bt M z = true) ∧ cnt 16 (fun y => ¬ bt Sn y = true) ≤ dd) (fun i M Sn a hi0 hI hh => hX _ _ _ _ ⟨fun c => ?_, fun c => ⟨vp_in_nI x16 (by decide), fun r1 hr1 => ?_⟩⟩) (fun M Sn a hI => hX _ _ _ _ ⟨fun _ => hJ _ _ _ ?_, fun c => absurd (Int32.le_refl _) c⟩) 0 tm (ts ||| ((1 : Int32) <<< (nI x &&& 31))) wt (by omega) ?_
  · rw [leN (by omega) (by omega)] at c; omega
  · obtain ⟨hV, hW, hx, hM, hSn, hC, hct⟩ := hI
    obtain ⟨v1, v2, v3⟩ := id hV
    unfold ps_X1_has at hr1
    rw [hr1, i1_eq0, hs_bt (by omega), clN (by omega), clN (by omega)]
    have keep : (E x i → hi < d i → bt Sn i = true ∨ bt M i = true) → ∀ y, bt Sn y = true → ¬ bt ts y = true → ∀ z, E y z → hi < d z → (y = x → z < i + 1) → bt Sn z = true ∨ bt M z = true := fun hk y hy hy2 z hz hd hl => by
      by_cases e : y = x ∧ z = i
      · obtain ⟨e1, e2⟩ := e
        subst e1; subst e2; exact hk hz hd
      · exact hC y hy hy2 z hz hd (fun q => by have := hl q; have : z ≠ i := fun w => e ⟨q, w⟩; omega)
    refine ⟨fun c1 => hh _ _ _ ⟨hV, hW, hx, hM, hSn, keep (fun e => absurd ((s4 x x16 i (by omega)).2 ⟨by omega, e⟩) c1), hct⟩, fun c1 => ?_⟩
    have c1 := Classical.not_not.1 c1
    have hE : E x i := ((s4 x x16 i (by omega)).1 c1).2
    have hSi := s3 x i x1 hE
    obtain ⟨i16, idp, id16⟩ := s5 i hSi
    intro r2 hr2
    unfold ps_X1_has at hr2
    rw [hr2, i1_eq0, hs_bt (by omega), b_or, Bool.or_eq_true]
    refine ⟨fun c2 => hh _ _ _ ⟨hV, hW, hx, hM, hSn, keep (fun _ _ => Classical.not_not.1 c2), hct⟩, fun c2 => ⟨vp_in_nI i16 (by decide), ?_⟩⟩
    have nS : ¬ bt Sn i = true := fun z => c2 (Or.inl z)
    have nM : ¬ bt M i = true := fun z => c2 (Or.inr z)
    rw [idp, ltN (by omega) (by omega), leN (by omega) (by omega), clN (by omega)]
    refine ⟨fun c3 => ⟨fun c4 => ⟨vp_in_nI id16 (by decide), fun u eu => hh _ _ _ ?_⟩, fun c4 => ⟨E, S, d, n, b, L, hi, i, ?_, fun wt' tm' ts' hp => hh _ _ _ ?_⟩⟩, fun c3 => hh _ _ _ ⟨hV, hW, hx, hM, hSn, keep (fun _ q => absurd q c3), hct⟩⟩
    · subst eu
      have pgi : PG E d b (d i) i := (PG.mono x2 c4).step hE (by omega)
      refine ⟨⟨fun y hy => ?_, fun y hy => ?_, fun j hj y hy => ?_⟩, fun y hy => ?_, hx, fun y hy => (bt_put (by omega)).2 (Or.inl (hM y hy)), hSn, fun y hy hy2 z hz hd hl => ?_, hct⟩
      · rcases (bt_put (by omega)).1 hy with q | q
        · exact v1 y q
        · subst q; exact ⟨hSi, c3, pgi⟩
      · obtain ⟨q1, q2, q3⟩ := v2 y hy
        exact ⟨q1, q2, q3.imp (fun z => (bt_put (by omega)).2 (Or.inl z)) id⟩
      · by_cases ej : j = d i
        · subst ej
          rw [upd_s] at hy
          rcases (bt_put (by omega)).1 hy with q | q
          · obtain ⟨q1, q2, q3, q4⟩ := v3 _ hj y q
            exact ⟨(bt_put (by omega)).2 (Or.inl q1), q2, q3, q4⟩
          · subst q; exact ⟨(bt_put (by omega)).2 (Or.inr rfl), nS, rfl, c4⟩
        · rw [upd_n ej] at hy
          obtain ⟨q1, q2, q3, q4⟩ := v3 _ hj y hy
          exact ⟨(bt_put (by omega)).2 (Or.inl q1), q2, q3, q4⟩
      · by_cases ej : d y = d i
        · rw [ej, upd_s]
          rcases (bt_put (by omega)).1 hy with q | q
          · rcases hW y q with w | w
            · exact Or.inl w
            · rw [ej] at w; exact Or.inr ((bt_put (by omega)).2 (Or.inl w))
          · exact Or.inr ((bt_put (by omega)).2 (Or.inr q))
        · rw [upd_n ej]
          rcases (bt_put (by omega)).1 hy with q | q
          · exact hW y q
          · subst q; exact absurd rfl ej
      · by_cases e : y = x ∧ z = i
        · rw [e.2]; exact Or.inr ((bt_put (by omega)).2 (Or.inr rfl))
        · exact (hC y hy hy2 z hz hd (fun q => by have := hl q; have : z ≠ i := fun w => e ⟨q, w⟩; omega)).imp id (fun w => (bt_put (by omega)).2 (Or.inl w))
    · refine ⟨hS, rfl, rfl, rfl, rfl, hL, hhi, hV, ⟨hSi, x2.step hE (by omega), Or.inr (by omega), nS, fun j hj q => nM (v3 j hj i q).1⟩, fun y hy => Or.inr (hW y hy), hct⟩
    · obtain ⟨p1, p2, p3, p4, p5, p6⟩ := hp
      refine ⟨p1, p2, p5 x hx, fun y hy => p4 y (hM y hy), fun y hy => p5 y (hSn y hy), fun y hy hy2 z hz hd hl => ?_, Nat.le_trans (cnt_mono (fun y _ q z => q (p5 y z))) hct⟩
      by_cases q : bt Sn y = true
      · by_cases e : y = x ∧ z = i
        · rw [e.2]; exact Or.inl p3
        · exact (hC y q hy2 z hz hd (fun w => by have := hl w; have : z ≠ i := fun w2 => e ⟨w, w2⟩; omega)).imp (p5 z) (p4 z)
      · exact p6 y hy q z hz hd
  · obtain ⟨hV, hW, hx, hM, hSn, hC, hct⟩ := hI
    exact ⟨hV, hW, hx, hM, hSn, fun y hy hy2 z hz hd => hC y hy hy2 z hz hd (fun _ => (s2 y z hz).2)⟩
  · obtain ⟨v1, v2, v3⟩ := hV
    refine ⟨⟨v1, fun y hy => ?_, fun j hj y hy => ?_⟩, fun y hy => ?_, (bt_put (by omega)).2 (Or.inr rfl), fun y hy => hy, fun y hy => (bt_put (by omega)).2 (Or.inl hy), fun y hy hy2 z hz hd hl => ?_, ?_⟩
    · rcases (bt_put (by omega)).1 hy with q | q
      · exact v2 y q
      · subst q; exact ⟨x1, x2, x3⟩
    · obtain ⟨q1, q2, q3, q4⟩ := v3 j hj y hy
      refine ⟨q1, fun q => ?_, q3, q4⟩
      rcases (bt_put (by omega)).1 q with q | q
      · exact q2 q
      · subst q; exact x5 j hj hy
    · rcases hW y hy with q | q | q
      · exact Or.inl ((bt_put (by omega)).2 (Or.inr q))
      · exact Or.inl ((bt_put (by omega)).2 (Or.inl q))
      · exact Or.inr q
    · rcases (bt_put (by omega)).1 hy with q | q
      · exact absurd q hy2
      · exact absurd (hl q) (by omega)
    · have : cnt 16 (fun y => ¬ bt (ts ||| ((1 : Int32) <<< (nI x &&& 31))) y = true) < cnt 16 (fun y => ¬ bt ts y = true) := cnt_lt (g := x) x16 (fun y _ q z => q ((bt_put (by omega)).2 (Or.inl z))) (fun q => q ((bt_put (by omega)).2 (Or.inr rfl))) x4
      omega
def pr_X5_lifts (E : Nat → Nat → Prop) (r n u v : Nat) (kp dp tw wt st : Nat → Int32) (tn tr tre tm ts a b : Int32) : Prop := TreK E r n kp dp ∧ tn = nI n ∧ tr = nI r ∧ a = nI u ∧ b = nI v ∧ Rd E r u ∧ Rd E r v ∧ (∀ x, x < 16 → IsSet (tw x) (Ins E u v x)) ∧ IsSet tre (Rd E r)
def ps_X5_lifts (E : Nat → Nat → Prop) (r n u v : Nat) (kp dp tw wt st : Nat → Int32) (tn tr tre tm ts a b : Int32) (kp' dp' wt' : Nat → Int32) (tm' ts' : Int32) : Prop := TreK (Ins E u v) r n kp' dp'
def wp_X5_lifts_L162 (tn r_1 moved_143 : Int32) (J197 : (Nat → Int32) → Prop) (ix4_170 : Int32) (ia_171 : Nat → Int32) : Prop :=
  ∀ X162 : Int32 → (Nat → Int32) → Prop, (∀ (x4_170 : Int32) (a_171 : Nat → Int32), (((tn ≤ x4_170 → (J197 a_171)) ∧
 (¬ (tn ≤ x4_170) → (∀ (r_174 : Int32), ps_X1_has moved_143 x4_170 r_174 → (((r_174 = 0 → (X162 (x4_170 + 1) a_171)) ∧
 (¬ (r_174 = 0) → (vp_in x4_170 16 ∧ (∀ u_177 : Nat → Int32, u_177 = upd a_171 x4_170.toNatClampNeg r_1 → (X162 (x4_170 + 1) u_177)))))))))) → X162 x4_170 a_171) → X162 ix4_170 ia_171
def wp_X5_lifts_L96 (kp dp tw st : Nat → Int32) (tn tr tre r_1 x4_179 : Int32) (J153 : Int32 → Int32 → (Nat → Int32) → Prop) (imoved_213 iseen_214 : Int32) (ia_215 : Nat → Int32) : Prop :=
  ∀ X96 : Int32 → Int32 → (Nat → Int32) → Prop, (∀ (moved_213 : Int32) (seen_214 : Int32) (a_215 : Nat → Int32), (vp_in x4_179 16 ∧ ((((a_215 x4_179.toNatClampNeg) = 0 → (J153 moved_213 seen_214 a_215)) ∧
 (¬ ((a_215 x4_179.toNatClampNeg) = 0) → (pr_J7_numberOfTrailingZeros (a_215 x4_179.toNatClampNeg) ∧ (∀ (r_219 : Int32), ps_J7_numberOfTrailingZeros (a_215 x4_179.toNatClampNeg) r_219 → (∀ u_220 : Nat → Int32, u_220 = upd a_215 x4_179.toNatClampNeg ((a_215 x4_179.toNatClampNeg) &&& ((1 <<< (r_219 &&& 31)) ^^^ (-1))) → (∃ (E_221 : Nat → Nat → Prop) (S_221 : Nat → Prop) (d_221 : Nat → Nat) (n_221 b_221 L_221 hi_221 x_221 : Nat), (pr_X5_visits 17 E_221 S_221 d_221 n_221 b_221 L_221 hi_221 x_221 kp dp tw u_220 st tn tr tre moved_213 seen_214 r_219 x4_179 ((dp r_1.toNatClampNeg) + 1) ∧ (∀ (wt_221 : Nat → Int32) (tm_221 ts_221 : Int32), ps_X5_visits E_221 S_221 d_221 n_221 b_221 L_221 hi_221 x_221 kp dp tw u_220 st tn tr tre moved_213 seen_214 r_219 x4_179 ((dp r_1.toNatClampNeg) + 1) wt_221 tm_221 ts_221 → (X96 tm_221 ts_221 wt_221))))))))))) → X96 moved_213 seen_214 a_215) → X96 imoved_213 iseen_214 ia_215
def wp_X5_lifts_L83 (kp dp tw st : Nat → Int32) (tn tr tre r_1 : Int32) (J159 : Int32 → Int32 → (Nat → Int32) → Prop) (ix4_179 imoved_180 iseen_181 : Int32) (ia_182 : Nat → Int32) : Prop :=
  ∀ X83 : Int32 → Int32 → Int32 → (Nat → Int32) → Prop, (∀ (x4_179 : Int32) (moved_180 : Int32) (seen_181 : Int32) (a_182 : Nat → Int32), (((x4_179 ≤ ((dp r_1.toNatClampNeg) + 1) → (J159 moved_180 seen_181 a_182)) ∧
 (¬ (x4_179 ≤ ((dp r_1.toNatClampNeg) + 1)) → (∀ J153 : Int32 → Int32 → (Nat → Int32) → Prop, (∀ (moved_209 : Int32) (seen_210 : Int32) (a_211 : Nat → Int32), (X83 (x4_179 + (-1)) moved_209 seen_210 a_211) → J153 moved_209 seen_210 a_211) →
wp_X5_lifts_L96 kp dp tw st tn tr tre r_1 x4_179 J153 moved_180 seen_181 a_182)))) → X83 x4_179 moved_180 seen_181 a_182) → X83 ix4_179 imoved_180 iseen_181 ia_182
def wp_X5_lifts_L28 (J49 : (Nat → Int32) → Prop) (ix4_223 : Int32) (ia_224 : Nat → Int32) : Prop :=
  ∀ X28 : Int32 → (Nat → Int32) → Prop, (∀ (x4_223 : Int32) (a_224 : Nat → Int32), (((16 ≤ x4_223 → (J49 a_224)) ∧
 (¬ (16 ≤ x4_223) → (vp_in x4_223 16 ∧ (∀ u_228 : Nat → Int32, u_228 = upd a_224 x4_223.toNatClampNeg 0 → (X28 (x4_223 + 1) u_228)))))) → X28 x4_223 a_224) → X28 ix4_223 ia_224
def wp_X5_lifts (kp dp tw wt st : Nat → Int32) (tn tr tre tm ts a b : Int32) (Q : (Nat → Int32) → (Nat → Int32) → (Nat → Int32) → Int32 → Int32 → Prop) : Prop :=
  pr_X5_common kp dp tw wt st tn tr tre tm ts a b ∧ (∀ (r_1 : Int32), ps_X5_common kp dp tw wt st tn tr tre tm ts a b r_1 → (vp_in b 16 ∧ (vp_in r_1 16 ∧ (((((dp r_1.toNatClampNeg) + 1) < (dp b.toNatClampNeg) → (∀ J49 : (Nat → Int32) → Prop, (∀ (a_19 : Nat → Int32), (vp_in (dp b.toNatClampNeg) 16 ∧ (∀ u_21 : Nat → Int32, u_21 = upd a_19 (dp b.toNatClampNeg).toNatClampNeg (1 <<< (b &&& 31)) → (∀ J159 : Int32 → Int32 → (Nat → Int32) → Prop, (∀ (moved_143 : Int32) (seen_144 : Int32) (a_145 : Nat → Int32), (∀ J197 : (Nat → Int32) → Prop, (∀ (a_167 : Nat → Int32), (pr_X5_deepens a_167 dp tw a_145 st tn tr tre moved_143 seen_144 ∧ (∀ (dp_168 : Nat → Int32), ps_X5_deepens a_167 dp tw a_145 st tn tr tre moved_143 seen_144 dp_168 → (Q a_167 dp_168 a_145 moved_143 seen_144))) → J197 a_167) →
wp_X5_lifts_L162 tn r_1 moved_143 J197 0 kp) → J159 moved_143 seen_144 a_145) →
wp_X5_lifts_L83 kp dp tw st tn tr tre r_1 J159 (dp b.toNatClampNeg) (1 <<< (b &&& 31)) 0 u_21))) → J49 a_19) →
wp_X5_lifts_L28 J49 0 wt)) ∧
 (¬ (((dp r_1.toNatClampNeg) + 1) < (dp b.toNatClampNeg)) → (Q kp dp wt tm ts)))))))
theorem pf_X5_lifts (E : Nat → Nat → Prop) (r n u v : Nat) (kp dp tw wt st : Nat → Int32) (tn tr tre tm ts a b : Int32) (hp : pr_X5_lifts E r n u v kp dp tw wt st tn tr tre tm ts a b) : wp_X5_lifts kp dp tw wt st tn tr tre tm ts a b (ps_X5_lifts E r n u v kp dp tw wt st tn tr tre tm ts a b) := by
  obtain ⟨hT, rfl, rfl, rfl, rfl, hu, hv, hw, ht⟩ := hp
  obtain ⟨t1, t2, t3, t4, t5, t6⟩ := id hT
  have lt := fun x hx => hT.lt (x := x) hx
  have lu := lt u hu
  have lv := lt v hv
  have tall := ht.all (fun k hk => by have := lt k hk; omega)
  have hE' : ∀ a b, Ins E u v a b → a < n ∧ b < n := fun a b e => e.elim (t3 a b) (fun q => by rw [q.1, q.2]; exact ⟨lu, lv⟩)
  have hR : ∀ x, Rd (Ins E u v) r x ↔ Rd E r x := fun x => Ins.rd hv
  have lt' : ∀ x, Rd (Ins E u v) r x → x < n := fun x hx => lt x ((hR x).1 hx)
  refine ⟨⟨E, r, n, u, v, hT, rfl, rfl, hu, hv⟩, fun r1 hr1 => ?_⟩
  obtain ⟨z, rfl, hz⟩ := hr1 E r n u v hT rfl rfl hu hv
  have lz := lt z hz.1.Rg
  have dv := dep_n lt hv
  have dz := dep_n lt hz.1.Rg
  refine ⟨vp_in_nI (by omega) (by decide), vp_in_nI (by omega) (by decide), ?_⟩
  rw [clN (by omega), clN (by omega), t6 v hv, t6 z hz.1.Rg, nI_s, ltN (by omega) (by omega), clN (by omega)]
  refine ⟨fun c J1 hJ1 X1 hX1 => ?_, fun c => ?_⟩
  · refine up1 16 (fun k a => ∀ j, j < k → a j = 0) (fun k a hk hI hh => hX1 _ _ ⟨fun c => ?_, fun c => ⟨vp_in_nI hk (by decide), fun w ew => hh _ ?_⟩⟩) (fun a hI => hX1 _ _ ⟨fun _ => hJ1 _ ?_, fun c => absurd (Int32.le_refl _) c⟩) 0 wt (by omega) (by intro j hj; omega)
    · rw [n16, leN (by omega) (by omega)] at c; omega
    · subst ew; intro j hj
      rw [clN (by omega)]
      by_cases e : j = k
      · subst e; exact upd_s
      · rw [upd_n e]; exact hI j (by omega)
    refine ⟨vp_in_nI (by omega) (by decide), fun a1 ea1 J2 hJ2 X2 hX2 => ?_⟩
    -- what holds between the levels
    have hVS : VsS (Ins E u v) (Rd E r) (dep E r n) n tw dp := ⟨t1, hE', fun a b ha e => (hR b).1 (Rd.step ((hR a).2 ha) e), hw, fun x hx => ⟨by have := lt x hx; omega, t6 x hx, dep16 t1 t2 t3⟩⟩
    have hS16 : ∀ x, Rd E r x → x < 16 ∧ dep E r n x < 16 := fun x hx => ⟨by have := lt x hx; omega, dep16 t1 t2 t3⟩
    have main := dn1 (X := fun (p : Nat × Int32 × Int32 × (Nat → Int32)) => X2 (nI p.1) p.2.1 p.2.2.1 p.2.2.2) (fun p => dep E r n z + 1 ≤ p.1 ∧ p.1 ≤ dep E r n v ∧ Vd (Ins E u v) (Rd E r) (dep E r n) v (dep E r n z + 1) p.1 p.2.2.2 p.2.1 p.2.2.1 ∧ bt p.2.1 v = true ∧ (∀ y, bt p.2.1 y = true → bt p.2.2.1 y = true ∨ bt (p.2.2.2 (dep E r n y)) y = true) ∧ (∀ y, bt p.2.2.1 y = true → ∀ q, Ins E u v y q → dep E r n z + 1 < dep E r n q → bt p.2.2.1 q = true ∨ bt p.2.1 q = true) ∧ ∀ y, p.1 < dep E r n y → PG (Ins E u v) (dep E r n) v (dep E r n y) y → bt p.2.1 y = true) (fun p => p.1) (fun p hp hh => ?_)
    · subst ea1
      refine main (dep E r n v, (1 : Int32) <<< (nI v &&& 31), 0, _) ⟨by omega, Nat.le_refl _, ⟨fun y hy => ?_, fun y hy => absurd hy b_n0, fun j hj y hy => ?_⟩, ?_, fun y hy => ?_, fun y hy => absurd hy b_n0, fun y hy hp => ?_⟩
      · have e : y = v := by
          rcases Nat.lt_or_ge y 32 with q | q
          · have hy : bt ((1 : Int32) <<< (nI v &&& 31)) y = true := hy
            rw [b_bit (by omega) q] at hy; simpa using hy
          · have hy : bt ((1 : Int32) <<< (nI v &&& 31)) y = true := hy
            rw [b_big q] at hy; exact absurd hy (by simp)
        subst e; exact ⟨hv, c, Rs.base rfl (by omega)⟩
      · have hy : bt (upd a (dep E r n v) ((1 : Int32) <<< (nI v &&& 31)) j) y = true := hy
        by_cases e : j = dep E r n v
        · subst e
          rw [upd_s] at hy
          have e : y = v := by
            rcases Nat.lt_or_ge y 32 with q | q
            · rw [b_bit (by omega) q] at hy; simpa using hy
            · rw [b_big q] at hy; exact absurd hy (by simp)
          subst e; exact ⟨hy, b_n0, rfl, Nat.le_refl _⟩
        · rw [upd_n e, hI j hj] at hy; exact absurd hy b_n0
      · show bt ((1 : Int32) <<< (nI v &&& 31)) v = true
        rw [b_bit (by omega) (by omega)]; simp
      · right
        have hy : bt ((1 : Int32) <<< (nI v &&& 31)) y = true := hy
        have e : y = v := by
          rcases Nat.lt_or_ge y 32 with q | q
          · rw [b_bit (by omega) q] at hy; simpa using hy
          · rw [b_big q] at hy; exact absurd hy (by simp)
        subst e
        show bt (upd a (dep E r n y) ((1 : Int32) <<< (nI y &&& 31)) (dep E r n y)) y = true
        rw [upd_s]; exact hy
      · obtain ⟨q, e, w, -⟩ := hp.from
        subst e
        exact absurd hy w
    · obtain ⟨ℓ, M, Sn, a⟩ := p
      dsimp only at hp hh ⊢
      obtain ⟨p1, p2, hV, hvM, hW, hC, hK⟩ := hp
      refine hX2 _ _ _ _ ⟨fun c2 => hJ2 _ _ _ ?_, fun c2 => ?_⟩
      · -- behind all levels
        rw [clN (k := z) (by omega), t6 z hz.1.Rg, nI_s, leN (by omega) (by omega)] at c2
        have eℓ : ℓ = dep E r n z + 1 := by omega
        have hAf : ∀ y, bt M y = true ↔ Af E r n v z y := fun y => by
          constructor
          · intro hy
            obtain ⟨q1, q2, q3⟩ := hV.1 y hy
            exact ⟨q2, Ins.pg.1 q3⟩
          · intro hy
            exact hK y (by rw [eℓ]; exact hy.1) (Ins.pg.2 hy.2)
        have mlt : ∀ y, bt M y = true → y < n := fun y hy => lt y (hV.1 y hy).1
        intro J3 hJ3 X3 hX3
        refine up1 n (fun i b => ∀ y, (y < i → bt M y = true → b y = nI z) ∧ ((¬ y < i ∨ ¬ bt M y = true) → b y = kp y)) (fun i b hi hI2 hh2 => hX3 _ _ ⟨fun c => ?_, fun c r2 hr2 => ?_⟩) (fun b hI2 => hX3 _ _ ⟨fun _ => hJ3 _ ?_, fun c => absurd (Int32.le_refl _) c⟩) 0 kp (by omega) (fun y => ⟨fun h => absurd h (by omega), fun _ => rfl⟩)
        · rw [leN (by omega) (by omega)] at c; omega
        · unfold ps_X1_has at hr2
          rw [hr2, i1_eq0, hs_bt (by omega)]
          refine ⟨fun d => hh2 _ (fun y => ⟨fun h hb => ?_, fun h => (hI2 y).2 ?_⟩), fun d => ⟨vp_in_nI (by omega) (by decide), fun w ew => hh2 _ ?_⟩⟩
          · by_cases e : y = i
            · subst e; exact absurd hb d
            · exact (hI2 y).1 (by omega) hb
          · by_cases e : y = i
            · subst e; exact Or.inr d
            · exact h.imp (fun q => by omega) id
          · have d := Classical.not_not.1 d
            rw [clN (by omega)] at ew
            subst ew
            intro y
            by_cases e : y = i
            · subst e; rw [upd_s]; exact ⟨fun _ _ => rfl, fun h => h.elim (fun q => absurd (Nat.lt_succ_self y) q) (fun q => absurd d q)⟩
            · rw [upd_n e]
              exact ⟨fun h hb => (hI2 y).1 (by omega) hb, fun h => (hI2 y).2 (h.imp (fun q => by omega) id)⟩
        · have k1 : b r = -1 := by
            rw [(hI2 r).2 (Or.inr (fun q => by have := ((hAf r).1 q).1; rw [dep_root] at this; omega))]; exact t4
          have k2 : ∀ x, Rd (Ins E u v) r x → x ≠ r → ∃ g, b x = nI g ∧ Id (Ins E u v) r g x := fun x hx hxr => by
            by_cases q : Af E r n v z x
            · exact ⟨z, (hI2 x).1 (lt' x hx) ((hAf x).2 q), Af.id lt hu hv hz q⟩
            · obtain ⟨g, g1, g2⟩ := t5 x ((hR x).1 hx) hxr
              exact ⟨g, by rw [(hI2 x).2 (Or.inr (fun w => q ((hAf x).1 w)))]; exact g1, Af.same lt hv hz q g2⟩
          have hch := Chn.of t1 t2 hE' (fun x => (tall x).trans (hR x).symm) k1 k2
          refine ⟨⟨⟨n, rfl, t1⟩, _, hch, fun x => dep16 t1 t2 hE'⟩, fun dp' hdp => ?_⟩
          refine ⟨t1, t2, hE', k1, k2, fun x hx => ?_⟩
          have := lt' x hx
          exact ((hdp _ hch) x (by rw [clN (by omega)]; exact this)).1 ((tall x).2 ((hR x).1 hx))
      · -- one level
        rw [clN (k := z) (by omega), t6 z hz.1.Rg, nI_s, leN (by omega) (by omega)] at c2
        have ℓ16 : ℓ < 16 := by have := dep16 (x := v) t1 t2 t3; omega
        intro J4 hJ4 X4 hX4
        have inner := dn1 (X := fun (p : Int32 × Int32 × (Nat → Int32)) => X4 p.1 p.2.1 p.2.2) (fun p => Vd (Ins E u v) (Rd E r) (dep E r n) v (dep E r n z + 1) ℓ p.2.2 p.1 p.2.1 ∧ bt p.1 v = true ∧ (∀ y, bt p.1 y = true → bt p.2.1 y = true ∨ bt (p.2.2 (dep E r n y)) y = true) ∧ (∀ y, bt p.2.1 y = true → ∀ q, Ins E u v y q → dep E r n z + 1 < dep E r n q → bt p.2.1 q = true ∨ bt p.1 q = true) ∧ ∀ y, ℓ < dep E r n y → PG (Ins E u v) (dep E r n) v (dep E r n y) y → bt p.1 y = true) (fun p => cnt 16 (fun y => ¬ bt p.2.1 y = true)) (fun p hp hh2 => ?_)
        · exact inner (M, Sn, a) ⟨hV, hvM, hW, hC, hK⟩
        · obtain ⟨M, Sn, a⟩ := p
          dsimp only at hp hh2 ⊢
          obtain ⟨hV, hvM, hW, hC, hK⟩ := hp
          refine hX4 _ _ _ ⟨vp_in_nI (by omega) (by decide), ?_⟩
          rw [clN (by omega)]
          refine ⟨fun c3 => hJ4 _ _ _ ?_, fun c3 => ?_⟩
          · have h0 : ∀ y, ¬ bt (a ℓ) y = true := fun y => by rw [c3]; exact b_n0
            obtain ⟨j, rfl⟩ : ∃ j, ℓ = j + 1 := ⟨ℓ - 1, by omega⟩
            rw [pk_m1]
            refine hh (j, M, Sn, a) ⟨by omega, by omega, hV.down h0, hvM, hW, hC, fun y hy hp => ?_⟩ (Nat.lt_succ_self j)
            by_cases e : dep E r n y = j + 1
            · exact hV.all hS16 (by omega) h0 hvM hW hC e hp
            · exact hK y (by omega) hp
          · have hb16 : B16 (a ℓ) := fun k hk hk2 => by
              cases hb : bt (a ℓ) k
              · rfl
              · have := (hS16 k (hV.1 k (hV.2.2 ℓ ℓ16 k hb).1).1).1; omega
            refine ⟨⟨hb16, c3⟩, fun r2 hr2 => ?_⟩
            obtain ⟨x, rfl, x16, hx, -⟩ := hr2
            obtain ⟨w1, w2, w3, w4⟩ := hV.2.2 ℓ ℓ16 x hx
            obtain ⟨m1, m2, m3⟩ := hV.1 x w1
            intro a2 ea2
            subst ea2
            have sub : ∀ j y, bt (upd a ℓ (a ℓ &&& (((1 : Int32) <<< (nI x &&& 31)) ^^^ (-1))) j) y = true → bt (a j) y = true ∧ ¬ (j = ℓ ∧ y = x) := fun j y hy => by
              by_cases e : j = ℓ
              · subst e; rw [upd_s] at hy
                have := (bt_cut (by omega)).1 hy
                exact ⟨this.1, fun q => this.2 q.2⟩
              · rw [upd_n e] at hy; exact ⟨hy, fun q => e q.1⟩
            rw [clN (k := z) (by omega), t6 z hz.1.Rg, nI_s]
            refine ⟨Ins E u v, Rd E r, dep E r n, n, v, ℓ, dep E r n z + 1, x, ⟨hVS, rfl, rfl, rfl, rfl, ℓ16, by omega, ⟨hV.1, hV.2.1, fun j hj y hy => hV.2.2 j hj y (sub j y hy).1⟩, ⟨m1, by rw [w3] at m3; exact m3, Or.inl w1, w2, fun j hj q => ?_⟩, fun y hy => ?_, Nat.le_trans (cnt_le 16 _) (by omega)⟩, fun wt' tm' ts' hp => ?_⟩
            · have := (hV.2.2 j hj x (sub j x q).1).2.2.1
              exact (sub j x q).2 ⟨by omega, rfl⟩
            · rcases hW y hy with q | q
              · exact Or.inr (Or.inl q)
              · by_cases e : y = x
                · exact Or.inl e
                · right; right
                  by_cases e2 : dep E r n y = ℓ
                  · rw [e2, upd_s]; rw [e2] at q; exact (bt_cut (by omega)).2 ⟨q, e⟩
                  · rw [upd_n e2]; exact q
            · obtain ⟨q1, q2, q3, q4, q5, q6⟩ := hp
              refine hh2 (tm', ts', wt') ⟨q1, q4 v hvM, q2, fun y hy q hq hd => ?_, fun y hy hp => q4 y (hK y hy hp)⟩ (cnt_lt (g := x) x16 (fun y _ q w => q (q5 y w)) (fun q => q q3) w2)
              by_cases e : bt Sn y = true
              · exact (hC y e q hq hd).imp (q5 q) (q4 q)
              · exact q6 y hy e q hq hd
  · -- nobody is lifted
    have no : ∀ x, ¬ Af E r n v z x := fun x h => by have := h.leb; have := h.1; omega
    have hI : ∀ x, Rd E r x → x ≠ r → ∃ i, Id E r i x ∧ Id (Ins E u v) r i x := fun x hx hxr => by
      obtain ⟨g, -, g2⟩ := t5 x hx hxr
      exact ⟨g, g2, Af.same lt hv hz (no x) g2⟩
    refine ⟨t1, t2, hE', t4, fun x hx hxr => ?_, fun x hx => ?_⟩
    · obtain ⟨g, g1, g2⟩ := t5 x ((hR x).1 hx) hxr
      exact ⟨g, g1, Af.same lt hv hz (no x) g2⟩
    · rw [t6 x ((hR x).1 hx), dep_same lt lt' hI _ x ((hR x).1 hx) rfl]
def pr_X5_joins (E : Nat → Nat → Prop) (r n u v : Nat) (kp dp tw wt st : Nat → Int32) (tn tr tre tm ts a b : Int32) : Prop := TreK E r n kp dp ∧ tn = nI n ∧ tr = nI r ∧ a = nI u ∧ b = nI v ∧ v < n ∧ Rd E r u ∧ ¬ Rd E r v ∧ (∀ x, x < 16 → IsSet (tw x) (Ins E u v x)) ∧ IsSet tre (Rd E r)
def ps_X5_joins (E : Nat → Nat → Prop) (r n u v : Nat) (kp dp tw wt st : Nat → Int32) (tn tr tre tm ts a b : Int32) (kp' dp' tw' wt' st' : Nat → Int32) (tre' tm' ts' : Int32) : Prop := TreR (Ins E u v) r n kp' dp' tw' tn tr tre'
def wp_X5_joins_L108 (tn tr tre r_1 : Int32) (a_30 st_31 : Nat → Int32) (x6_222 : Int32) (J161 : Int32 → Int32 → (Nat → Int32) → (Nat → Int32) → (Nat → Int32) → (Nat → Int32) → Prop) (ix7_273 imoved_274 iseen_275 : Int32) (ia_276 ia_277 ia_278 ia_279 : Nat → Int32) : Prop :=
  ∀ X108 : Int32 → Int32 → Int32 → (Nat → Int32) → (Nat → Int32) → (Nat → Int32) → (Nat → Int32) → Prop, (∀ (x7_273 : Int32) (moved_274 : Int32) (seen_275 : Int32) (a_276 : Nat → Int32) (a_277 : Nat → Int32) (a_278 : Nat → Int32) (a_279 : Nat → Int32), (((tn ≤ x7_273 → (J161 moved_274 seen_275 a_276 a_277 a_278 a_279)) ∧
 (¬ (tn ≤ x7_273) → (vp_in x6_222 16 ∧ (∀ (r_283 : Int32), ps_X1_has (a_30 x6_222.toNatClampNeg) x7_273 r_283 → (((¬ r_283 = 0 → (∀ u_285 : Nat → Int32, u_285 = upd a_278 x6_222.toNatClampNeg ((a_278 x6_222.toNatClampNeg) ||| (1 <<< (x7_273 &&& 31))) → (∃ (E_286 : Nat → Nat → Prop) (r_286 n_286 u_286 v_286 : Nat), (pr_X5_lifts E_286 r_286 n_286 u_286 v_286 a_276 a_277 u_285 a_279 st_31 tn tr (tre ||| r_1) moved_274 seen_275 x6_222 x7_273 ∧ (∀ (kp_286 dp_286 wt_286 : Nat → Int32) (tm_286 ts_286 : Int32), ps_X5_lifts E_286 r_286 n_286 u_286 v_286 a_276 a_277 u_285 a_279 st_31 tn tr (tre ||| r_1) moved_274 seen_275 x6_222 x7_273 kp_286 dp_286 wt_286 tm_286 ts_286 → (X108 (x7_273 + 1) tm_286 ts_286 kp_286 dp_286 u_285 wt_286)))))) ∧
 (r_283 = 0 → (X108 (x7_273 + 1) moved_274 seen_275 a_276 a_277 a_278 a_279))))))))) → X108 x7_273 moved_274 seen_275 a_276 a_277 a_278 a_279) → X108 ix7_273 imoved_274 iseen_275 ia_276 ia_277 ia_278 ia_279
def wp_X5_joins_L96 (tn tr tre r_1 : Int32) (a_30 st_31 : Nat → Int32) (J167 : Int32 → Int32 → (Nat → Int32) → (Nat → Int32) → (Nat → Int32) → (Nat → Int32) → Prop) (ix6_222 imoved_223 iseen_224 : Int32) (ia_225 ia_226 ia_227 ia_228 : Nat → Int32) : Prop :=
  ∀ X96 : Int32 → Int32 → Int32 → (Nat → Int32) → (Nat → Int32) → (Nat → Int32) → (Nat → Int32) → Prop, (∀ (x6_222 : Int32) (moved_223 : Int32) (seen_224 : Int32) (a_225 : Nat → Int32) (a_226 : Nat → Int32) (a_227 : Nat → Int32) (a_228 : Nat → Int32), (((tn ≤ x6_222 → (J167 moved_223 seen_224 a_225 a_226 a_227 a_228)) ∧
 (¬ (tn ≤ x6_222) → (∀ J161 : Int32 → Int32 → (Nat → Int32) → (Nat → Int32) → (Nat → Int32) → (Nat → Int32) → Prop, (∀ (moved_266 : Int32) (seen_267 : Int32) (a_268 : Nat → Int32) (a_269 : Nat → Int32) (a_270 : Nat → Int32) (a_271 : Nat → Int32), (X96 (x6_222 + 1) moved_266 seen_267 a_268 a_269 a_270 a_271) → J161 moved_266 seen_267 a_268 a_269 a_270 a_271) →
wp_X5_joins_L108 tn tr tre r_1 a_30 st_31 x6_222 J161 0 moved_223 seen_224 a_225 a_226 a_227 a_228)))) → X96 x6_222 moved_223 seen_224 a_225 a_226 a_227 a_228) → X96 ix6_222 imoved_223 iseen_224 ia_225 ia_226 ia_227 ia_228
def wp_X5_joins_L22 (tn tre r_1 : Int32) (J74 : (Nat → Int32) → (Nat → Int32) → Prop) (ix6_288 : Int32) (ia_289 ia_290 : Nat → Int32) : Prop :=
  ∀ X22 : Int32 → (Nat → Int32) → (Nat → Int32) → Prop, (∀ (x6_288 : Int32) (a_289 : Nat → Int32) (a_290 : Nat → Int32), (((tn ≤ x6_288 → (J74 a_289 a_290)) ∧
 (¬ (tn ≤ x6_288) → (∀ (r_293 : Int32), ps_X1_has r_1 x6_288 r_293 → (((r_293 = 0 → (X22 (x6_288 + 1) a_289 a_290)) ∧
 (¬ (r_293 = 0) → (vp_in x6_288 16 ∧ (∀ u_296 : Nat → Int32, u_296 = upd a_290 x6_288.toNatClampNeg ((a_289 x6_288.toNatClampNeg) &&& tre) → (∀ u_297 : Nat → Int32, u_297 = upd a_289 x6_288.toNatClampNeg ((a_289 x6_288.toNatClampNeg) &&& (tre ^^^ (-1))) → (X22 (x6_288 + 1) u_297 u_296))))))))))) → X22 x6_288 a_289 a_290) → X22 ix6_288 ia_289 ia_290
def wp_X5_joins (kp dp tw wt st : Nat → Int32) (tn tr tre tm ts a b : Int32) (Q : (Nat → Int32) → (Nat → Int32) → (Nat → Int32) → (Nat → Int32) → (Nat → Int32) → Int32 → Int32 → Int32 → Prop) : Prop :=
  pr_X8_reach_T kp dp tw wt st tn tr tre tm ts b tre ∧ (∀ (r_1 : Int32), ps_X8_reach_T kp dp tw wt st tn tr tre tm ts b tre r_1 → (∀ J74 : (Nat → Int32) → (Nat → Int32) → Prop, (∀ (a_29 : Nat → Int32) (a_30 : Nat → Int32), (pr_X5_keepsAll kp dp a_29 wt st tn tr (tre ||| r_1) tm ts b r_1 a ∧ (∀ (kp_31 dp_31 st_31 : Nat → Int32), ps_X5_keepsAll kp dp a_29 wt st tn tr (tre ||| r_1) tm ts b r_1 a kp_31 dp_31 st_31 → (∀ J167 : Int32 → Int32 → (Nat → Int32) → (Nat → Int32) → (Nat → Int32) → (Nat → Int32) → Prop, (∀ (moved_215 : Int32) (seen_216 : Int32) (a_217 : Nat → Int32) (a_218 : Nat → Int32) (a_219 : Nat → Int32) (a_220 : Nat → Int32), (Q a_217 a_218 a_219 a_220 st_31 (tre ||| r_1) moved_215 seen_216) → J167 moved_215 seen_216 a_217 a_218 a_219 a_220) →
wp_X5_joins_L96 tn tr tre r_1 a_30 st_31 J167 0 tm ts kp_31 dp_31 a_29 wt))) → J74 a_29 a_30) →
wp_X5_joins_L22 tn tre r_1 J74 0 tw (fun _ => 0)))
theorem pf_X5_joins (E : Nat → Nat → Prop) (r n u v : Nat) (kp dp tw wt st : Nat → Int32) (tn tr tre tm ts a b : Int32) (hp : pr_X5_joins E r n u v kp dp tw wt st tn tr tre tm ts a b) : wp_X5_joins kp dp tw wt st tn tr tre tm ts a b (ps_X5_joins E r n u v kp dp tw wt st tn tr tre tm ts a b) := by
  obtain ⟨hT, rfl, rfl, rfl, rfl, lv, hu, hv, hw, ht⟩ := hp
  obtain ⟨t1, t2, t3, t4, t5, t6⟩ := id hT
  have lt := fun x hx => hT.lt (x := x) hx
  have lu := lt u hu
  have tall := ht.all (fun k hk => by have := lt k hk; omega)
  have hE1 : ∀ a b, Ins E u v a b → a < n ∧ b < n := fun a b e => e.elim (t3 a b) (fun q => by rw [q.1, q.2]; exact ⟨lu, lv⟩)
  have hER := Er_iff t1 hE1 hw
  refine ⟨⟨n, v, rfl, t1, rfl, lv, by
    cases hb : bt tre v
    · rfl
    · exact absurd ((tall v).1 hb) hv, RowsW_of t1 hE1 hw⟩, fun r1 hr1 => ?_⟩
  -- the part
  have plt : ∀ x, Part E r v x → x < n := fun x hx => Rs.ind (X := fun x => x < n) (fun z s _ => by rw [s]; exact lv) (fun _ y _ _ e _ => (t3 _ y e).2) hx
  have hpart : ∀ x, Rs (Er (nI n) tw) (fun x => x = (nI v).toNatClampNeg) (fun x => bt tre x = true) x ↔ Part E r v x := fun x => by
    rw [clN (by omega)]
    constructor
    · intro h
      exact Rs.ind (X := fun x => Part E r v x) (fun z s w => Rs.base s (fun q => w ((tall z).2 q))) (fun a b ha ih e w => by
        rcases (hER a b).1 e with e | ⟨e, -⟩
        · exact ih.step e (fun q => w ((tall b).2 q))
        · exact absurd (by rw [e]; exact hu) ih.not) h
    · intro h
      exact Rs.ind (X := fun x => Rs (Er (nI n) tw) (fun x => x = v) (fun x => bt tre x = true) x) (fun z s w => Rs.base s (fun q => w ((tall z).1 q))) (fun a b _ ih e w => ih.step ((hER a b).2 (Or.inl e)) (fun q => w ((tall b).1 q))) h
  have hr1 : IsSet r1 (Part E r v) := hr1.congr (fun k _ => hpart k)
  have pall := hr1.all (fun k hk => by have := plt k hk; omega)
  intro J1 hJ1 X1 hX1
  refine up2 n (fun i (a o : Nat → Int32) => ∀ x, (x < i → bt r1 x = true → a x = tw x &&& (tre ^^^ (-1)) ∧ o x = tw x &&& tre) ∧ ((¬ x < i ∨ ¬ bt r1 x = true) → a x = tw x ∧ o x = 0)) (fun i a o hi hI hh => hX1 _ _ _ ⟨fun c => ?_, fun c r2 hr2 => ?_⟩) (fun a o hI => hX1 _ _ _ ⟨fun _ => hJ1 _ _ ?_, fun c => absurd (Int32.le_refl _) c⟩) 0 tw (fun _ => 0) (by omega) (fun x => ⟨fun h => absurd h (by omega), fun _ => ⟨rfl, rfl⟩⟩)
  · rw [leN (by omega) (by omega)] at c; omega
  · unfold ps_X1_has at hr2
    rw [hr2, i1_eq0, hs_bt (by omega)]
    refine ⟨fun d => hh _ _ (fun x => ⟨fun h hb => ?_, fun h => (hI x).2 ?_⟩), fun d => ⟨vp_in_nI (by omega) (by decide), fun w1 e1 w2 e2 => hh _ _ ?_⟩⟩
    · by_cases e : x = i
      · subst e; exact absurd hb d
      · exact (hI x).1 (by omega) hb
    · by_cases e : x = i
      · subst e; exact Or.inr d
      · exact h.imp (fun q => by omega) id
    · have d := Classical.not_not.1 d
      rw [clN (by omega)] at e1 e2
      have ai := ((hI i).2 (Or.inl (by omega))).1
      rw [ai] at e1 e2
      subst e1; subst e2
      intro x
      by_cases e : x = i
      · subst e; rw [upd_s, upd_s]; exact ⟨fun _ _ => ⟨rfl, rfl⟩, fun h => h.elim (fun q => absurd (Nat.lt_succ_self x) q) (fun q => absurd d q)⟩
      · rw [upd_n e, upd_n e]
        exact ⟨fun h hb => (hI x).1 (by omega) hb, fun h => (hI x).2 (h.imp (fun q => by omega) id)⟩
  -- the rows without the part's steps to the rest
  have hIj : ∀ x, (bt r1 x = true → a x = tw x &&& (tre ^^^ (-1)) ∧ o x = tw x &&& tre) ∧ (¬ bt r1 x = true → a x = tw x ∧ o x = 0) := fun x => ⟨fun hb => (hI x).1 (plt x ((pall x).1 hb)) hb, fun hb => (hI x).2 (Or.inr hb)⟩
  have ha : ∀ x, x < 16 → IsSet (a x) (Ej E r u v x) := fun x hx => by
    by_cases hb : bt r1 x = true
    · rw [((hIj x).1 hb).1]
      exact ((hw x hx).andNot ht).congr (fun y _ => ⟨fun q => ⟨q.1, fun z => q.2 z.2⟩, fun q => ⟨q.1, fun z => q.2 ⟨(pall x).1 hb, z⟩⟩⟩)
    · rw [((hIj x).2 hb).1]
      exact (hw x hx).congr (fun y _ => ⟨fun q => ⟨q, fun z => hb ((pall x).2 z.1)⟩, fun q => q.1⟩)
  have ho : ∀ x, x < 16 → IsSet (o x) (fun y => Part E r v x ∧ Rd E r y ∧ E x y) := fun x hx => by
    by_cases hb : bt r1 x = true
    · rw [((hIj x).1 hb).2]
      refine ((hw x hx).and ht).congr (fun y _ => ⟨fun q => ⟨(pall x).1 hb, q.2, q.1.resolve_right (fun z => ((pall x).1 hb).not (by rw [z.1]; exact hu))⟩, fun q => ⟨Or.inl q.2.2, q.2.1⟩⟩)
    · rw [((hIj x).2 hb).2]
      exact IsSet.zero.congr (fun y _ => ⟨fun q => q.elim, fun q => hb ((pall x).2 q.1)⟩)
  have hEj : ∀ a b, Ej E r u v a b → a < n ∧ b < n := fun a b e => hE1 a b e.1
  have hERj := Er_iff t1 hEj ha
  have htj : IsSet (tre ||| r1) (Rd (Ej E r u v) r) := (ht.or hr1).congr (fun k _ => (Ej.R hu hv).symm)
  have ltj : ∀ x, Rd (Ej E r u v) r x → x < n := fun x hx => ((Ej.R hu hv).1 hx).elim (lt x) (plt x)
  have tallj := htj.all (fun k hk => by have := ltj k hk; omega)
  have hEl : ∀ x y, El (Er (nI n) a) r1 x y ↔ Ep E r v x y := fun x y => by
    unfold El
    rw [hERj, pall, pall]
    exact ⟨fun q => ⟨q.1.1.resolve_right (fun z => q.2.1.not (by rw [z.1]; exact hu)), q.2.1, q.2.2⟩, fun q => ⟨⟨Or.inl q.1, fun z => q.2.2.not z.2⟩, q.2.1, q.2.2⟩⟩
  have hElE : El (Er (nI n) a) r1 = Ep E r v := by funext x y; exact propext (hEl x y)
  have key : ∀ kq, Kps (nI n) a (nI v) r1 (nI u) kp kq → kq r = -1 ∧ ∀ x, Rd (Ej E r u v) r x → x ≠ r → ∃ g, kq x = nI g ∧ Id (Ej E r u v) r g x := fun kq hk => by
    have hk := hk n v rfl t1 rfl lv
    rw [hElE] at hk
    refine ⟨?_, fun x hx hxr => ?_⟩
    · rw [(hk r (by omega)).2 (fun q => ((pall r).1 q).not Rd.root)]; exact t4
    · have x16 : x < 16 := by have := ltj x hx; omega
      by_cases hb : bt r1 x = true
      · by_cases e : x = v
        · subst e
          exact ⟨u, ((hk x x16).1 hb).1 rfl, Ej.idB hu hv⟩
        · obtain ⟨g, g1, g2⟩ := ((hk x x16).1 hb).2 e
          exact ⟨g, g1, Ej.idPart hu hv g2⟩
      · have hxR : Rd E r x := ((Ej.R hu hv).1 hx).resolve_right (fun q => hb ((pall x).2 q))
        obtain ⟨g, g1, g2⟩ := t5 x hxR hxr
        exact ⟨g, by rw [(hk x x16).2 hb]; exact g1, Ej.idRest hu hv g2⟩
  refine ⟨⟨⟨n, v, rfl, t1, rfl, lv, RowsW_of t1 hEj ha, ?_, fun k hk => plt k ((pall k).1 hk)⟩, fun kq hk => ?_⟩, fun kp1 dp1 st1 hps J2 hJ2 X2 hX2 => ?_⟩
  · rw [hElE]; exact hr1.congr (fun k _ => (Ep.part hv).symm)
  · obtain ⟨k1, k2⟩ := key kq hk
    exact ⟨_, Chn.of t1 t2 hEj tallj k1 k2, fun x => dep16 t1 t2 hEj⟩
  obtain ⟨hk, hd⟩ := hps
  obtain ⟨k1, k2⟩ := key kp1 hk
  have hd := hd _ (Chn.of t1 t2 hEj tallj k1 k2)
  have hTj : TreK (Ej E r u v) r n kp1 dp1 := ⟨t1, t2, hEj, k1, k2, fun x hx => ((hd x) (by rw [clN (by omega)]; exact ltj x hx)).1 ((tallj x).2 hx)⟩
  -- its steps to the rest, one by one
  let Pq := fun (F : Nat → Nat → Prop) (kq dq tq : Nat → Int32) => TreK F r n kq dq ∧ (∀ x, x < 16 → IsSet (tq x) (F x)) ∧ IsSet (tre ||| r1) (Rd F r)
  have st : ∀ (i j : Nat) (F : Nat → Nat → Prop) (kq dq tq : Nat → Int32), Pq F kq dq tq → Part E r v i → Rd E r j → (∀ x, Rd F r x ↔ Rd (Ej E r u v) r x) → ∀ wq st2 tm2 ts2, pr_X5_lifts F r n i j kq dq (upd tq i (tq i ||| ((1 : Int32) <<< (nI j &&& 31)))) wq st2 (nI n) (nI r) (tre ||| r1) tm2 ts2 (nI i) (nI j) := by
    intro i j F kq dq tq hP hi hj hRF wq st2 tm2 ts2
    have i16 := plt i hi
    have j16 := lt j hj
    refine ⟨hP.1, rfl, rfl, rfl, rfl, (hRF i).2 ((Ej.R hu hv).2 (Or.inr hi)), (hRF j).2 ((Ej.R hu hv).2 (Or.inl hj)), fun x hx => ?_, hP.2.2⟩
    by_cases e : x = i
    · subst e; rw [upd_s]
      exact ((hP.2.1 x hx).or (IsSet.bit (by omega))).congr (fun y _ => ⟨fun q => q.imp id (fun z => ⟨rfl, z⟩), fun q => q.imp id (fun z => z.2)⟩)
    · rw [upd_n e]
      exact (hP.2.1 x hx).congr (fun y _ => ⟨Or.inl, fun q => q.resolve_right (fun z => e z.1)⟩)
  have main := up1 (X := fun i (p : Int32 × Int32 × (Nat → Int32) × (Nat → Int32) × (Nat → Int32) × (Nat → Int32)) => X2 i p.1 p.2.1 p.2.2.1 p.2.2.2.1 p.2.2.2.2.1 p.2.2.2.2.2) n (fun i p => ∃ F, (∀ x y, F x y ↔ Ej E r u v x y ∨ (x < i ∧ Part E r v x ∧ Rd E r y ∧ E x y)) ∧ (∀ x, Rd F r x ↔ Rd (Ej E r u v) r x) ∧ Pq F p.2.2.1 p.2.2.2.1 p.2.2.2.2.1) (fun i p hi hI hh => ?_) (fun p hI => ?_) 0 (tm, ts, kp1, dp1, a, wt) (by omega) ⟨Ej E r u v, fun x y => ⟨Or.inl, fun q => q.resolve_right (fun z => absurd z.1 (by omega))⟩, fun x => Iff.rfl, hTj, ha, htj⟩
  · exact main
  · obtain ⟨tm0, ts0, kq, dq, tq, wq⟩ := p
    dsimp only at hI hh ⊢
    refine hX2 _ _ _ _ _ _ _ ⟨fun c => ?_, fun c J3 hJ3 X3 hX3 => ?_⟩
    · rw [leN (by omega) (by omega)] at c; omega
    have in2 := up1 (X := fun j (p : Int32 × Int32 × (Nat → Int32) × (Nat → Int32) × (Nat → Int32) × (Nat → Int32)) => X3 j p.1 p.2.1 p.2.2.1 p.2.2.2.1 p.2.2.2.2.1 p.2.2.2.2.2) n (fun j p => ∃ F, (∀ x y, F x y ↔ Ej E r u v x y ∨ ((x < i ∨ (x = i ∧ y < j)) ∧ Part E r v x ∧ Rd E r y ∧ E x y)) ∧ (∀ x, Rd F r x ↔ Rd (Ej E r u v) r x) ∧ Pq F p.2.2.1 p.2.2.2.1 p.2.2.2.2.1) (fun j p hj hI2 hh2 => ?_) (fun p hI2 => ?_) 0 (tm0, ts0, kq, dq, tq, wq) (by omega) (by
      obtain ⟨F, f1, f2, f3⟩ := hI
      exact ⟨F, fun x y => (f1 x y).trans ⟨fun q => q.imp id (fun z => ⟨Or.inl z.1, z.2⟩), fun q => q.imp id (fun z => ⟨z.1.resolve_right (fun w => absurd w.2 (by omega)), z.2⟩)⟩, f2, f3⟩)
    · exact in2
    · obtain ⟨tm0, ts0, kq, dq, tq, wq⟩ := p
      dsimp only at hI2 hh2 ⊢
      obtain ⟨F, f1, f2, f3⟩ := hI2
      refine hX3 _ _ _ _ _ _ _ ⟨fun c => ?_, fun c => ⟨vp_in_nI (by omega) (by decide), fun r2 hr2 => ?_⟩⟩
      · rw [leN (by omega) (by omega)] at c; omega
      unfold ps_X1_has at hr2
      rw [clN (by omega)] at hr2
      rw [hr2, i1_eq0, hs_bt (by omega), clN (by omega)]
      have hoi := ho i (by omega) j (by omega)
      refine ⟨fun d w1 e1 => ?_, fun d => hh2 (tm0, ts0, kq, dq, tq, wq) ⟨F, fun x y => (f1 x y).trans ⟨fun q => q.imp id (fun z => ⟨z.1.imp id (fun w => ⟨w.1, by omega⟩), z.2⟩), fun q => q.imp id (fun z => ⟨z.1.imp id (fun w => ⟨w.1, ?_⟩), z.2⟩)⟩, f2, f3⟩⟩
      · subst e1
        obtain ⟨-, o1, o2, o3⟩ := hoi.1 (Classical.not_not.1 d)
        refine ⟨F, r, n, i, j, st i j F kq dq tq f3 o1 o2 f2 _ _ _ _, fun kp2 dp2 wt2 tm2 ts2 hq => ?_⟩
        have hpr := st i j F kq dq tq f3 o1 o2 f2 wt st1 tm ts
        have hRI : ∀ x, Rd (Ins F i j) r x ↔ Rd F r x := fun x => Ins.rd hpr.2.2.2.2.2.2.1
        refine hh2 (tm2, ts2, kp2, dp2, _, wt2) ⟨Ins F i j, fun x y => ?_, fun x => (hRI x).trans (f2 x), hq, hpr.2.2.2.2.2.2.2.1, f3.2.2.congr (fun k _ => (hRI k).symm)⟩
        constructor
        · rintro (q | ⟨q1, q2⟩)
          · exact ((f1 x y).1 q).imp id (fun z => ⟨z.1.imp id (fun w => ⟨w.1, by omega⟩), z.2⟩)
          · subst q1; subst q2; exact Or.inr ⟨Or.inr ⟨rfl, by omega⟩, o1, o2, o3⟩
        · rintro (q | ⟨q1, q2⟩)
          · exact Or.inl ((f1 x y).2 (Or.inl q))
          · by_cases e : x = i ∧ y = j
            · exact Or.inr e
            · refine Or.inl ((f1 x y).2 (Or.inr ⟨q1.imp id (fun w => ⟨w.1, ?_⟩), q2⟩))
              have : y ≠ j := fun w2 => e ⟨w.1, w2⟩
              omega
      · have : y ≠ j := fun w2 => d (hoi.2 ⟨by omega, by rw [← w.1, ← w2]; exact z.2⟩)
        omega
    · obtain ⟨tm0, ts0, kq, dq, tq, wq⟩ := p
      dsimp only at hI2 ⊢
      refine hX3 _ _ _ _ _ _ _ ⟨fun _ => hJ3 _ _ _ _ _ _ (hh (tm0, ts0, kq, dq, tq, wq) ?_), fun c => absurd (Int32.le_refl _) c⟩
      obtain ⟨F, f1, f2, f3⟩ := hI2
      refine ⟨F, fun x y => (f1 x y).trans ⟨fun q => q.imp id (fun z => ⟨z.1.elim (fun w => by omega) (fun w => by omega), z.2⟩), fun q => q.imp id (fun z => ⟨?_, z.2⟩)⟩, f2, f3⟩
      have := lt y z.2.2.1
      by_cases e : x = i
      · exact Or.inr ⟨e, this⟩
      · exact Or.inl (by omega)
  · obtain ⟨tm0, ts0, kq, dq, tq, wq⟩ := p
    dsimp only at hI ⊢
    refine hX2 _ _ _ _ _ _ _ ⟨fun _ => hJ2 _ _ _ _ _ _ ?_, fun c => absurd (Int32.le_refl _) c⟩
    obtain ⟨F, f1, f2, f3⟩ := hI
    have hF : F = Ins E u v := by
      funext x y
      refine propext ((f1 x y).trans ⟨fun q => q.elim (fun z => z.1) (fun z => Or.inl z.2.2.2), fun q => ?_⟩)
      by_cases e : Part E r v x ∧ Rd E r y
      · exact Or.inr ⟨plt x e.1, e.1, e.2, q.resolve_right (fun z => e.1.not (by rw [z.1]; exact hu))⟩
      · exact Or.inl ⟨q, e⟩
    subst hF
    exact ⟨f3.1, rfl, rfl, f3.2.1, f3.2.2⟩
def pr_X5_lays (E : Nat → Nat → Prop) (r n u v : Nat) (kp dp tw wt st : Nat → Int32) (tn tr tre tm ts a b : Int32) : Prop := TreR E r n kp dp tw tn tr tre ∧ a = nI u ∧ b = nI v ∧ u < n ∧ v < n
def ps_X5_lays (E : Nat → Nat → Prop) (r n u v : Nat) (kp dp tw wt st : Nat → Int32) (tn tr tre tm ts a b : Int32) (kp' dp' tw' wt' st' : Nat → Int32) (tre' tm' ts' : Int32) : Prop := TreR (Ins E u v) r n kp' dp' tw' tn tr tre'
def wp_X5_lays (kp dp tw wt st : Nat → Int32) (tn tr tre tm ts a b : Int32) (Q : (Nat → Int32) → (Nat → Int32) → (Nat → Int32) → (Nat → Int32) → (Nat → Int32) → Int32 → Int32 → Int32 → Prop) : Prop :=
  vp_in a 16 ∧ (∀ u_2 : Nat → Int32, u_2 = upd tw a.toNatClampNeg ((tw a.toNatClampNeg) ||| (1 <<< (b &&& 31))) → (∀ (r_3 : Int32), ps_X1_has tre a r_3 → (((¬ r_3 = 0 → (∀ (r_5 : Int32), ps_X1_has tre b r_5 → (((r_5 = 0 → (∃ (E_7 : Nat → Nat → Prop) (r_7 n_7 u_7 v_7 : Nat), (pr_X5_joins E_7 r_7 n_7 u_7 v_7 kp dp u_2 wt st tn tr tre tm ts a b ∧ (∀ (kp_7 dp_7 tw_7 wt_7 st_7 : Nat → Int32) (tre_7 tm_7 ts_7 : Int32), ps_X5_joins E_7 r_7 n_7 u_7 v_7 kp dp u_2 wt st tn tr tre tm ts a b kp_7 dp_7 tw_7 wt_7 st_7 tre_7 tm_7 ts_7 → (Q kp_7 dp_7 tw_7 wt_7 st_7 tre_7 tm_7 ts_7))))) ∧
 (¬ (r_5 = 0) → (∃ (E_8 : Nat → Nat → Prop) (r_8 n_8 u_8 v_8 : Nat), (pr_X5_lifts E_8 r_8 n_8 u_8 v_8 kp dp u_2 wt st tn tr tre tm ts a b ∧ (∀ (kp_8 dp_8 wt_8 : Nat → Int32) (tm_8 ts_8 : Int32), ps_X5_lifts E_8 r_8 n_8 u_8 v_8 kp dp u_2 wt st tn tr tre tm ts a b kp_8 dp_8 wt_8 tm_8 ts_8 → (Q kp_8 dp_8 u_2 wt_8 st tre tm_8 ts_8))))))))) ∧
 (r_3 = 0 → (Q kp dp u_2 wt st tre tm ts))))))
theorem pf_X5_lays (E : Nat → Nat → Prop) (r n u v : Nat) (kp dp tw wt st : Nat → Int32) (tn tr tre tm ts a b : Int32) (hp : pr_X5_lays E r n u v kp dp tw wt st tn tr tre tm ts a b) : wp_X5_lays kp dp tw wt st tn tr tre tm ts a b (ps_X5_lays E r n u v kp dp tw wt st tn tr tre tm ts a b) := by
  obtain ⟨⟨hT, rfl, rfl, hw, ht⟩, rfl, rfl, lu, lv⟩ := hp
  obtain ⟨t1, t2, t3, t4, t5, t6⟩ := id hT
  have lt := fun x hx => hT.lt (x := x) hx
  have tall := ht.all (fun k hk => by have := lt k hk; omega)
  refine ⟨vp_in_nI (by omega) (by decide), fun w2 e2 r3 hr3 => ?_⟩
  rw [clN (by omega)] at e2
  have hw2 : ∀ x, x < 16 → IsSet (w2 x) (Ins E u v x) := fun x hx => by
    subst e2
    by_cases e : x = u
    · subst e; rw [upd_s]
      exact ((hw x hx).or (IsSet.bit (by omega))).congr (fun y _ => ⟨fun q => q.imp id (fun z => ⟨rfl, z⟩), fun q => q.imp id (fun z => z.2)⟩)
    · rw [upd_n e]
      exact (hw x hx).congr (fun y _ => ⟨Or.inl, fun q => q.resolve_right (fun z => e z.1)⟩)
  unfold ps_X1_has at hr3
  rw [hr3, i1_eq0, hs_bt (by omega), tall]
  refine ⟨fun c r5 hr5 => ?_, fun c => ?_⟩
  · have hu := Classical.not_not.1 c
    unfold ps_X1_has at hr5
    rw [hr5, i1_eq0, hs_bt (by omega), tall]
    refine ⟨fun d => ⟨E, r, n, u, v, ⟨hT, rfl, rfl, rfl, rfl, lv, hu, d, hw2, ht⟩, fun kp' dp' tw' wt' st' tre' tm' ts' hq => hq⟩, fun d => ⟨E, r, n, u, v, ⟨hT, rfl, rfl, rfl, rfl, hu, Classical.not_not.1 d, hw2, ht⟩, fun kp' dp' wt' tm' ts' hq => ?_⟩⟩
    exact ⟨hq, rfl, rfl, hw2, ht.congr (fun k _ => (Ins.rd (Classical.not_not.1 d)).symm)⟩
  · have hW : ∀ W x, Rs (Ins E u v) (fun z => z = r) W x ↔ Rs E (fun z => z = r) W x := fun W x => Ins.off c
    have hD : ∀ g x, Dm (Ins E u v) r g x ↔ Dm E r g x := fun g x => by unfold Dm Rd; rw [hW, hW]
    have hI : ∀ g x, Id (Ins E u v) r g x ↔ Id E r g x := fun g x => by unfold Id Pd; simp only [hD]
    have hR : ∀ x, Rd (Ins E u v) r x ↔ Rd E r x := fun x => hW _ x
    refine ⟨⟨t1, t2, fun a b e => e.elim (t3 a b) (fun q => by rw [q.1, q.2]; exact ⟨lu, lv⟩), t4, fun x hx hxr => ?_, fun x hx => ?_⟩, rfl, rfl, hw2, ht.congr (fun k _ => (hR k).symm)⟩
    · obtain ⟨g, g1, g2⟩ := t5 x ((hR x).1 hx) hxr
      exact ⟨g, g1, (hI g x).2 g2⟩
    · rw [t6 x ((hR x).1 hx)]
      have : dep (Ins E u v) r n x = dep E r n x := cnt_congr (fun g _ => by unfold Pd; rw [hD])
      rw [this]
