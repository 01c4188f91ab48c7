/-! ways with their tolls (own work) -/
def Wk (N : NetM) : Nat → Nat → Nat → Prop
  | 0, c, x => x = N.root ∧ c = N.tl N.root
  | l + 1, c, x => ∃ y c', Wk N l c' y ∧ N.E y x ∧ c = c' + N.tl x
def FareIs (N : NetM) (v : Nat) (r : Int32) : Prop := (r = -1 ∧ ∀ l c, ¬ Wk N l c v) ∨ ∃ c l, r = nI c ∧ Wk N l c v ∧ ∀ l' c', Wk N l' c' v → c ≤ c'
/-- the least toll, by so many arcs and no fewer -/
def Opt (N : NetM) (l x : Nat) : Prop := ∃ c, Wk N l c x ∧ (∀ l' c', Wk N l' c' x → c ≤ c') ∧ ∀ l', Wk N l' c x → l ≤ l'
theorem Wk.lt {N : NetM} (h : N.ok) : ∀ {l c x : Nat}, Wk N l c x → x < N.n
  | 0, _, _, q => by have := h.2.2.1; have := q.1; omega
  | _ + 1, _, _, ⟨_, _, _, e, _⟩ => (NetM.E_lt h e).2
theorem Opt.uniq {N : NetM} {l m x : Nat} (h1 : Opt N l x) (h2 : Opt N m x) : l = m := by
  obtain ⟨c, a1, a2, a3⟩ := h1
  obtain ⟨d, b1, b2, b3⟩ := h2
  have e : c = d := Nat.le_antisymm (a2 _ _ b1) (b2 _ _ a1)
  subst e
  exact Nat.le_antisymm (a3 _ b1) (b3 _ a1)
theorem Opt.ex {N : NetM} {l c x : Nat} (h : Wk N l c x) : ∃ m, Opt N m x := by
  have hc : ∃ c, (∃ l, Wk N l c x) ∧ ∀ c', (∃ l, Wk N l c' x) → c ≤ c' := by
    have main : ∀ b, (∃ c, c ≤ b ∧ ∃ l, Wk N l c x) → ∃ c, (∃ l, Wk N l c x) ∧ ∀ c', (∃ l, Wk N l c' x) → c ≤ c' := by
      intro b
      induction b with
      | zero => rintro ⟨c, h1, h2⟩; exact ⟨c, h2, fun c' _ => by omega⟩
      | succ b ih =>
        rintro ⟨c, h1, h2⟩
        by_cases q : ∃ c, c ≤ b ∧ ∃ l, Wk N l c x
        · exact ih q
        · exact ⟨c, h2, fun c' hc' => by
            rcases Nat.lt_or_ge b c' with z | z
            · omega
            · exact absurd ⟨c', z, hc'⟩ q⟩
    exact main c ⟨c, Nat.le_refl _, l, h⟩
  obtain ⟨c0, ⟨l0, h0⟩, hm⟩ := hc
  have main : ∀ b, (∃ m, m ≤ b ∧ Wk N m c0 x) → ∃ m, Wk N m c0 x ∧ ∀ m', Wk N m' c0 x → m ≤ m' := by
    intro b
    induction b with
    | zero => rintro ⟨c, h1, h2⟩; exact ⟨c, h2, fun c' _ => by omega⟩
    | succ b ih =>
      rintro ⟨c, h1, h2⟩
      by_cases q : ∃ m, m ≤ b ∧ Wk N m c0 x
      · exact ih q
      · exact ⟨c, h2, fun c' hc' => by
          rcases Nat.lt_or_ge b c' with z | z
          · omega
          · exact absurd ⟨c', z, hc'⟩ q⟩
  obtain ⟨m, q1, q2⟩ := main l0 ⟨l0, Nat.le_refl _, h0⟩
  exact ⟨m, c0, q1, fun l' c' h' => hm c' ⟨l', h'⟩, q2⟩
theorem Opt.few {N : NetM} (h : N.ok) : ∀ l x, Opt N l x → l + 1 ≤ cnt N.n (fun z => ∃ k, k ≤ l ∧ Opt N k z)
  | 0, x, q => cnt_pos (k := x) (by obtain ⟨c, q1, -⟩ := q; exact q1.lt h) ⟨0, Nat.le_refl _, q⟩
  | l + 1, x, q => by
    obtain ⟨c, q1, q2, q3⟩ := id q
    obtain ⟨y, c', y1, y2, y3⟩ := q1
    have oy : Opt N l y := ⟨c', y1, fun l'' c'' hw => by
      have := q2 (l'' + 1) (c'' + N.tl x) ⟨y, c'', hw, y2, rfl⟩; omega, fun l'' hw => by
      have := q3 (l'' + 1) ⟨y, c', hw, y2, y3⟩; omega⟩
    have := Opt.few h l y oy
    have := cnt_lt (n := N.n) (P := fun z => ∃ k, k ≤ l ∧ Opt N k z) (Q := fun z => ∃ k, k ≤ l + 1 ∧ Opt N k z) (g := x) (NetM.E_lt h y2).2 (fun z _ hz => by obtain ⟨k, k1, k2⟩ := hz; exact ⟨k, by omega, k2⟩) (fun hz => by obtain ⟨k, k1, k2⟩ := hz; have := q.uniq k2; omega) ⟨l + 1, Nat.le_refl _, q⟩
    omega
def Vl (fa : Nat → Int32) (x c : Nat) : Prop := fa x = nI c ∧ c ≤ 1584
theorem Vl.uniq {fa : Nat → Int32} {x c d : Nat} (h1 : Vl fa x c) (h2 : Vl fa x d) : c = d := by
  have := h1.1.symm.trans h2.1
  have a1 := h1.2
  have a2 := h2.2
  rwa [eqN (by omega) (by omega)] at this
theorem Vl.ne {fa : Nat → Int32} {x c : Nat} (h1 : Vl fa x c) : ¬ fa x = -1 := fun z => by
  have a1 := h1.2
  exact nI_m1 (by omega) (h1.1.symm.trans z)
def Fs (N : NetM) (fa : Nat → Int32) : Prop := ∀ x, x < 16 → fa x = -1 ∨ ∃ c l, Vl fa x c ∧ Wk N l c x ∧ c ≤ 99 * cnt 16 (fun z => ¬ fa z = -1)
def Fle (fa fb : Nat → Int32) : Prop := ∀ x c, Vl fa x c → ∃ d, Vl fb x d ∧ d ≤ c
theorem Fle.refl (fa : Nat → Int32) : Fle fa fa := fun _ c h => ⟨c, h, Nat.le_refl _⟩
theorem Fs.relax {N : NetM} (hN : N.ok) {fa : Nat → Int32} (h : Fs N fa) {a b ca la : Nat} (ha : Vl fa a ca) (hw : Wk N la ca a) (hc : ca ≤ 99 * cnt 16 (fun z => ¬ fa z = -1)) (he : N.E a b) (hb : fa b = -1 ∨ ∃ cb, Vl fa b cb ∧ ca + N.tl b < cb ∧ cb ≤ 99 * cnt 16 (fun z => ¬ fa z = -1)) :
    Fs N (upd fa b (nI (ca + N.tl b))) ∧ Fle fa (upd fa b (nI (ca + N.tl b))) ∧ Vl (upd fa b (nI (ca + N.tl b))) b (ca + N.tl b) := by
  have hb16 : b < 16 := by have := (NetM.E_lt hN he).2; have := hN.2.1; omega
  have ht : N.tl b ≤ 99 := hN.2.2.2.2.2.2 b hb16
  have hn0 : ca + N.tl b < 2 ^ 31 → ¬ nI (ca + N.tl b) = -1 := fun q => nI_m1 q
  have c16 : cnt 16 (fun z => ¬ fa z = -1) ≤ 16 := cnt_le _ _
  have hcnt : ca + N.tl b ≤ 99 * cnt 16 (fun z => ¬ upd fa b (nI (ca + N.tl b)) z = -1) ∧ cnt 16 (fun z => ¬ fa z = -1) ≤ cnt 16 (fun z => ¬ upd fa b (nI (ca + N.tl b)) z = -1) := by
    have hmono : cnt 16 (fun z => ¬ fa z = -1) ≤ cnt 16 (fun z => ¬ upd fa b (nI (ca + N.tl b)) z = -1) := cnt_mono (fun k _ q => by
      by_cases e : k = b
      · subst e; rw [upd_s]; exact hn0 (by omega)
      · rw [upd_n e]; exact q)
    refine ⟨?_, hmono⟩
    rcases hb with q | ⟨cb, q1, q2, q3⟩
    · have := cnt_lt (n := 16) (P := fun z => ¬ fa z = -1) (Q := fun z => ¬ upd fa b (nI (ca + N.tl b)) z = -1) (g := b) hb16 (fun k _ q => by
        by_cases e : k = b
        · subst e; rw [upd_s]; exact hn0 (by omega)
        · rw [upd_n e]; exact q) (fun z => z q) (by rw [upd_s]; exact hn0 (by omega))
      omega
    · omega
  have d16 : cnt 16 (fun z => ¬ upd fa b (nI (ca + N.tl b)) z = -1) ≤ 16 := cnt_le _ _
  have hv : Vl (upd fa b (nI (ca + N.tl b))) b (ca + N.tl b) := ⟨upd_s, by omega⟩
  refine ⟨fun x hx => ?_, fun x c hx => ?_, hv⟩
  · by_cases e : x = b
    · subst e
      exact Or.inr ⟨_, la + 1, hv, ⟨a, ca, hw, he, rfl⟩, hcnt.1⟩
    · rcases h x hx with q | ⟨c, l, q1, q2, q3⟩
      · exact Or.inl (by rw [upd_n e]; exact q)
      · exact Or.inr ⟨c, l, ⟨by rw [upd_n e]; exact q1.1, q1.2⟩, q2, by omega⟩
  · by_cases e : x = b
    · subst e
      refine ⟨_, hv, ?_⟩
      rcases hb with q | ⟨cb, q1, q2, q3⟩
      · exact absurd q hx.ne
      · have := hx.uniq q1; omega
    · exact ⟨c, ⟨by rw [upd_n e]; exact hx.1, hx.2⟩, Nat.le_refl _⟩
/-- ways of so many arcs are counted; of one more, whose last arc came by already -/
def Fc (N : NetM) (d a b : Nat) (fa : Nat → Int32) : Prop := (∀ l c x, l ≤ d → Wk N l c x → ∃ e, Vl fa x e ∧ e ≤ c) ∧ ∀ y x c, Wk N d c y → N.E y x → (y < a ∨ (y = a ∧ x < b)) → ∃ e, Vl fa x e ∧ e ≤ c + N.tl x
theorem Fc.le {N : NetM} {d a b : Nat} {fa fb : Nat → Int32} (h : Fc N d a b fa) (hl : Fle fa fb) : Fc N d a b fb :=
  ⟨fun l c x h1 h2 => by
    obtain ⟨e, q1, q2⟩ := h.1 l c x h1 h2
    obtain ⟨g, g1, g2⟩ := hl x e q1
    exact ⟨g, g1, by omega⟩, fun y x c h1 h2 h3 => by
    obtain ⟨e, q1, q2⟩ := h.2 y x c h1 h2 h3
    obtain ⟨g, g1, g2⟩ := hl x e q1
    exact ⟨g, g1, by omega⟩⟩
/-! gl6: contracts, pure predicates (printed by gen.py) -/
def pr_X1_fareOf (N : NetM) (V : Nat) (wa wy un ga lo mo li kt wk wd : Int32) (f t w c o : Nat → Int32) (nd rt ex mn : Int32) (kp dp tw wt st : Nat → Int32) (tn tr tre tm ts : Int32) (fa : Nat → Int32) (v : Int32) : Prop := NetR N f t w c o nd rt ex mn ∧ TreR N.E N.root N.n kp dp tw tn tr tre ∧ v = nI V ∧ V < N.n
def ps_X1_fareOf (N : NetM) (V : Nat) (wa wy un ga lo mo li kt wk wd : Int32) (f t w c o : Nat → Int32) (nd rt ex mn : Int32) (kp dp tw wt st : Nat → Int32) (tn tr tre tm ts : Int32) (fa : Nat → Int32) (v : Int32) (r : Int32) (fa' : Nat → Int32) : Prop := FareIs N V r
def wp_X1_fareOf_L73 (w c : Nat → Int32) (nd x3_954 : Int32) (J180 : (Nat → Int32) → Prop) (ix4_1002 : Int32) (ia_1003 : Nat → Int32) : Prop :=
  ∀ X73 : Int32 → (Nat → Int32) → Prop, (∀ (x4_1002 : Int32) (a_1003 : Nat → Int32), (((nd ≤ x4_1002 → (J180 a_1003)) ∧
 (¬ (nd ≤ x4_1002) → (vp_in x3_954 16 ∧ ((((a_1003 x3_954.toNatClampNeg) = (-1) → (J180 a_1003)) ∧
 (¬ ((a_1003 x3_954.toNatClampNeg) = (-1)) → (∀ (r_1008 : Int32), ps_X1_has (w x3_954.toNatClampNeg) x4_1002 r_1008 → (((r_1008 = 0 → (X73 (x4_1002 + 1) a_1003)) ∧
 (¬ (r_1008 = 0) → (vp_in x4_1002 16 ∧ (∀ J150 : Prop, ((∀ u_1013 : Nat → Int32, u_1013 = upd a_1003 x4_1002.toNatClampNeg ((a_1003 x3_954.toNatClampNeg) + (c x4_1002.toNatClampNeg)) → (X73 (x4_1002 + 1) u_1013)) → J150) →
(((a_1003 x4_1002.toNatClampNeg) = (-1) → (J150)) ∧
 (¬ ((a_1003 x4_1002.toNatClampNeg) = (-1)) → (((a_1003 x4_1002.toNatClampNeg) ≤ ((a_1003 x3_954.toNatClampNeg) + (c x4_1002.toNatClampNeg)) → (X73 (x4_1002 + 1) a_1003)) ∧
 (¬ ((a_1003 x4_1002.toNatClampNeg) ≤ ((a_1003 x3_954.toNatClampNeg) + (c x4_1002.toNatClampNeg))) → (J150)))))))))))))))))) → X73 x4_1002 a_1003) → X73 ix4_1002 ia_1003
def wp_X1_fareOf_L59 (w c : Nat → Int32) (nd : Int32) (J186 : (Nat → Int32) → Prop) (ix3_954 : Int32) (ia_955 : Nat → Int32) : Prop :=
  ∀ X59 : Int32 → (Nat → Int32) → Prop, (∀ (x3_954 : Int32) (a_955 : Nat → Int32), (((nd ≤ x3_954 → (J186 a_955)) ∧
 (¬ (nd ≤ x3_954) → (∀ J180 : (Nat → Int32) → Prop, (∀ (a_1000 : Nat → Int32), (X59 (x3_954 + 1) a_1000) → J180 a_1000) →
wp_X1_fareOf_L73 w c nd x3_954 J180 0 a_955)))) → X59 x3_954 a_955) → X59 ix3_954 ia_955
def wp_X1_fareOf_L46 (w c : Nat → Int32) (nd : Int32) (J192 : (Nat → Int32) → Prop) (ix2_768 : Int32) (ia_769 : Nat → Int32) : Prop :=
  ∀ X46 : Int32 → (Nat → Int32) → Prop, (∀ (x2_768 : Int32) (a_769 : Nat → Int32), (((nd ≤ x2_768 → (J192 a_769)) ∧
 (¬ (nd ≤ x2_768) → (∀ J186 : (Nat → Int32) → Prop, (∀ (a_952 : Nat → Int32), (X46 (x2_768 + 1) a_952) → J186 a_952) →
wp_X1_fareOf_L59 w c nd J186 0 a_769)))) → X46 x2_768 a_769) → X46 ix2_768 ia_769
def wp_X1_fareOf_L2 (c : Nat → Int32) (rt : Int32) (J44 : (Nat → Int32) → Prop) (ix2_1018 : Int32) (ia_1019 : Nat → Int32) : Prop :=
  ∀ X2 : Int32 → (Nat → Int32) → Prop, (∀ (x2_1018 : Int32) (a_1019 : Nat → Int32), (((16 ≤ x2_1018 → (J44 a_1019)) ∧
 (¬ (16 ≤ x2_1018) → ((¬ x2_1018 = rt → (vp_in x2_1018 16 ∧ (∀ u_1024 : Nat → Int32, u_1024 = upd a_1019 x2_1018.toNatClampNeg (-1) → (X2 (x2_1018 + 1) u_1024)))) ∧
 (x2_1018 = rt → (vp_in x2_1018 16 ∧ (∀ u_1026 : Nat → Int32, u_1026 = upd a_1019 x2_1018.toNatClampNeg (c x2_1018.toNatClampNeg) → (X2 (x2_1018 + 1) u_1026)))))))) → X2 x2_1018 a_1019) → X2 ix2_1018 ia_1019
def wp_X1_fareOf (wa wy un ga lo mo li kt wk wd : Int32) (f t w c o : Nat → Int32) (nd rt ex mn : Int32) (kp dp tw wt st : Nat → Int32) (tn tr tre tm ts : Int32) (fa : Nat → Int32) (v : Int32) (Q : Int32 → (Nat → Int32) → Prop) : Prop :=
  ∀ J44 : (Nat → Int32) → Prop, (∀ (a_23 : Nat → Int32), (∀ J192 : (Nat → Int32) → Prop, (∀ (a_765 : Nat → Int32), (vp_in v 16 ∧ (Q (a_765 v.toNatClampNeg) a_765)) → J192 a_765) →
wp_X1_fareOf_L46 w c nd J192 0 a_23) → J44 a_23) →
wp_X1_fareOf_L2 c rt J44 0 fa
theorem pf_X1_fareOf (N : NetM) (V : Nat) (wa wy un ga lo mo li kt wk wd : Int32) (f t w c o : Nat → Int32) (nd rt ex mn : Int32) (kp dp tw wt st : Nat → Int32) (tn tr tre tm ts : Int32) (fa : Nat → Int32) (v : Int32) (hp : pr_X1_fareOf N V wa wy un ga lo mo li kt wk wd f t w c o nd rt ex mn kp dp tw wt st tn tr tre tm ts fa v) : wp_X1_fareOf wa wy un ga lo mo li kt wk wd f t w c o nd rt ex mn kp dp tw wt st tn tr tre tm ts fa v (ps_X1_fareOf N V wa wy un ga lo mo li kt wk wd f t w c o nd rt ex mn kp dp tw wt st tn tr tre tm ts fa v) := by
  obtain ⟨hN, hT, rfl, hV⟩ := hp
  have h16 := hN.n16
  have hok := hN.1
  have hr := hok.2.2.1
  have e1 : rt = nI N.root := hN.2.2.1
  have hnd := hN.nd
  subst hnd; subst e1
  obtain ⟨-, -, -, -, -, -, -, -, htl, -⟩ := id hN
  intro J44 hJ44 X2 hX2
  refine up1 16 (fun k a => ∀ x, x < k → a x = if x = N.root then nI (N.tl N.root) else -1) (fun k a hk hI hh => hX2 _ _ ⟨fun q => absurd q (by rw [n16, leN (by omega) (by omega)]; omega), fun _ => ⟨fun z => ⟨vp_in_nI (by omega) (by decide), fun u eu => hh _ (fun x hx => ?_)⟩, fun z => ⟨vp_in_nI (by omega) (by decide), fun u eu => hh _ (fun x hx => ?_)⟩⟩⟩) (fun a hI => hX2 _ _ ⟨fun _ => hJ44 _ (fun J192 hJ192 X46 hX46 => ?_), fun q => absurd (Int32.le_refl _) q⟩) 0 fa (Nat.zero_le _) (fun x hx => absurd hx (by omega))
  · rw [clN (by omega)] at eu
    rw [eqN (by omega) (by omega)] at z
    subst eu
    by_cases e : x = k
    · subst e; rw [upd_s, if_neg z]
    · rw [upd_n e]; exact hI x (by omega)
  · rw [clN (by omega), htl k (by omega)] at eu
    rw [eqN (by omega) (by omega)] at z
    subst eu
    by_cases e : x = k
    · subst e; rw [upd_s, if_pos z, z]
    · rw [upd_n e]; exact hI x (by omega)
  · have hroot : Vl a N.root (N.tl N.root) := ⟨by rw [hI N.root (by omega), if_pos rfl], by have := hok.2.2.2.2.2.2 N.root (by omega); omega⟩
    have hFs0 : Fs N a := fun x hx => by
      by_cases e : x = N.root
      · subst e
        refine Or.inr ⟨_, 0, hroot, ⟨rfl, rfl⟩, ?_⟩
        have := cnt_pos (n := 16) (P := fun z => ¬ a z = -1) (k := N.root) (by omega) hroot.ne
        have := hok.2.2.2.2.2.2 N.root (by omega)
        omega
      · exact Or.inl (by rw [hI x hx, if_neg e])
    have hFc0 : Fc N 0 0 0 a := ⟨fun l c x hl hw => by
      have e : l = 0 := by omega
      subst e
      obtain ⟨q1, q2⟩ := hw
      subst q1; subst q2
      exact ⟨_, hroot, Nat.le_refl _⟩, fun y x c _ _ h => by omega⟩
    refine up1 N.n (fun d a => Fs N a ∧ Fc N d 0 0 a) (fun d a hd hI hh => hX46 _ _ ⟨fun q => absurd q (by rw [leN (by omega) (by omega)]; omega), fun _ J186 hJ186 X59 hX59 => ?_⟩) (fun a hI => hX46 _ _ ⟨fun _ => hJ192 _ ⟨hN.in16N hV, ?_⟩, fun q => absurd (Int32.le_refl _) q⟩) 0 a (Nat.zero_le _) ⟨hFs0, hFc0⟩
    · refine up1 N.n (fun y a => Fs N a ∧ Fc N d y 0 a) (fun y a hy hI hh2 => hX59 _ _ ⟨fun q => absurd q (by rw [leN (by omega) (by omega)]; omega), fun _ J180 hJ180 X73 hX73 => ?_⟩) (fun a hI => hX59 _ _ ⟨fun _ => hJ186 _ (hh _ ⟨hI.1, fun l c x hl hw => ?_, fun y x c _ _ h => by omega⟩), fun q => absurd (Int32.le_refl _) q⟩) 0 a (Nat.zero_le _) hI
      · have nxt : ∀ a', Fs N a' → (∀ l c x, l ≤ d → Wk N l c x → ∃ e, Vl a' x e ∧ e ≤ c) → (∀ z x c, Wk N d c z → N.E z x → z < y + 1 → ∃ e, Vl a' x e ∧ e ≤ c + N.tl x) → J180 a' := fun a' h1 h2 h3 => hJ180 _ (hh2 _ ⟨h1, h2, fun z x c q1 q2 q3 => h3 z x c q1 q2 (by omega)⟩)
        refine up1 N.n (fun x a => Fs N a ∧ Fc N d y x a) (fun b a hb hI hh3 => hX73 _ _ ⟨fun q => absurd q (by rw [leN (by omega) (by omega)]; omega), fun _ => ⟨hN.in16N hy, ?_⟩⟩) (fun a hI => hX73 _ _ ⟨fun _ => nxt _ hI.1 hI.2.1 (fun z x c q1 q2 q3 => hI.2.2 z x c q1 q2 (by have := (NetM.E_lt hok q2).2; omega)), fun q => absurd (Int32.le_refl _) q⟩) 0 a (Nat.zero_le _) hI
        rw [clN (by omega)]
        obtain ⟨iS, iC⟩ := hI
        refine ⟨fun z => nxt _ iS iC.1 (fun u x c q1 q2 q3 => ?_), fun z r hr => ?_⟩
        · by_cases e : u = y
          · subst e
            obtain ⟨e, v1, v2⟩ := iC.1 d c u (Nat.le_refl _) q1
            exact absurd z v1.ne
          · exact iC.2 u x c q1 q2 (by omega)
        · obtain ⟨ca, la, v1, v2, v3⟩ := (iS y (by omega)).resolve_left z
          have c16 : cnt 16 (fun z => ¬ a z = -1) ≤ 16 := cnt_le _ _
          have ht : N.tl b ≤ 99 := hok.2.2.2.2.2.2 b (by omega)
          have hw := hN.rows (a := y) (by omega)
          have same : (¬ N.E y b ∨ ∃ e, Vl a b e ∧ e ≤ ca + N.tl b) → Fs N a ∧ Fc N d y (b + 1) a := fun q => ⟨iS, iC.1, fun u x c q1 q2 q3 => by
            by_cases e : u = y ∧ x = b
            · obtain ⟨e1, e2⟩ := e
              subst e1; subst e2
              rcases q with q | ⟨g, g1, g2⟩
              · exact absurd q2 q
              · obtain ⟨g3, g4, g5⟩ := iC.1 d c u (Nat.le_refl _) q1
                have := g4.uniq v1
                exact ⟨g, g1, by omega⟩
            · exact iC.2 u x c q1 q2 (by omega)⟩
          refine ⟨fun y1 => hh3 _ (same (Or.inl (has_z hr hw (by omega) y1))), fun y1 => ⟨vp_in_nI (by omega) (by decide), fun J150 hJ150 => ?_⟩⟩
          have hE := has_p hr hw (by omega) y1
          rw [clN (by omega)] at hJ150 ⊢
          rw [v1.1, htl b (by omega), nI_add] at hJ150
          rw [v1.1, htl b (by omega), nI_add]
          have doit : (a b = -1 ∨ ∃ cb, Vl a b cb ∧ ca + N.tl b < cb ∧ cb ≤ 99 * cnt 16 (fun z => ¬ a z = -1)) → J150 := fun q => hJ150 (fun u eu => by
            subst eu
            obtain ⟨w1, w2, w3⟩ := Fs.relax hok iS v1 v2 v3 hE q
            refine hh3 _ ⟨w1, (iC.le w2).1, fun u x c q1 q2 q3 => ?_⟩
            by_cases e : u = y ∧ x = b
            · obtain ⟨e1, e2⟩ := e
              subst e1; subst e2
              obtain ⟨g3, g4, g5⟩ := iC.1 d c u (Nat.le_refl _) q1
              have := g4.uniq v1
              exact ⟨_, w3, by omega⟩
            · exact (iC.le w2).2 u x c q1 q2 (by omega))
          refine ⟨fun y2 => doit (Or.inl y2), fun y2 => ?_⟩
          obtain ⟨cb, lb, b1, b2, b3⟩ := (iS b (by omega)).resolve_left y2
          have b4 := b1.2
          rw [b1.1, leN (by omega) (by omega)]
          exact ⟨fun y3 => hh3 _ (same (Or.inr ⟨cb, b1, y3⟩)), fun y3 => doit (Or.inr ⟨cb, b1, by omega, b3⟩)⟩
      · rcases Nat.lt_or_ge l (d + 1) with q | q
        · exact hI.2.1 l c x (by omega) hw
        · have e : l = d + 1 := by omega
          subst e
          obtain ⟨y, c', w1, w2, w3⟩ := hw
          obtain ⟨g, g1, g2⟩ := hI.2.2 y x c' w1 w2 (Or.inl (NetM.E_lt hok w2).1)
          exact ⟨g, g1, by omega⟩
    · rw [clN (by omega)]
      rcases hI.1 V (by omega) with q | ⟨c, l, q1, q2, q3⟩
      · refine Or.inl ⟨q, fun l c hw => ?_⟩
        obtain ⟨m, hm⟩ := Opt.ex hw
        have := Opt.few hok m V hm
        have := cnt_le N.n (fun z => ∃ k, k ≤ m ∧ Opt N k z)
        obtain ⟨c0, a1, -, -⟩ := hm
        obtain ⟨g, g1, -⟩ := hI.2.1 m c0 V (by omega) a1
        exact g1.ne q
      · refine Or.inr ⟨c, l, q1.1, q2, fun l' c' hw => ?_⟩
        obtain ⟨m, hm⟩ := Opt.ex hw
        have := Opt.few hok m V hm
        have := cnt_le N.n (fun z => ∃ k, k ≤ m ∧ Opt N k z)
        obtain ⟨c0, a1, a2, -⟩ := hm
        obtain ⟨g, g1, g2⟩ := hI.2.1 m c0 V (by omega) a1
        have := g1.uniq q1
        have := a2 l' c' hw
        omega
