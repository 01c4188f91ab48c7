/-! what the gates were ahead (own work) -/
def DepR (E : Nat → Nat → Prop) (r n : Nat) (P : Nat → Int32) : Prop := ∀ x, x < 16 → (Rd E r x → P x = nI (dep E r n x)) ∧ (¬ Rd E r x → P x = -1)
def KepR (E : Nat → Nat → Prop) (r : Nat) (K : Nat → Int32) : Prop := ∀ x, x < 16 → (K x = -1 ∧ ∀ g, ¬ Id E r g x) ∨ ∃ g, K x = nI g ∧ g < 16 ∧ Id E r g x
def WasIs (E : Nat → Nat → Prop) (r n : Nat) (re : Int32) (Q R : Nat → Int32) : Prop := IsSet re (Rd E r) ∧ DepR E r n Q ∧ KepR E r R
theorem KepR.mv {E E' : Nat → Nat → Prop} {r r' : Nat} {K K' : Nat → Int32} (h : KepR E r K) (h' : KepR E' r' K') {x : Nat} (hx : x < 16) : K' x = K x ↔ ∀ g, Id E r g x ↔ Id E' r' g x := by
  rcases h x hx with ⟨a1, a2⟩ | ⟨g, a1, a2, a3⟩ <;> rcases h' x hx with ⟨b1, b2⟩ | ⟨g', b1, b2, b3⟩
  · rw [a1, b1]; exact ⟨fun _ g => ⟨fun q => absurd q (a2 g), fun q => absurd q (b2 g)⟩, fun _ => rfl⟩
  · rw [a1, b1]; exact ⟨fun q => absurd q (nI_m1 (by omega)), fun q => absurd ((q g').2 b3) (a2 g')⟩
  · rw [a1, b1]; exact ⟨fun q => absurd q.symm (nI_m1 (by omega)), fun q => absurd ((q g).1 a3) (b2 g)⟩
  · rw [a1, b1, eqN (by omega) (by omega)]
    exact ⟨fun q j => by subst q; exact ⟨fun z => by rw [z.uniq a3]; exact b3, fun z => by rw [z.uniq b3]; exact a3⟩, fun q => ((q g).1 a3).uniq b3 |>.symm⟩
def LI (E0 : Nat → Nat → Prop) (r0 : Nat) (E : Nat → Nat → Prop) (r n k : Nat) (mo li : Int32) : Prop := IsSet mo (fun x => x < k ∧ Mv E0 r0 E r x) ∧ li = smI k (fun x => @ite _ (Rd E0 r0 x ∧ Rd E r x) (Classical.propDecidable _) (nI (dep E0 r0 n x) - nI (dep E r n x)) 0)
theorem LI.z {E0 E : Nat → Nat → Prop} {r0 r n : Nat} : LI E0 r0 E r n 0 0 0 := ⟨IsSet.zero.congr (fun _ _ => ⟨fun q => q.elim, fun q => absurd q.1 (by omega)⟩), rfl⟩
theorem smI_s (k : Nat) (f : Nat → Int32) : smI (k + 1) f = smI k f + f k := rfl
theorem LI.no {E0 E : Nat → Nat → Prop} {r0 r n k : Nat} {mo li : Int32} (h : LI E0 r0 E r n k mo li) (q : ¬ (Rd E0 r0 k ∧ Rd E r k)) : LI E0 r0 E r n (k + 1) mo li := by
  refine ⟨h.1.congr (fun x _ => ⟨fun z => ⟨by omega, z.2⟩, fun z => ⟨?_, z.2⟩⟩), ?_⟩
  · by_cases e : x = k
    · subst e; exact absurd ⟨z.2.1, z.2.2.1⟩ q
    · omega
  · rw [smI_s, if_neg q, Int32.add_zero]; exact h.2
theorem LI.same {E0 E : Nat → Nat → Prop} {r0 r n k : Nat} {mo li : Int32} (h : LI E0 r0 E r n k mo li) (h1 : Rd E0 r0 k) (h2 : Rd E r k) (q : ∀ g, Id E0 r0 g k ↔ Id E r g k) : LI E0 r0 E r n (k + 1) (mo ||| 0) (li + (nI (dep E0 r0 n k) - nI (dep E r n k))) := by
  refine ⟨(h.1.or IsSet.zero).congr (fun x _ => ⟨fun z => z.elim (fun z => ⟨by omega, z.2⟩) False.elim, fun z => Or.inl ⟨?_, z.2⟩⟩), ?_⟩
  · by_cases e : x = k
    · subst e; exact absurd q z.2.2.2
    · omega
  · rw [smI_s, if_pos ⟨h1, h2⟩, h.2]
theorem LI.hit {E0 E : Nat → Nat → Prop} {r0 r n k : Nat} {mo li : Int32} (h : LI E0 r0 E r n k mo li) (h1 : Rd E0 r0 k) (h2 : Rd E r k) (hk : k < 16) (q : ¬ ∀ g, Id E0 r0 g k ↔ Id E r g k) : LI E0 r0 E r n (k + 1) (mo ||| ((1 : Int32) <<< (nI k &&& 31))) (li + (nI (dep E0 r0 n k) - nI (dep E r n k))) := by
  refine ⟨(h.1.or (IsSet.bit hk)).congr (fun x _ => ⟨fun z => z.elim (fun z => ⟨by omega, z.2⟩) (fun z => by subst z; exact ⟨by omega, h1, h2, q⟩), fun z => ?_⟩), ?_⟩
  · by_cases e : x = k
    · exact Or.inr e
    · exact Or.inl ⟨by omega, z.2⟩
  · rw [smI_s, if_pos ⟨h1, h2⟩, h.2]
theorem EGa.base {N : NetM} (hN : N.ok) (mt : Int32) : EGa N (-1) mt (-1) (-1) N.E := by
  have h60 := hN.2.2.2.2.1
  refine ⟨fun a b => ⟨?_, ?_⟩, fun q => absurd rfl q⟩
  · rintro ⟨k, h1, h2, h3, h4⟩
    exact Or.inl ⟨k, h1, nI_m1 (by omega), nI_m1 (by omega), h2, h3, h4⟩
  · rintro (⟨k, h1, -, -, h2, h3, h4⟩ | ⟨q, -⟩)
    · exact ⟨k, h1, h2, h3, h4⟩
    · exact absurd rfl q
theorem EGa.ins {N : NetM} (hN : N.ok) {a b : Nat} (ha : a < N.n) (hb : b < N.n) : EGa N (nI a) (nI b) (-1) (-1) (Ins N.E a b) := by
  have h60 := hN.2.2.2.2.1
  have h16 := hN.2.1
  refine ⟨fun u v => ⟨?_, ?_⟩, fun _ => ⟨a, b, ha, hb, rfl, rfl⟩⟩
  · rintro (⟨k, h1, h2, h3, h4⟩ | ⟨rfl, rfl⟩)
    · exact Or.inl ⟨k, h1, nI_m1 (by omega), nI_m1 (by omega), h2, h3, h4⟩
    · exact Or.inr ⟨nI_m1 (by omega), ha, hb, rfl, rfl⟩
  · rintro (⟨k, h1, -, -, h2, h3, h4⟩ | ⟨-, h1, h2, h3, h4⟩)
    · exact Or.inl ⟨k, h1, h2, h3, h4⟩
    · exact Or.inr ⟨((eqN (by omega) (by omega)).mp h3).symm, ((eqN (by omega) (by omega)).mp h4).symm⟩
theorem EGa.less {N : NetM} (hN : N.ok) {K : Nat} (hK : K < N.m) (mt : Int32) : EGa N (-1) mt (nI K) (-1) (N.Eb K) := by
  have h60 := hN.2.2.2.2.1
  refine ⟨fun a b => ⟨?_, ?_⟩, fun q => absurd rfl q⟩
  · rintro ⟨k, h1, h0, h2, h3, h4⟩
    exact Or.inl ⟨k, h1, nI_m1 (by omega), fun e => h0 ((eqN (by omega) (by omega)).mp e), h2, h3, h4⟩
  · rintro (⟨k, h1, -, h0, h2, h3, h4⟩ | ⟨q, -⟩)
    · exact ⟨k, h1, fun e => h0 (by rw [e]), h2, h3, h4⟩
    · exact absurd rfl q
theorem EGa.rd {N : NetM} (hN : N.ok) {mf mt la ar : Int32} {E : Nat → Nat → Prop} (h : EGa N mf mt la ar E) {x : Nat} (hx : Rd E N.root x) : x < N.n :=
  Rs.ind (X := fun x => x < N.n) (fun z s _ => by rw [s]; exact hN.2.2.1) (fun a b _ _ e _ => (h.lt hN e).2) hx
/-! acts on the model's world (own work) -/
theorem NetW.setR {N : NetM} {mW : Nat → Int32} (h : NetW N mW) {V : Nat} (hV : V < N.n) : NetW (N.setR V) (upd mW 1 (nI V)) := by
  obtain ⟨⟨k1, k2, k3, k4, k5, k6, k7⟩, h1, h2, h3, h4, h5, h6⟩ := h
  exact ⟨⟨k1, k2, hV, k4, k5, k6, k7⟩, by rw [upd_n (by omega)]; exact h1, upd_s, by rw [upd_n (by omega)]; exact h3, by rw [upd_n (by omega)]; exact h4, fun a ha => by rw [upd_n (by omega)]; exact h5 a ha, fun k hk => by rw [upd_n (by omega), upd_n (by omega), upd_n (by omega)]; exact h6 k hk⟩
theorem NetW.setX {N : NetM} {mW : Nat → Int32} (h : NetW N mW) {V : Nat} (hV : V < N.n) : NetW (N.setX V) (upd mW 2 (nI V)) := by
  obtain ⟨⟨k1, k2, k3, k4, k5, k6, k7⟩, h1, h2, h3, h4, h5, h6⟩ := h
  exact ⟨⟨k1, k2, k3, hV, k5, k6, k7⟩, by rw [upd_n (by omega)]; exact h1, by rw [upd_n (by omega)]; exact h2, upd_s, by rw [upd_n (by omega)]; exact h4, fun a ha => by rw [upd_n (by omega)]; exact h5 a ha, fun k hk => by rw [upd_n (by omega), upd_n (by omega), upd_n (by omega)]; exact h6 k hk⟩
theorem NetW.setT {N : NetM} {mW : Nat → Int32} (h : NetW N mW) {V T : Nat} (hV : V < N.n) (hT : T ≤ 99) : NetW (N.setT V T) (upd mW (4 + V) (nI T)) := by
  obtain ⟨⟨k1, k2, k3, k4, k5, k6, k7⟩, h1, h2, h3, h4, h5, h6⟩ := h
  refine ⟨⟨k1, k2, k3, k4, k5, k6, fun a ha => ?_⟩, by rw [upd_n (by omega)]; exact h1, by rw [upd_n (by omega)]; exact h2, by rw [upd_n (by omega)]; exact h3, by rw [upd_n (by omega)]; exact h4, fun a ha => ?_, fun k hk => by rw [upd_n (by omega), upd_n (by omega), upd_n (by omega)]; exact h6 k hk⟩
  · show (if a = V then T else N.tl a) ≤ 99
    by_cases e : a = V
    · rw [if_pos e]; exact hT
    · rw [if_neg e]; exact k7 a ha
  · show _ = nI (if a = V then T else N.tl a)
    by_cases e : a = V
    · subst e; rw [if_pos rfl, upd_s]
    · rw [if_neg e, upd_n (by omega)]; exact h5 a ha
theorem NetW.turn {N : NetM} {mW : Nat → Int32} (h : NetW N mW) {K : Nat} (hK : K < N.m) (b : Bool) : NetW (N.turn K b) (upd mW (140 + K) (if b = true then 1 else 0)) := by
  obtain ⟨⟨k1, k2, k3, k4, k5, k6, k7⟩, h1, h2, h3, h4, h5, h6⟩ := h
  refine ⟨⟨k1, k2, k3, k4, k5, k6, k7⟩, by rw [upd_n (by omega)]; exact h1, by rw [upd_n (by omega)]; exact h2, by rw [upd_n (by omega)]; exact h3, by rw [upd_n (by omega)]; exact h4, fun a ha => by rw [upd_n (by omega)]; exact h5 a ha, fun k hk => ?_⟩
  have hk : k < N.m := hk
  refine ⟨by rw [upd_n (by omega)]; exact (h6 k hk).1, by rw [upd_n (by omega)]; exact (h6 k hk).2.1, ?_⟩
  show _ = if (if k = K then b else N.op k) = true then 1 else 0
  by_cases e : k = K
  · subst e; rw [if_pos (rfl : k = k), upd_s]
  · rw [if_neg e, upd_n (by omega)]; exact (h6 k hk).2.2
theorem NetW.add {N : NetM} {mW : Nat → Int32} (h : NetW N mW) {A B : Nat} (hA : A < N.n) (hB : B < N.n) (hm : N.m < 60) : NetW (N.add A B) (upd (upd (upd (upd mW (20 + N.m) (nI A)) (80 + N.m) (nI B)) (140 + N.m) 1) 3 (nI (N.m + 1))) := by
  obtain ⟨⟨k1, k2, k3, k4, k5, k6, k7⟩, h1, h2, h3, h4, h5, h6⟩ := h
  have lo : ∀ j, j < 20 → j ≠ 3 → (upd (upd (upd (upd mW (20 + N.m) (nI A)) (80 + N.m) (nI B)) (140 + N.m) 1) 3 (nI (N.m + 1))) j = mW j := fun j hj h3 => by rw [upd_n h3, upd_n (by omega), upd_n (by omega), upd_n (by omega)]
  refine ⟨⟨k1, k2, k3, k4, hm, fun k hk => ?_, k7⟩, (lo 0 (by omega) (by omega)).trans h1, (lo 1 (by omega) (by omega)).trans h2, (lo 2 (by omega) (by omega)).trans h3, upd_s, fun a ha => (lo (4 + a) (by omega) (by omega)).trans (h5 a ha), fun k hk => ?_⟩
  · have hk : k < N.m + 1 := hk
    show (if k = N.m then A else N.fr k) < N.n ∧ (if k = N.m then B else N.to k) < N.n
    by_cases e : k = N.m
    · rw [if_pos e, if_pos e]; exact ⟨hA, hB⟩
    · rw [if_neg e, if_neg e]; exact k6 k (by omega)
  · have hk : k < N.m + 1 := hk
    show _ = nI (if k = N.m then A else N.fr k) ∧ _ = nI (if k = N.m then B else N.to k) ∧ _ = if (if k = N.m then true else N.op k) = true then 1 else 0
    by_cases e : k = N.m
    · rw [if_pos e, if_pos e, if_pos e, if_pos rfl, e]
      exact ⟨by rw [upd_n (by omega), upd_n (by omega), upd_n (by omega), upd_s], by rw [upd_n (by omega), upd_n (by omega), upd_s], by rw [upd_n (by omega), upd_s]⟩
    · rw [if_neg e, if_neg e, if_neg e]
      exact ⟨by rw [upd_n (by omega), upd_n (by omega), upd_n (by omega), upd_n (by omega)]; exact (h6 k (by omega)).1, by rw [upd_n (by omega), upd_n (by omega), upd_n (by omega), upd_n (by omega)]; exact (h6 k (by omega)).2.1, by rw [upd_n (by omega), upd_n (by omega), upd_n (by omega), upd_n (by omega)]; exact (h6 k (by omega)).2.2⟩
theorem NetW.copy {N : NetM} {g h : Nat → Int32} (w : NetW N g) (e : ∀ j, j < 200 → h j = g j) : NetW N h := by
  obtain ⟨⟨k1, k2, k3, k4, k5, k6, k7⟩, h1, h2, h3, h4, h5, h6⟩ := w
  exact ⟨⟨k1, k2, k3, k4, k5, k6, k7⟩, by rw [e _ (by omega)]; exact h1, by rw [e _ (by omega)]; exact h2, by rw [e _ (by omega)]; exact h3, by rw [e _ (by omega)]; exact h4, fun a ha => by rw [e _ (by omega)]; exact h5 a ha, fun k hk => by rw [e _ (by omega), e _ (by omega), e _ (by omega)]; exact h6 k hk⟩
theorem Latest.of {N N' : NetM} (hn : N'.n = N.n) {ga lo mo li : Int32} (h : IsSet ga (fun x => Rd N'.E N'.root x ∧ ¬ Rd N.E N.root x) ∧ IsSet lo (fun x => Rd N.E N.root x ∧ ¬ Rd N'.E N'.root x) ∧ IsSet mo (Mv N.E N.root N'.E N'.root) ∧ li = LiftV N.E N.root N'.n N'.E N'.root) : Latest N N' ga lo mo li := ⟨h.1, h.2.1, h.2.2.1, by rw [h.2.2.2, hn]⟩
theorem pos_nI {x : Nat} (h : x ≤ 4) : 0 < nI x ↔ ¬ x = 0 := by
  rw [show (0 : Int32) = nI 0 from rfl, ltN (by omega) (by omega)]; omega
theorem of_i1 {r : Int32} {P : Prop} [Decidable P] (h : r = i1 P) (z : ¬ r = 0) : P := Classical.not_not.1 (fun q => z (h.trans (i1_eq0.2 q)))
theorem of_le {z : Int32} {k : Nat} (hk : k < 2 ^ 30) (h : 0 ≤ z ∧ z ≤ nI k) : ∃ T, T ≤ k ∧ z = nI T := by
  obtain ⟨T, h1, h2⟩ := (of_in (n := k + 1) (by omega)).1 ⟨h.1, by
    have := Int32.le_iff_toInt_le.1 h.2
    rw [Int32.lt_iff_toInt_lt]
    rw [nI_toInt (by omega)] at this ⊢
    omega⟩
  exact ⟨T, by omega, h2⟩
theorem refd {P1 P2 : Prop} {r4 th wy r3 : Int32} {x : Nat} {c t0 : Int32} (hx : x ≤ 4) (h3 : r3 = nI x) (h4 : wy = r3 ∧ ((r4 = 1 ∧ 0 < r3 ∧ th = c ∧ P1) ∨ (r4 = 0 ∧ ¬ 0 < r3 ∧ th = t0 ∧ P2))) : (r4 = 0 → x = 0 ∧ wy = 0 ∧ th = t0 ∧ P2) ∧ (¬ r4 = 0 → ¬ x = 0 ∧ wy = nI x ∧ th = c ∧ P1) := by
  subst h3
  rw [pos_nI hx] at h4
  obtain ⟨h5, ⟨h6, h7, h8, h9⟩ | ⟨h6, h7, h8, h9⟩⟩ := h4
  · exact ⟨fun z => absurd (h6.symm.trans z) (by decide), fun _ => ⟨h7, h5, h8, h9⟩⟩
  · have e := Classical.not_not.1 h7
    exact ⟨fun _ => ⟨e, by rw [h5, e]; rfl, h8, h9⟩, fun z => absurd h6 z⟩
theorem tellF_v {N : NetM} {V : Nat} {b : Bool} (hV : V < N.n) (h16 : N.n ≤ 16) : tellF N (nI V) b = if (if b = true then N.exit else N.root) = V then (4, N) else (0, if b = true then N.setX V else N.setR V) := by
  unfold tellF; rw [if_pos ((of_in (by omega)).2 ⟨V, hV, rfl⟩), clN (by omega)]
theorem turnF_v {N : NetM} {K : Nat} {b : Bool} (hK : K < N.m) (h60 : N.m ≤ 60) : turnF N (nI K) b = if N.op K = b then (4, N) else (0, N.turn K b) := by
  unfold turnF; rw [if_pos ((of_in (by omega)).2 ⟨K, hK, rfl⟩), clN (by omega)]
theorem tollF_v {N : NetM} {V T : Nat} (hV : V < N.n) (h16 : N.n ≤ 16) (hT : T ≤ 99) : tollF N (nI V) (nI T) = if N.tl V = T then (4, N) else (0, N.setT V T) := by
  unfold tollF; rw [if_pos ((of_in (by omega)).2 ⟨V, hV, rfl⟩), clN (by omega), clN (by omega)]
theorem layF_v {N : NetM} {A B : Nat} (hA : A < N.n) (hB : B < N.n) (h16 : N.n ≤ 16) : layF N (nI A) (nI B) = if N.m = 60 then (2, N) else (0, N.add A B) := by
  unfold layF; rw [if_pos ⟨(of_in (by omega)).2 ⟨A, hA, rfl⟩, (of_in (by omega)).2 ⟨B, hB, rfl⟩⟩, clN (by omega), clN (by omega)]
theorem tellF_no {N : NetM} {v : Int32} {b : Bool} (h : ¬ (0 ≤ v ∧ v < nI N.n)) : tellF N v b = (1, N) := by unfold tellF; rw [if_neg h]
theorem turnF_no {N : NetM} {v : Int32} {b : Bool} (h : ¬ (0 ≤ v ∧ v < nI N.m)) : turnF N v b = (3, N) := by unfold turnF; rw [if_neg h]
theorem tollF_no {N : NetM} {v t : Int32} (h : ¬ (0 ≤ v ∧ v < nI N.n)) : tollF N v t = (1, N) := by unfold tollF; rw [if_neg h]
theorem layF_no {N : NetM} {a b : Int32} (h : ¬ ((0 ≤ a ∧ a < nI N.n) ∧ (0 ≤ b ∧ b < nI N.n))) : layF N a b = (1, N) := by unfold layF; rw [if_neg h]
theorem zB_if {z : Int32} (h : z = 0 ∨ z = 1) (b : Bool) : (if b = true then (1 : Int32) else 0) = z ↔ b = zB z := by
  rcases h with rfl | rfl <;> cases b <;> decide
theorem placeW {N : NetM} {mW : Nat → Int32} (hN : NetW N mW) {p z : Int32} (hp : (p = 1 ∧ z = 0) ∨ (p = 2 ∧ z = 1)) : vp_in p 200 ∧ mW p.toNatClampNeg = nI (if zB z = true then N.exit else N.root) ∧ (if zB z = true then N.exit else N.root) = (if z = 0 then N.root else N.exit) := by
  rcases hp with ⟨rfl, rfl⟩ | ⟨rfl, rfl⟩
  · refine ⟨vp_in_nI (n := 1) (by decide) (by decide), ?_, ?_⟩
    · rw [zB_0, if_neg Bool.false_ne_true]; exact hN.2.2.1
    · rw [zB_0, if_neg Bool.false_ne_true, if_pos rfl]
  · refine ⟨vp_in_nI (n := 2) (by decide) (by decide), ?_, ?_⟩
    · rw [zB_1, if_pos rfl]; exact hN.2.2.2.1
    · rw [zB_1, if_pos rfl, if_neg (by decide)]
/-! mod2: contracts, pure predicates (printed by gen.py) -/
def pr_X7_keepsOne (E : Nat → Nat → Prop) (ro B V : Nat) (jth jrm jwy jhi jmf jmt jla jre jwr jga jlo jmo jli jta jpt jen jbg jfa jwt jac jng jnl jnm jnv jwm : Int32) (mG : Nat → Int32) (b v : Int32) : Prop := (∀ x, x < 16 → IsSet (mG x) (fun z => Pd E ro z x)) ∧ b = nI B ∧ B < 16 ∧ v = nI V ∧ V < 16
def ps_X7_keepsOne (E : Nat → Nat → Prop) (ro B V : Nat) (jth jrm jwy jhi jmf jmt jla jre jwr jga jlo jmo jli jta jpt jen jbg jfa jwt jac jng jnl jnm jnv jwm : Int32) (mG : Nat → Int32) (b v : Int32) (r : Int32)  : Prop := IsB r (Pd E ro B V)
def wp_X7_keepsOne (jth jrm jwy jhi jmf jmt jla jre jwr jga jlo jmo jli jta jpt jen jbg jfa jwt jac jng jnl jnm jnv jwm : Int32) (mG : Nat → Int32) (b v : Int32) (Q : Int32 → Prop) : Prop :=
  vp_in v 16 ∧ (∀ (r_2 : Int32), ps_X7_holds (mG v.toNatClampNeg) b r_2 → ((r_2 = 0 ∨ r_2 = 1) ∧ (Q r_2)))
theorem pf_X7_keepsOne (E : Nat → Nat → Prop) (ro B V : Nat) (jth jrm jwy jhi jmf jmt jla jre jwr jga jlo jmo jli jta jpt jen jbg jfa jwt jac jng jnl jnm jnv jwm : Int32) (mG : Nat → Int32) (b v : Int32) (hp : pr_X7_keepsOne E ro B V jth jrm jwy jhi jmf jmt jla jre jwr jga jlo jmo jli jta jpt jen jbg jfa jwt jac jng jnl jnm jnv jwm mG b v) : wp_X7_keepsOne jth jrm jwy jhi jmf jmt jla jre jwr jga jlo jmo jli jta jpt jen jbg jfa jwt jac jng jnl jnm jnv jwm mG b v (ps_X7_keepsOne E ro B V jth jrm jwy jhi jmf jmt jla jre jwr jga jlo jmo jli jta jpt jen jbg jfa jwt jac jng jnl jnm jnv jwm mG b v) := by
  unfold wp_X7_keepsOne
  obtain ⟨hG, rfl, hg, rfl, hv⟩ := hp
  refine ⟨vp_in_nI (by omega) (by decide), fun r1 h1 => ?_⟩
  rw [clN (by omega)] at h1
  have h1 : r1 = i1 (hs (mG V) (nI B)) := h1
  refine ⟨h1 ▸ i1_or, ?_⟩
  rw [h1]
  by_cases q : hs (mG V) (nI B)
  · exact Or.inl ⟨i1_t q, ((hG V hv).hs hg).1 q⟩
  · exact Or.inr ⟨i1_f q, fun z => q (((hG V hv).hs hg).2 z)⟩
def pr_X7_keptBy (N : NetM) (V : Nat) (jth jrm jwy jhi jmf jmt jla jre jwr jga jlo jmo jli jta jpt jen jbg jfa jwt jac jng jnl jnm jnv jwm : Int32) (mW mG : Nat → Int32) (v : Int32) : Prop := NetW N mW ∧ (∀ x, x < 16 → IsSet (mG x) (fun z => Pd N.E N.root z x)) ∧ v = nI V ∧ V < N.n
def ps_X7_keptBy (N : NetM) (V : Nat) (jth jrm jwy jhi jmf jmt jla jre jwr jga jlo jmo jli jta jpt jen jbg jfa jwt jac jng jnl jnm jnv jwm : Int32) (mW mG : Nat → Int32) (v : Int32) (r : Int32)  : Prop := IsSet r (fun x => Pd N.E N.root V x)
def wp_X7_keptBy_L4 (jth jrm jwy jhi jmf jmt jla jre jwr jga jlo jmo jli jta jpt jen jbg jfa jwt jac jng jnl jnm jnv jwm : Int32) (mW mG : Nat → Int32) (v : Int32) (J41 : Int32 → Prop) (ix3_24 ix2_25 : Int32) : Prop :=
  ∀ X4 : Int32 → Int32 → Prop, (∀ (x3_24 : Int32) (x2_25 : Int32), (∀ (r_27 : Int32), ps_X7_nodes jth jrm jwy jhi jmf jmt jla jre jwr jga jlo jmo jli jta jpt jen jbg jfa jwt jac jng jnl jnm jnv jwm mW r_27 → (((r_27 ≤ x3_24 → (J41 x2_25)) ∧
 (¬ (r_27 ≤ x3_24) → (vp_in x3_24 16 ∧ (∀ (r_30 : Int32), ps_X7_holds (mG x3_24.toNatClampNeg) v r_30 → (((r_30 = 0 → (X4 (x3_24 + 1) (x2_25 ||| 0))) ∧
 (¬ (r_30 = 0) → (X4 (x3_24 + 1) (x2_25 ||| (1 <<< (x3_24 &&& 31))))))))))))) → X4 x3_24 x2_25) → X4 ix3_24 ix2_25
def wp_X7_keptBy (jth jrm jwy jhi jmf jmt jla jre jwr jga jlo jmo jli jta jpt jen jbg jfa jwt jac jng jnl jnm jnv jwm : Int32) (mW mG : Nat → Int32) (v : Int32) (Q : Int32 → Prop) : Prop :=
  ∀ J41 : Int32 → Prop, (∀ (x2_22 : Int32), (Q x2_22) → J41 x2_22) →
wp_X7_keptBy_L4 jth jrm jwy jhi jmf jmt jla jre jwr jga jlo jmo jli jta jpt jen jbg jfa jwt jac jng jnl jnm jnv jwm mW mG v J41 0 0
theorem pf_X7_keptBy (N : NetM) (V : Nat) (jth jrm jwy jhi jmf jmt jla jre jwr jga jlo jmo jli jta jpt jen jbg jfa jwt jac jng jnl jnm jnv jwm : Int32) (mW mG : Nat → Int32) (v : Int32) (hp : pr_X7_keptBy N V jth jrm jwy jhi jmf jmt jla jre jwr jga jlo jmo jli jta jpt jen jbg jfa jwt jac jng jnl jnm jnv jwm mW mG v) : wp_X7_keptBy jth jrm jwy jhi jmf jmt jla jre jwr jga jlo jmo jli jta jpt jen jbg jfa jwt jac jng jnl jnm jnv jwm mW mG v (ps_X7_keptBy N V jth jrm jwy jhi jmf jmt jla jre jwr jga jlo jmo jli jta jpt jen jbg jfa jwt jac jng jnl jnm jnv jwm mW mG v) := by
  unfold wp_X7_keptBy
  obtain ⟨hN, hG, rfl, hV⟩ := hp
  have h16 := hN.1.2.1
  intro J hJ X hX
  refine up1 N.n (fun k s => IsSet s (fun x => x < k ∧ Pd N.E N.root V x)) (fun k s hk hI hh => hX _ _ (fun r1 h1 => ?_)) (fun s hI => hX _ _ (fun r1 h1 => ?_)) 0 0 (Nat.zero_le _) (IsSet.zero.congr (fun _ _ => ⟨fun q => q.elim, fun q => absurd q.1 (by omega)⟩))
  · have h1 : r1 = nI N.n := Eq.trans (show r1 = mW 0 from h1) hN.2.1
    rw [h1, leN (by omega) (by omega)]
    refine ⟨fun z => absurd z (by omega), fun _ => ⟨vp_in_nI (by omega) (by decide), fun r2 h2 => ?_⟩⟩
    rw [clN (by omega)] at h2
    refine ⟨fun z => hh _ ((hI.or IsSet.zero).congr (fun x _ => ⟨fun w => w.elim (fun w => ⟨by omega, w.2⟩) False.elim, fun w => Or.inl ⟨?_, w.2⟩⟩)), fun z => hh _ ((hI.or (IsSet.bit (by omega))).congr (fun x _ => ⟨fun w => w.elim (fun w => ⟨by omega, w.2⟩) (fun w => ?_), fun w => ?_⟩))⟩
    · by_cases e : x = k
      · subst e; exact absurd w.2 (hold_z (k := V) h2 (hG x (by omega)) (by omega) z)
      · omega
    · subst w; exact ⟨by omega, hold_p (k := V) h2 (hG x (by omega)) (by omega) z⟩
    · by_cases e : x = k
      · exact Or.inr e
      · exact Or.inl ⟨by omega, w.2⟩
  · have h1 : r1 = nI N.n := Eq.trans (show r1 = mW 0 from h1) hN.2.1
    rw [h1]
    exact ⟨fun _ => hJ _ (hI.congr (fun x _ => ⟨fun w => w.2, fun w => ⟨(EGa.base hN.1 (-1)).rd hN.1 w.2.1, w⟩⟩)), fun z => absurd (Int32.le_refl _) z⟩
def pr_X7_notes (N : NetM) (E : Nat → Nat → Prop) (jth jrm jwy jhi jmf jmt jla jre jwr jga jlo jmo jli jta jpt jen jbg jfa jwt jac jng jnl jnm jnv jwm : Int32) (mW mG mP mK mQ mR : Nat → Int32) : Prop := NetW N mW ∧ EGa N jmf jmt jla (-1) E
def ps_X7_notes (N : NetM) (E : Nat → Nat → Prop) (jth jrm jwy jhi jmf jmt jla jre jwr jga jlo jmo jli jta jpt jen jbg jfa jwt jac jng jnl jnm jnv jwm : Int32) (mW mG mP mK mQ mR : Nat → Int32) (jre' jwr' : Int32) (mG' mP' mK' mQ' mR' : Nat → Int32) : Prop := GatR E N.root N.n jre' mG' mP' mK' ∧ WasIs E N.root N.n jwr' mQ' mR'
def wp_X7_notes_L14 (mP_1 mK_1 : Nat → Int32) (J50 : (Nat → Int32) → (Nat → Int32) → Prop) (ix1_24 : Int32) (ia_25 ia_26 : Nat → Int32) : Prop :=
  ∀ X14 : Int32 → (Nat → Int32) → (Nat → Int32) → Prop, (∀ (x1_24 : Int32) (a_25 : Nat → Int32) (a_26 : Nat → Int32), (((16 ≤ x1_24 → (J50 a_25 a_26)) ∧
 (¬ (16 ≤ x1_24) → (vp_in x1_24 16 ∧ (∀ u_30 : Nat → Int32, u_30 = upd a_25 x1_24.toNatClampNeg (mP_1 x1_24.toNatClampNeg) → (∀ u_31 : Nat → Int32, u_31 = upd a_26 x1_24.toNatClampNeg (mK_1 x1_24.toNatClampNeg) → (X14 (x1_24 + 1) u_30 u_31))))))) → X14 x1_24 a_25 a_26) → X14 ix1_24 ia_25 ia_26
def wp_X7_notes (jth jrm jwy jhi jmf jmt jla jre jwr jga jlo jmo jli jta jpt jen jbg jfa jwt jac jng jnl jnm jnv jwm : Int32) (mW mG mP mK mQ mR : Nat → Int32) (Q : Int32 → Int32 → (Nat → Int32) → (Nat → Int32) → (Nat → Int32) → (Nat → Int32) → (Nat → Int32) → Prop) : Prop :=
  ∃ (N_1 : NetM) (E_1 : Nat → Nat → Prop), (pr_X7_laysGates N_1 E_1 jth jrm jwy jhi jmf jmt jla jre jwr jga jlo jmo jli jta jpt jen jbg jfa jwt jac jng jnl jnm jnv jwm mW mG mP mK ∧ (∀ (jre_1 : Int32) (mG_1 mP_1 mK_1 : Nat → Int32), ps_X7_laysGates N_1 E_1 jth jrm jwy jhi jmf jmt jla jre jwr jga jlo jmo jli jta jpt jen jbg jfa jwt jac jng jnl jnm jnv jwm mW mG mP mK jre_1 mG_1 mP_1 mK_1 → (∀ J50 : (Nat → Int32) → (Nat → Int32) → Prop, (∀ (a_21 : Nat → Int32) (a_22 : Nat → Int32), (Q jre_1 jre_1 mG_1 mP_1 mK_1 a_21 a_22) → J50 a_21 a_22) →
wp_X7_notes_L14 mP_1 mK_1 J50 0 mQ mR)))
theorem pf_X7_notes (N : NetM) (E : Nat → Nat → Prop) (jth jrm jwy jhi jmf jmt jla jre jwr jga jlo jmo jli jta jpt jen jbg jfa jwt jac jng jnl jnm jnv jwm : Int32) (mW mG mP mK mQ mR : Nat → Int32) (hp : pr_X7_notes N E jth jrm jwy jhi jmf jmt jla jre jwr jga jlo jmo jli jta jpt jen jbg jfa jwt jac jng jnl jnm jnv jwm mW mG mP mK mQ mR) : wp_X7_notes jth jrm jwy jhi jmf jmt jla jre jwr jga jlo jmo jli jta jpt jen jbg jfa jwt jac jng jnl jnm jnv jwm mW mG mP mK mQ mR (ps_X7_notes N E jth jrm jwy jhi jmf jmt jla jre jwr jga jlo jmo jli jta jpt jen jbg jfa jwt jac jng jnl jnm jnv jwm mW mG mP mK mQ mR) := by
  unfold wp_X7_notes
  obtain ⟨hN, hE⟩ := hp
  refine ⟨N, E, ⟨hN, hE⟩, fun re G P K h => ?_⟩
  have h : GatR E N.root N.n re G P K := h
  intro J50 hJ X hX
  refine up2 16 (fun k (q r : Nat → Int32) => ∀ j, j < k → q j = P j ∧ r j = K j) (fun k q r hk hI hh => hX _ _ _ ⟨fun z => absurd z (by rw [n16, leN (by omega) (by omega)]; omega), fun _ => ⟨vp_in_nI hk (by decide), fun u hu u2 hu2 => hh _ _ (fun j hj => ?_)⟩⟩) (fun q r hI => hX _ _ _ ⟨fun _ => hJ q r ?_, fun z => absurd (Int32.le_refl _) z⟩) 0 mQ mR (Nat.zero_le _) (fun j hj => absurd hj (by omega))
  · rw [hu, hu2, clN (by omega)]
    by_cases e : j = k
    · subst e; rw [upd_s, upd_s]; exact ⟨rfl, rfl⟩
    · rw [upd_n e, upd_n e]; exact hI j (by omega)
  · exact ⟨h, h.1, fun x hx => by rw [(hI x hx).1]; exact h.2.2.1 x hx, fun x hx => by rw [(hI x hx).2]; exact h.2.2.2 x hx⟩
def pr_X7_holdsAgainst (N : NetM) (E E0 : Nat → Nat → Prop) (r0 : Nat) (jth jrm jwy jhi jmf jmt jla jre jwr jga jlo jmo jli jta jpt jen jbg jfa jwt jac jng jnl jnm jnv jwm : Int32) (mW mG mP mK mQ mR : Nat → Int32) : Prop := NetW N mW ∧ EGa N jmf jmt jla (-1) E ∧ WasIs E0 r0 N.n jwr mQ mR
def ps_X7_holdsAgainst (N : NetM) (E E0 : Nat → Nat → Prop) (r0 : Nat) (jth jrm jwy jhi jmf jmt jla jre jwr jga jlo jmo jli jta jpt jen jbg jfa jwt jac jng jnl jnm jnv jwm : Int32) (mW mG mP mK mQ mR : Nat → Int32) (jre' jga' jlo' jmo' jli' : Int32) (mG' mP' mK' : Nat → Int32) : Prop := GatR E N.root N.n jre' mG' mP' mK' ∧ IsSet jga' (fun x => Rd E N.root x ∧ ¬ Rd E0 r0 x) ∧ IsSet jlo' (fun x => Rd E0 r0 x ∧ ¬ Rd E N.root x) ∧ IsSet jmo' (Mv E0 r0 E N.root) ∧ jli' = LiftV E0 r0 N.n E N.root
def wp_X7_holdsAgainst_L46 (jth jrm jwy jhi jmf jmt jla jwr jta jpt jen jbg jfa jwt jac jng jnl jnm jnv jwm : Int32) (mW mQ mR : Nat → Int32) (jre_1 : Int32) (mP_1 mK_1 : Nat → Int32) (J132 : Int32 → Int32 → Int32 → Int32 → Prop) (ix1_46 igained_47 ilost_48 imoved_49 ilift_50 : Int32) : Prop :=
  ∀ X46 : Int32 → Int32 → Int32 → Int32 → Int32 → Prop, (∀ (x1_46 : Int32) (gained_47 : Int32) (lost_48 : Int32) (moved_49 : Int32) (lift_50 : Int32), (∀ (r_52 : Int32), ps_X7_nodes jth jrm jwy jhi jmf jmt jla jre_1 jwr gained_47 lost_48 moved_49 lift_50 jta jpt jen jbg jfa jwt jac jng jnl jnm jnv jwm mW r_52 → (((r_52 ≤ x1_46 → (J132 gained_47 lost_48 moved_49 lift_50)) ∧
 (¬ (r_52 ≤ x1_46) → (∀ (r_54 : Int32), ps_X7_holds (jre_1 &&& jwr) x1_46 r_54 → (((¬ r_54 = 0 → (vp_in x1_46 16 ∧ (∀ J100 : Int32 → Prop, (∀ (t_58 : Int32), (X46 (x1_46 + 1) gained_47 lost_48 (moved_49 ||| t_58) (lift_50 + ((mQ x1_46.toNatClampNeg) - (mP_1 x1_46.toNatClampNeg)))) → J100 t_58) →
((¬ (mK_1 x1_46.toNatClampNeg) = (mR x1_46.toNatClampNeg) → (J100 (1 <<< (x1_46 &&& 31)))) ∧
 ((mK_1 x1_46.toNatClampNeg) = (mR x1_46.toNatClampNeg) → (J100 0)))))) ∧
 (r_54 = 0 → (X46 (x1_46 + 1) gained_47 lost_48 moved_49 lift_50))))))))) → X46 x1_46 gained_47 lost_48 moved_49 lift_50) → X46 ix1_46 igained_47 ilost_48 imoved_49 ilift_50
def wp_X7_holdsAgainst (jth jrm jwy jhi jmf jmt jla jre jwr jga jlo jmo jli jta jpt jen jbg jfa jwt jac jng jnl jnm jnv jwm : Int32) (mW mG mP mK mQ mR : Nat → Int32) (Q : Int32 → Int32 → Int32 → Int32 → Int32 → (Nat → Int32) → (Nat → Int32) → (Nat → Int32) → Prop) : Prop :=
  ∃ (N_1 : NetM) (E_1 : Nat → Nat → Prop), (pr_X7_laysGates N_1 E_1 jth jrm jwy jhi jmf jmt jla jre jwr jga jlo jmo jli jta jpt jen jbg jfa jwt jac jng jnl jnm jnv jwm mW mG mP mK ∧ (∀ (jre_1 : Int32) (mG_1 mP_1 mK_1 : Nat → Int32), ps_X7_laysGates N_1 E_1 jth jrm jwy jhi jmf jmt jla jre jwr jga jlo jmo jli jta jpt jen jbg jfa jwt jac jng jnl jnm jnv jwm mW mG mP mK jre_1 mG_1 mP_1 mK_1 → (∀ J132 : Int32 → Int32 → Int32 → Int32 → Prop, (∀ (gained_41 : Int32) (lost_42 : Int32) (moved_43 : Int32) (lift_44 : Int32), (Q jre_1 gained_41 lost_42 moved_43 lift_44 mG_1 mP_1 mK_1) → J132 gained_41 lost_42 moved_43 lift_44) →
wp_X7_holdsAgainst_L46 jth jrm jwy jhi jmf jmt jla jwr jta jpt jen jbg jfa jwt jac jng jnl jnm jnv jwm mW mQ mR jre_1 mP_1 mK_1 J132 0 (jre_1 &&& (jwr ^^^ (-1))) (jwr &&& (jre_1 ^^^ (-1))) 0 0)))
theorem pf_X7_holdsAgainst (N : NetM) (E E0 : Nat → Nat → Prop) (r0 : Nat) (jth jrm jwy jhi jmf jmt jla jre jwr jga jlo jmo jli jta jpt jen jbg jfa jwt jac jng jnl jnm jnv jwm : Int32) (mW mG mP mK mQ mR : Nat → Int32) (hp : pr_X7_holdsAgainst N E E0 r0 jth jrm jwy jhi jmf jmt jla jre jwr jga jlo jmo jli jta jpt jen jbg jfa jwt jac jng jnl jnm jnv jwm mW mG mP mK mQ mR) : wp_X7_holdsAgainst jth jrm jwy jhi jmf jmt jla jre jwr jga jlo jmo jli jta jpt jen jbg jfa jwt jac jng jnl jnm jnv jwm mW mG mP mK mQ mR (ps_X7_holdsAgainst N E E0 r0 jth jrm jwy jhi jmf jmt jla jre jwr jga jlo jmo jli jta jpt jen jbg jfa jwt jac jng jnl jnm jnv jwm mW mG mP mK mQ mR) := by
  unfold wp_X7_holdsAgainst
  obtain ⟨hN, hE, hW⟩ := hp
  have h16 := hN.1.2.1
  refine ⟨N, E, ⟨hN, hE⟩, fun re G P K h J132 hJ X hX => ?_⟩
  have h : GatR E N.root N.n re G P K := h
  refine up2 (X := fun k mo li => X k (re &&& (jwr ^^^ (-1))) (jwr &&& (re ^^^ (-1))) mo li) N.n (fun k mo li => LI E0 r0 E N.root N.n k mo li) (fun k mo li hk hI hh => hX _ _ _ _ _ (fun r1 h1 => ?_)) (fun mo li hI => hX _ _ _ _ _ (fun r1 h1 => ?_)) 0 0 0 (Nat.zero_le _) LI.z
  · have h1 : r1 = nI N.n := Eq.trans (show r1 = mW 0 from h1) hN.2.1
    rw [h1, leN (by omega) (by omega)]
    refine ⟨fun z => absurd z (by omega), fun _ r2 h2 => ⟨fun z => ⟨vp_in_nI (by omega) (by decide), fun J100 hJ100 => ?_⟩, fun z => hh _ _ (hI.no (fun q => hold_z h2 (h.1.and hW.1) (by omega) z ⟨q.2, q.1⟩))⟩⟩
    have hr := hold_p h2 (h.1.and hW.1) (by omega) z
    rw [clN (by omega), (hW.2.1 k (by omega)).1 hr.2, (h.2.2.1 k (by omega)).1 hr.1] at hJ100
    rw [clN (by omega)]
    have hm := KepR.mv hW.2.2 h.2.2.2 (x := k) (by omega)
    exact ⟨fun z2 => hJ100 _ (hh _ _ (hI.hit hr.2 hr.1 (by omega) (fun v => z2 (hm.2 v)))), fun z2 => hJ100 _ (hh _ _ (hI.same hr.2 hr.1 (hm.1 z2)))⟩
  · have h1 : r1 = nI N.n := Eq.trans (show r1 = mW 0 from h1) hN.2.1
    rw [h1]
    refine ⟨fun _ => hJ _ _ _ _ ⟨h, h.1.andNot hW.1, hW.1.andNot h.1, ?_, hI.2⟩, fun z => absurd (Int32.le_refl _) z⟩
    exact hI.1.congr (fun x _ => ⟨fun z => z.2, fun z => ⟨hE.rd hN.1 z.2.1, z⟩⟩)
def pr_X7_differs (N : NetM) (E E0 : Nat → Nat → Prop) (r0 : Nat) (jth jrm jwy jhi jmf jmt jla jre jwr jga jlo jmo jli jta jpt jen jbg jfa jwt jac jng jnl jnm jnv jwm : Int32) (mW mG mP mK mQ mR : Nat → Int32) : Prop := NetW N mW ∧ EGa N jmf jmt jla (-1) E ∧ WasIs E0 r0 N.n jwr mQ mR
def ps_X7_differs (N : NetM) (E E0 : Nat → Nat → Prop) (r0 : Nat) (jth jrm jwy jhi jmf jmt jla jre jwr jga jlo jmo jli jta jpt jen jbg jfa jwt jac jng jnl jnm jnv jwm : Int32) (mW mG mP mK mQ mR : Nat → Int32) (jmf' jla' jre' jng' jnl' jnm' jnv' : Int32) (mG' mP' mK' : Nat → Int32) : Prop := jmf' = -1 ∧ jla' = -1 ∧ IsSet jng' (fun x => Rd E N.root x ∧ ¬ Rd E0 r0 x) ∧ IsSet jnl' (fun x => Rd E0 r0 x ∧ ¬ Rd E N.root x) ∧ IsSet jnm' (Mv E0 r0 E N.root) ∧ jnv' = LiftV E0 r0 N.n E N.root
def wp_X7_differs_L56 (jth jrm jwy jhi jmt jwr jga jlo jmo jli jta jpt jen jbg jfa jwt jac jwm : Int32) (mW mQ mR : Nat → Int32) (jre_1 : Int32) (mP_1 mK_1 : Nat → Int32) (J142 : Int32 → Int32 → Int32 → Int32 → Prop) (ix1_46 inewGained_47 inewLost_48 inewMoved_49 inewLift_50 : Int32) : Prop :=
  ∀ X56 : Int32 → Int32 → Int32 → Int32 → Int32 → Prop, (∀ (x1_46 : Int32) (newGained_47 : Int32) (newLost_48 : Int32) (newMoved_49 : Int32) (newLift_50 : Int32), (∀ (r_52 : Int32), ps_X7_nodes jth jrm jwy jhi (-1) jmt (-1) jre_1 jwr jga jlo jmo jli jta jpt jen jbg jfa jwt jac newGained_47 newLost_48 newMoved_49 newLift_50 jwm mW r_52 → (((r_52 ≤ x1_46 → (J142 newGained_47 newLost_48 newMoved_49 newLift_50)) ∧
 (¬ (r_52 ≤ x1_46) → (∀ (r_54 : Int32), ps_X7_holds (jre_1 &&& jwr) x1_46 r_54 → (((¬ r_54 = 0 → (vp_in x1_46 16 ∧ (∀ J110 : Int32 → Prop, (∀ (t_58 : Int32), (X56 (x1_46 + 1) newGained_47 newLost_48 (newMoved_49 ||| t_58) (newLift_50 + ((mQ x1_46.toNatClampNeg) - (mP_1 x1_46.toNatClampNeg)))) → J110 t_58) →
((¬ (mK_1 x1_46.toNatClampNeg) = (mR x1_46.toNatClampNeg) → (J110 (1 <<< (x1_46 &&& 31)))) ∧
 ((mK_1 x1_46.toNatClampNeg) = (mR x1_46.toNatClampNeg) → (J110 0)))))) ∧
 (r_54 = 0 → (X56 (x1_46 + 1) newGained_47 newLost_48 newMoved_49 newLift_50))))))))) → X56 x1_46 newGained_47 newLost_48 newMoved_49 newLift_50) → X56 ix1_46 inewGained_47 inewLost_48 inewMoved_49 inewLift_50
def wp_X7_differs (jth jrm jwy jhi jmf jmt jla jre jwr jga jlo jmo jli jta jpt jen jbg jfa jwt jac jng jnl jnm jnv jwm : Int32) (mW mG mP mK mQ mR : Nat → Int32) (Q : Int32 → Int32 → Int32 → Int32 → Int32 → Int32 → Int32 → (Nat → Int32) → (Nat → Int32) → (Nat → Int32) → Prop) : Prop :=
  ∃ (N_1 : NetM) (E_1 : Nat → Nat → Prop), (pr_X7_laysGates N_1 E_1 jth jrm jwy jhi jmf jmt jla jre jwr jga jlo jmo jli jta jpt jen jbg jfa jwt jac jng jnl jnm jnv jwm mW mG mP mK ∧ (∀ (jre_1 : Int32) (mG_1 mP_1 mK_1 : Nat → Int32), ps_X7_laysGates N_1 E_1 jth jrm jwy jhi jmf jmt jla jre jwr jga jlo jmo jli jta jpt jen jbg jfa jwt jac jng jnl jnm jnv jwm mW mG mP mK jre_1 mG_1 mP_1 mK_1 → (∀ J142 : Int32 → Int32 → Int32 → Int32 → Prop, (∀ (newGained_41 : Int32) (newLost_42 : Int32) (newMoved_43 : Int32) (newLift_44 : Int32), (Q (-1) (-1) jre_1 newGained_41 newLost_42 newMoved_43 newLift_44 mG_1 mP_1 mK_1) → J142 newGained_41 newLost_42 newMoved_43 newLift_44) →
wp_X7_differs_L56 jth jrm jwy jhi jmt jwr jga jlo jmo jli jta jpt jen jbg jfa jwt jac jwm mW mQ mR jre_1 mP_1 mK_1 J142 0 (jre_1 &&& (jwr ^^^ (-1))) (jwr &&& (jre_1 ^^^ (-1))) 0 0)))
theorem pf_X7_differs (N : NetM) (E E0 : Nat → Nat → Prop) (r0 : Nat) (jth jrm jwy jhi jmf jmt jla jre jwr jga jlo jmo jli jta jpt jen jbg jfa jwt jac jng jnl jnm jnv jwm : Int32) (mW mG mP mK mQ mR : Nat → Int32) (hp : pr_X7_differs N E E0 r0 jth jrm jwy jhi jmf jmt jla jre jwr jga jlo jmo jli jta jpt jen jbg jfa jwt jac jng jnl jnm jnv jwm mW mG mP mK mQ mR) : wp_X7_differs jth jrm jwy jhi jmf jmt jla jre jwr jga jlo jmo jli jta jpt jen jbg jfa jwt jac jng jnl jnm jnv jwm mW mG mP mK mQ mR (ps_X7_differs N E E0 r0 jth jrm jwy jhi jmf jmt jla jre jwr jga jlo jmo jli jta jpt jen jbg jfa jwt jac jng jnl jnm jnv jwm mW mG mP mK mQ mR) := by
  unfold wp_X7_differs
  obtain ⟨hN, hE, hW⟩ := hp
  have h16 := hN.1.2.1
  refine ⟨N, E, ⟨hN, hE⟩, fun re G P K h J132 hJ X hX => ?_⟩
  have h : GatR E N.root N.n re G P K := h
  refine up2 (X := fun k mo li => X k (re &&& (jwr ^^^ (-1))) (jwr &&& (re ^^^ (-1))) mo li) N.n (fun k mo li => LI E0 r0 E N.root N.n k mo li) (fun k mo li hk hI hh => hX _ _ _ _ _ (fun r1 h1 => ?_)) (fun mo li hI => hX _ _ _ _ _ (fun r1 h1 => ?_)) 0 0 0 (Nat.zero_le _) LI.z
  · have h1 : r1 = nI N.n := Eq.trans (show r1 = mW 0 from h1) hN.2.1
    rw [h1, leN (by omega) (by omega)]
    refine ⟨fun z => absurd z (by omega), fun _ r2 h2 => ⟨fun z => ⟨vp_in_nI (by omega) (by decide), fun J100 hJ100 => ?_⟩, fun z => hh _ _ (hI.no (fun q => hold_z h2 (h.1.and hW.1) (by omega) z ⟨q.2, q.1⟩))⟩⟩
    have hr := hold_p h2 (h.1.and hW.1) (by omega) z
    rw [clN (by omega), (hW.2.1 k (by omega)).1 hr.2, (h.2.2.1 k (by omega)).1 hr.1] at hJ100
    rw [clN (by omega)]
    have hm := KepR.mv hW.2.2 h.2.2.2 (x := k) (by omega)
    exact ⟨fun z2 => hJ100 _ (hh _ _ (hI.hit hr.2 hr.1 (by omega) (fun v => z2 (hm.2 v)))), fun z2 => hJ100 _ (hh _ _ (hI.same hr.2 hr.1 (hm.1 z2)))⟩
  · have h1 : r1 = nI N.n := Eq.trans (show r1 = mW 0 from h1) hN.2.1
    rw [h1]
    refine ⟨fun _ => hJ _ _ _ _ ⟨rfl, rfl, h.1.andNot hW.1, hW.1.andNot h.1, ?_, hI.2⟩, fun z => absurd (Int32.le_refl _) z⟩
    exact hI.1.congr (fun x _ => ⟨fun z => z.2, fun z => ⟨hE.rd hN.1 z.2.1, z⟩⟩)
def pr_X7_tries (N : NetM) (V U : Nat) (jth jrm jwy jhi jmf jmt jla jre jwr jga jlo jmo jli jta jpt jen jbg jfa jwt jac jng jnl jnm jnv jwm : Int32) (mW mG mP mK mQ mR : Nat → Int32) (v u : Int32) : Prop := NetW N mW ∧ jmf = -1 ∧ jla = -1 ∧ v = nI V ∧ V < N.n ∧ u = nI U ∧ U < N.n
def ps_X7_tries (N : NetM) (V U : Nat) (jth jrm jwy jhi jmf jmt jla jre jwr jga jlo jmo jli jta jpt jen jbg jfa jwt jac jng jnl jnm jnv jwm : Int32) (mW mG mP mK mQ mR : Nat → Int32) (v u : Int32) (jmf' jmt' jla' jre' jwr' jng' jnl' jnm' jnv' : Int32) (mG' mP' mK' mQ' mR' : Nat → Int32) : Prop := jmf' = -1 ∧ jla' = -1 ∧ IsSet jng' (fun x => Rd (Ins N.E V U) N.root x ∧ ¬ Rd N.E N.root x) ∧ IsSet jnl' (fun x => Rd N.E N.root x ∧ ¬ Rd (Ins N.E V U) N.root x) ∧ IsSet jnm' (Mv N.E N.root (Ins N.E V U) N.root) ∧ jnv' = LiftV N.E N.root N.n (Ins N.E V U) N.root
def wp_X7_tries (jth jrm jwy jhi jmf jmt jla jre jwr jga jlo jmo jli jta jpt jen jbg jfa jwt jac jng jnl jnm jnv jwm : Int32) (mW mG mP mK mQ mR : Nat → Int32) (v u : Int32) (Q : Int32 → Int32 → Int32 → Int32 → Int32 → Int32 → Int32 → Int32 → Int32 → (Nat → Int32) → (Nat → Int32) → (Nat → Int32) → (Nat → Int32) → (Nat → Int32) → Prop) : Prop :=
  ∃ (N_1 : NetM) (E_1 : Nat → Nat → Prop), (pr_X7_notes N_1 E_1 jth jrm jwy jhi jmf jmt jla jre jwr jga jlo jmo jli jta jpt jen jbg jfa jwt jac jng jnl jnm jnv jwm mW mG mP mK mQ mR ∧ (∀ (jre_1 jwr_1 : Int32) (mG_1 mP_1 mK_1 mQ_1 mR_1 : Nat → Int32), ps_X7_notes N_1 E_1 jth jrm jwy jhi jmf jmt jla jre jwr jga jlo jmo jli jta jpt jen jbg jfa jwt jac jng jnl jnm jnv jwm mW mG mP mK mQ mR jre_1 jwr_1 mG_1 mP_1 mK_1 mQ_1 mR_1 → (∃ (N_2 : NetM) (E_2 E0_2 : Nat → Nat → Prop) (r0_2 : Nat), (pr_X7_differs N_2 E_2 E0_2 r0_2 jth jrm jwy jhi v u jla jre_1 jwr_1 jga jlo jmo jli jta jpt jen jbg jfa jwt jac jng jnl jnm jnv jwm mW mG_1 mP_1 mK_1 mQ_1 mR_1 ∧ (∀ (jmf_2 jla_2 jre_2 jng_2 jnl_2 jnm_2 jnv_2 : Int32) (mG_2 mP_2 mK_2 : Nat → Int32), ps_X7_differs N_2 E_2 E0_2 r0_2 jth jrm jwy jhi v u jla jre_1 jwr_1 jga jlo jmo jli jta jpt jen jbg jfa jwt jac jng jnl jnm jnv jwm mW mG_1 mP_1 mK_1 mQ_1 mR_1 jmf_2 jla_2 jre_2 jng_2 jnl_2 jnm_2 jnv_2 mG_2 mP_2 mK_2 → (Q jmf_2 u jla_2 jre_2 jwr_1 jng_2 jnl_2 jnm_2 jnv_2 mG_2 mP_2 mK_2 mQ_1 mR_1))))))
theorem pf_X7_tries (N : NetM) (V U : Nat) (jth jrm jwy jhi jmf jmt jla jre jwr jga jlo jmo jli jta jpt jen jbg jfa jwt jac jng jnl jnm jnv jwm : Int32) (mW mG mP mK mQ mR : Nat → Int32) (v u : Int32) (hp : pr_X7_tries N V U jth jrm jwy jhi jmf jmt jla jre jwr jga jlo jmo jli jta jpt jen jbg jfa jwt jac jng jnl jnm jnv jwm mW mG mP mK mQ mR v u) : wp_X7_tries jth jrm jwy jhi jmf jmt jla jre jwr jga jlo jmo jli jta jpt jen jbg jfa jwt jac jng jnl jnm jnv jwm mW mG mP mK mQ mR v u (ps_X7_tries N V U jth jrm jwy jhi jmf jmt jla jre jwr jga jlo jmo jli jta jpt jen jbg jfa jwt jac jng jnl jnm jnv jwm mW mG mP mK mQ mR v u) := by
  unfold wp_X7_tries
  obtain ⟨hN, rfl, rfl, rfl, hV, rfl, hU⟩ := hp
  exact ⟨N, N.E, ⟨hN, EGa.base hN.1 _⟩, fun re wr G P K Q1 R1 h => ⟨N, Ins N.E V U, N.E, N.root, ⟨hN, EGa.ins hN.1 hV hU, h.2⟩, fun _ _ _ _ _ _ _ _ _ _ h2 => h2⟩⟩
def pr_X7_triesWithout (N : NetM) (K : Nat) (jth jrm jwy jhi jmf jmt jla jre jwr jga jlo jmo jli jta jpt jen jbg jfa jwt jac jng jnl jnm jnv jwm : Int32) (mW mG mP mK mQ mR : Nat → Int32) (k : Int32) : Prop := NetW N mW ∧ jmf = -1 ∧ jla = -1 ∧ k = nI K ∧ K < N.m
def ps_X7_triesWithout (N : NetM) (K : Nat) (jth jrm jwy jhi jmf jmt jla jre jwr jga jlo jmo jli jta jpt jen jbg jfa jwt jac jng jnl jnm jnv jwm : Int32) (mW mG mP mK mQ mR : Nat → Int32) (k : Int32) (jmf' jla' jre' jwr' jng' jnl' jnm' jnv' : Int32) (mG' mP' mK' mQ' mR' : Nat → Int32) : Prop := jmf' = -1 ∧ jla' = -1 ∧ IsSet jng' (fun x => Rd (N.Eb K) N.root x ∧ ¬ Rd N.E N.root x) ∧ IsSet jnl' (fun x => Rd N.E N.root x ∧ ¬ Rd (N.Eb K) N.root x) ∧ IsSet jnm' (Mv N.E N.root (N.Eb K) N.root) ∧ jnv' = LiftV N.E N.root N.n (N.Eb K) N.root
def wp_X7_triesWithout (jth jrm jwy jhi jmf jmt jla jre jwr jga jlo jmo jli jta jpt jen jbg jfa jwt jac jng jnl jnm jnv jwm : Int32) (mW mG mP mK mQ mR : Nat → Int32) (k : Int32) (Q : Int32 → Int32 → Int32 → Int32 → Int32 → Int32 → Int32 → Int32 → (Nat → Int32) → (Nat → Int32) → (Nat → Int32) → (Nat → Int32) → (Nat → Int32) → Prop) : Prop :=
  ∃ (N_1 : NetM) (E_1 : Nat → Nat → Prop), (pr_X7_notes N_1 E_1 jth jrm jwy jhi jmf jmt jla jre jwr jga jlo jmo jli jta jpt jen jbg jfa jwt jac jng jnl jnm jnv jwm mW mG mP mK mQ mR ∧ (∀ (jre_1 jwr_1 : Int32) (mG_1 mP_1 mK_1 mQ_1 mR_1 : Nat → Int32), ps_X7_notes N_1 E_1 jth jrm jwy jhi jmf jmt jla jre jwr jga jlo jmo jli jta jpt jen jbg jfa jwt jac jng jnl jnm jnv jwm mW mG mP mK mQ mR jre_1 jwr_1 mG_1 mP_1 mK_1 mQ_1 mR_1 → (∃ (N_2 : NetM) (E_2 E0_2 : Nat → Nat → Prop) (r0_2 : Nat), (pr_X7_differs N_2 E_2 E0_2 r0_2 jth jrm jwy jhi jmf jmt k jre_1 jwr_1 jga jlo jmo jli jta jpt jen jbg jfa jwt jac jng jnl jnm jnv jwm mW mG_1 mP_1 mK_1 mQ_1 mR_1 ∧ (∀ (jmf_2 jla_2 jre_2 jng_2 jnl_2 jnm_2 jnv_2 : Int32) (mG_2 mP_2 mK_2 : Nat → Int32), ps_X7_differs N_2 E_2 E0_2 r0_2 jth jrm jwy jhi jmf jmt k jre_1 jwr_1 jga jlo jmo jli jta jpt jen jbg jfa jwt jac jng jnl jnm jnv jwm mW mG_1 mP_1 mK_1 mQ_1 mR_1 jmf_2 jla_2 jre_2 jng_2 jnl_2 jnm_2 jnv_2 mG_2 mP_2 mK_2 → (Q jmf_2 jla_2 jre_2 jwr_1 jng_2 jnl_2 jnm_2 jnv_2 mG_2 mP_2 mK_2 mQ_1 mR_1))))))
theorem pf_X7_triesWithout (N : NetM) (K : Nat) (jth jrm jwy jhi jmf jmt jla jre jwr jga jlo jmo jli jta jpt jen jbg jfa jwt jac jng jnl jnm jnv jwm : Int32) (mW mG mP mK mQ mR : Nat → Int32) (k : Int32) (hp : pr_X7_triesWithout N K jth jrm jwy jhi jmf jmt jla jre jwr jga jlo jmo jli jta jpt jen jbg jfa jwt jac jng jnl jnm jnv jwm mW mG mP mK mQ mR k) : wp_X7_triesWithout jth jrm jwy jhi jmf jmt jla jre jwr jga jlo jmo jli jta jpt jen jbg jfa jwt jac jng jnl jnm jnv jwm mW mG mP mK mQ mR k (ps_X7_triesWithout N K jth jrm jwy jhi jmf jmt jla jre jwr jga jlo jmo jli jta jpt jen jbg jfa jwt jac jng jnl jnm jnv jwm mW mG mP mK mQ mR k) := by
  unfold wp_X7_triesWithout
  obtain ⟨hN, rfl, rfl, rfl, hK⟩ := hp
  exact ⟨N, N.E, ⟨hN, EGa.base hN.1 _⟩, fun re wr G P K' Q1 R1 h => ⟨N, N.Eb K, N.E, N.root, ⟨hN, EGa.less hN.1 hK _, h.2⟩, fun _ _ _ _ _ _ _ _ _ _ h2 => h2⟩⟩
def pr_X7_remembers (N : NetM) (U : Nat) (W : Nat → NetM) (jth jrm jwy jhi jmf jmt jla jre jwr jga jlo jmo jli jta jpt jen jbg jfa jwt jac jng jnl jnm jnv jwm : Int32) (mW mE mG mP mK mQ mR : Nat → Int32) : Prop := NetW N mW ∧ jmf = -1 ∧ jla = -1 ∧ jrm = nI U ∧ U ≤ 8 ∧ (∀ k, k < U → NetW (W k) (fun j => mE (200 * k + j)))
def ps_X7_remembers (N : NetM) (U : Nat) (W : Nat → NetM) (jth jrm jwy jhi jmf jmt jla jre jwr jga jlo jmo jli jta jpt jen jbg jfa jwt jac jng jnl jnm jnv jwm : Int32) (mW mE mG mP mK mQ mR : Nat → Int32) (jrm' : Int32) (mE' : Nat → Int32) (jre' jwr' : Int32) (mG' mP' mK' mQ' mR' : Nat → Int32) : Prop := GatR N.E N.root N.n jre' mG' mP' mK' ∧ WasIs N.E N.root N.n jwr' mQ' mR' ∧ jrm' = nI (pushU U) ∧ ∀ k, k < pushU U → NetW (pushW W U N k) (fun j => mE' (200 * k + j))
def wp_X7_remembers_L11 (J46 : (Nat → Int32) → Prop) (ix1_41 : Int32) (ia_42 : Nat → Int32) : Prop :=
  ∀ X11 : Int32 → (Nat → Int32) → Prop, (∀ (x1_41 : Int32) (a_42 : Nat → Int32), (((8 ≤ x1_41 → (J46 a_42)) ∧
 (¬ (8 ≤ x1_41) → (∃ (A_45 B_45 : Nat), (pr_X7_copies_s A_45 B_45 1600 a_42 (200 * x1_41) (200 * (x1_41 - 1)) ∧ (∀ (g1_45 : Nat → Int32), ps_X7_copies_s A_45 B_45 1600 a_42 (200 * x1_41) (200 * (x1_41 - 1)) g1_45 → (X11 (x1_41 + 1) g1_45))))))) → X11 x1_41 a_42) → X11 ix1_41 ia_42
def wp_X7_remembers (jth jrm jwy jhi jmf jmt jla jre jwr jga jlo jmo jli jta jpt jen jbg jfa jwt jac jng jnl jnm jnv jwm : Int32) (mW mE mG mP mK mQ mR : Nat → Int32) (Q : Int32 → (Nat → Int32) → Int32 → Int32 → (Nat → Int32) → (Nat → Int32) → (Nat → Int32) → (Nat → Int32) → (Nat → Int32) → Prop) : Prop :=
  ∀ J56 : Int32 → (Nat → Int32) → Prop, (∀ (remembered_21 : Int32) (a_22 : Nat → Int32), (∃ (A_23 B_23 : Nat), (pr_X7_copies A_23 B_23 200 1600 mW a_22 0 (200 * remembered_21) ∧ (∀ (g2_23 : Nat → Int32), ps_X7_copies A_23 B_23 200 1600 mW a_22 0 (200 * remembered_21) g2_23 → (∃ (N_24 : NetM) (E_24 : Nat → Nat → Prop), (pr_X7_notes N_24 E_24 jth (remembered_21 + 1) jwy jhi jmf jmt jla jre jwr jga jlo jmo jli jta jpt jen jbg jfa jwt jac jng jnl jnm jnv jwm mW mG mP mK mQ mR ∧ (∀ (jre_24 jwr_24 : Int32) (mG_24 mP_24 mK_24 mQ_24 mR_24 : Nat → Int32), ps_X7_notes N_24 E_24 jth (remembered_21 + 1) jwy jhi jmf jmt jla jre jwr jga jlo jmo jli jta jpt jen jbg jfa jwt jac jng jnl jnm jnv jwm mW mG mP mK mQ mR jre_24 jwr_24 mG_24 mP_24 mK_24 mQ_24 mR_24 → (Q (remembered_21 + 1) g2_23 jre_24 jwr_24 mG_24 mP_24 mK_24 mQ_24 mR_24))))))) → J56 remembered_21 a_22) →
((¬ jrm = 8 → (J56 jrm mE)) ∧
 (jrm = 8 → (∀ J46 : (Nat → Int32) → Prop, (∀ (a_39 : Nat → Int32), (J56 (jrm - 1) a_39) → J46 a_39) →
wp_X7_remembers_L11 J46 1 mE)))
theorem pf_X7_remembers (N : NetM) (U : Nat) (W : Nat → NetM) (jth jrm jwy jhi jmf jmt jla jre jwr jga jlo jmo jli jta jpt jen jbg jfa jwt jac jng jnl jnm jnv jwm : Int32) (mW mE mG mP mK mQ mR : Nat → Int32) (hp : pr_X7_remembers N U W jth jrm jwy jhi jmf jmt jla jre jwr jga jlo jmo jli jta jpt jen jbg jfa jwt jac jng jnl jnm jnv jwm mW mE mG mP mK mQ mR) : wp_X7_remembers jth jrm jwy jhi jmf jmt jla jre jwr jga jlo jmo jli jta jpt jen jbg jfa jwt jac jng jnl jnm jnv jwm mW mE mG mP mK mQ mR (ps_X7_remembers N U W jth jrm jwy jhi jmf jmt jla jre jwr jga jlo jmo jli jta jpt jen jbg jfa jwt jac jng jnl jnm jnv jwm mW mE mG mP mK mQ mR) := by
  unfold wp_X7_remembers
  obtain ⟨hN, rfl, rfl, rfl, hU, hW⟩ := hp
  intro J56 hJ
  have fin : ∀ (V : Nat) (a : Nat → Int32), V < 8 → pushU U = V + 1 → (∀ k, k < V → NetW (pushW W U N k) (fun j => a (200 * k + j))) → pushW W U N V = N → J56 (nI V) a := by
    intro V a hV hp ha hb
    refine hJ _ _ ⟨0, 200 * V, ⟨rfl, pk_mul 200 V, by omega, by omega, by omega, by omega⟩, fun g hg => ⟨N, N.E, ⟨hN, EGa.base hN.1 _⟩, fun re wr G P K Q1 R1 h => ⟨h.1, h.2, by rw [hp, nI_1], fun k hk => ?_⟩⟩⟩
    rw [hp] at hk
    by_cases e : k = V
    · subst e
      rw [hb]
      exact hN.copy (fun j hj => by
        show g (200 * k + j) = mW j
        rw [(hg (200 * k + j)).1 (by omega) (by omega)]
        exact congrArg mW (by omega))
    · exact (ha k (by omega)).copy (fun j hj => (hg (200 * k + j)).2 (Or.inl (by omega)))
  refine ⟨fun q => ?_, fun q => ?_⟩
  · have q : ¬ U = 8 := fun e => q (by rw [e]; rfl)
    exact fin U mE (by omega) (if_pos (by omega)) (fun k hk => by
      have : pushW W U N k = W k := by unfold pushW; rw [if_pos (by omega)]; exact if_neg (by omega)
      rw [this]; exact hW k hk) (by unfold pushW; rw [if_pos (by omega)]; exact if_pos rfl)
  · have q : U = 8 := (eqN (b := 8) (by omega) (by omega)).mp q
    subst q
    intro J46 hJ46 X11 hX11
    refine up1 8 (fun k (a : Nat → Int32) => 1 ≤ k ∧ (∀ i, i + 1 < k → ∀ j, j < 200 → a (200 * i + j) = mE (200 * (i + 1) + j)) ∧ ∀ j, 200 * (k - 1) ≤ j → a j = mE j) (fun k a hk hI hh => hX11 _ _ ⟨fun z => absurd z (by rw [show (8 : Int32) = nI 8 from rfl, leN (by omega) (by omega)]; omega), fun _ => ⟨200 * k, 200 * (k - 1), ⟨pk_mul 200 k, ?_, by omega, by omega, by omega⟩, fun g hg => hh _ ⟨by omega, fun i hi j hj => ?_, fun j hj => ?_⟩⟩⟩) (fun a hI => hX11 _ _ ⟨fun _ => hJ46 a ?_, fun z => absurd (Int32.le_refl _) z⟩) 1 mE (by omega) ⟨by omega, fun i hi => absurd hi (by omega), fun _ _ => rfl⟩
    · rw [n1, pk_sub (by omega)]; exact pk_mul 200 (k - 1)
    · by_cases e : i + 1 = k
      · subst e
        rw [(hg (200 * i + j)).1 (by omega) (by omega), hI.2.2 _ (by omega)]
        exact congrArg mE (by omega)
      · rw [(hg (200 * i + j)).2 (Or.inl (by omega))]; exact hI.2.1 i (by omega) j hj
    · rw [(hg j).2 (Or.inr (by omega))]; exact hI.2.2 j (by omega)
    · have e : nI 8 - 1 = nI 7 := by decide
      rw [e]
      refine fin 7 a (by omega) rfl (fun k hk => ?_) rfl
      have : pushW W 8 N k = W (k + 1) := by unfold pushW; rw [if_neg (by omega)]; exact if_neg (by omega)
      rw [this]
      exact (hW (k + 1) (by omega)).copy (fun j hj => hI.2.1 k (by omega) j hj)
def pr_X7_isRefused (N : NetM) (U : Nat) (W : Nat → NetM) (jth jrm jwy jhi jmf jmt jla jre jwr jga jlo jmo jli jta jpt jen jbg jfa jwt jac jng jnl jnm jnv jwm : Int32) (mW mE mG mP mK mQ mR : Nat → Int32) (z k : Int32) : Prop := NetW N mW ∧ jmf = -1 ∧ jla = -1 ∧ jrm = nI U ∧ U ≤ 8 ∧ (∀ k, k < U → NetW (W k) (fun j => mE (200 * k + j)))
def ps_X7_isRefused (N : NetM) (U : Nat) (W : Nat → NetM) (jth jrm jwy jhi jmf jmt jla jre jwr jga jlo jmo jli jta jpt jen jbg jfa jwt jac jng jnl jnm jnv jwm : Int32) (mW mE mG mP mK mQ mR : Nat → Int32) (z k : Int32) (r : Int32) (jth' jwy' jrm' : Int32) (mE' : Nat → Int32) (jre' jwr' : Int32) (mG' mP' mK' mQ' mR' : Nat → Int32) : Prop := jwy' = z ∧ ((r = 1 ∧ 0 < z ∧ jth' = k ∧ jrm' = jrm ∧ mE' = mE ∧ jre' = jre ∧ jwr' = jwr ∧ mG' = mG ∧ mP' = mP ∧ mK' = mK ∧ mQ' = mQ ∧ mR' = mR) ∨ (r = 0 ∧ ¬ 0 < z ∧ jth' = jth ∧ GatR N.E N.root N.n jre' mG' mP' mK' ∧ WasIs N.E N.root N.n jwr' mQ' mR' ∧ jrm' = nI (pushU U) ∧ ∀ k, k < pushU U → NetW (pushW W U N k) (fun j => mE' (200 * k + j))))
def wp_X7_isRefused (jth jrm jwy jhi jmf jmt jla jre jwr jga jlo jmo jli jta jpt jen jbg jfa jwt jac jng jnl jnm jnv jwm : Int32) (mW mE mG mP mK mQ mR : Nat → Int32) (z k : Int32) (Q : Int32 → Int32 → Int32 → Int32 → (Nat → Int32) → Int32 → Int32 → (Nat → Int32) → (Nat → Int32) → (Nat → Int32) → (Nat → Int32) → (Nat → Int32) → Prop) : Prop :=
  ∀ J15 : Int32 → Prop, (∀ (t_2 : Int32), (pr_X7_throwsIf jth jrm z jhi jmf jmt jla jre jwr jga jlo jmo jli jta jpt jen jbg jfa jwt jac jng jnl jnm jnv jwm t_2 k ∧ (∀ (r_3 jth_3 : Int32), ps_X7_throwsIf jth jrm z jhi jmf jmt jla jre jwr jga jlo jmo jli jta jpt jen jbg jfa jwt jac jng jnl jnm jnv jwm t_2 k r_3 jth_3 → (((r_3 = 0 → (∃ (N_5 : NetM) (U_5 : Nat) (W_5 : Nat → NetM), (pr_X7_remembers N_5 U_5 W_5 jth_3 jrm z jhi jmf jmt jla jre jwr jga jlo jmo jli jta jpt jen jbg jfa jwt jac jng jnl jnm jnv jwm mW mE mG mP mK mQ mR ∧ (∀ (jrm_5 : Int32) (mE_5 : Nat → Int32) (jre_5 jwr_5 : Int32) (mG_5 mP_5 mK_5 mQ_5 mR_5 : Nat → Int32), ps_X7_remembers N_5 U_5 W_5 jth_3 jrm z jhi jmf jmt jla jre jwr jga jlo jmo jli jta jpt jen jbg jfa jwt jac jng jnl jnm jnv jwm mW mE mG mP mK mQ mR jrm_5 mE_5 jre_5 jwr_5 mG_5 mP_5 mK_5 mQ_5 mR_5 → (Q 0 jth_3 z jrm_5 mE_5 jre_5 jwr_5 mG_5 mP_5 mK_5 mQ_5 mR_5))))) ∧
 (¬ (r_3 = 0) → (Q 1 jth_3 z jrm mE jre jwr mG mP mK mQ mR)))))) → J15 t_2) →
((z ≤ 0 → (J15 0)) ∧
 (¬ (z ≤ 0) → (J15 1)))
theorem pf_X7_isRefused (N : NetM) (U : Nat) (W : Nat → NetM) (jth jrm jwy jhi jmf jmt jla jre jwr jga jlo jmo jli jta jpt jen jbg jfa jwt jac jng jnl jnm jnv jwm : Int32) (mW mE mG mP mK mQ mR : Nat → Int32) (z k : Int32) (hp : pr_X7_isRefused N U W jth jrm jwy jhi jmf jmt jla jre jwr jga jlo jmo jli jta jpt jen jbg jfa jwt jac jng jnl jnm jnv jwm mW mE mG mP mK mQ mR z k) : wp_X7_isRefused jth jrm jwy jhi jmf jmt jla jre jwr jga jlo jmo jli jta jpt jen jbg jfa jwt jac jng jnl jnm jnv jwm mW mE mG mP mK mQ mR z k (ps_X7_isRefused N U W jth jrm jwy jhi jmf jmt jla jre jwr jga jlo jmo jli jta jpt jen jbg jfa jwt jac jng jnl jnm jnv jwm mW mE mG mP mK mQ mR z k) := by
  unfold wp_X7_isRefused
  intro J15 hJ
  have main : ∀ t : Int32, ((t = 0 ∧ ¬ 0 < z) ∨ (t = 1 ∧ 0 < z)) → J15 t := by
    intro t ht
    refine hJ t ⟨ht.elim (fun q => Or.inl q.1) (fun q => Or.inr q.1), fun r3 th h3 => ⟨fun z2 => ⟨N, U, W, hp, fun rm e re wr G P K Q1 R1 h => ?_⟩, fun z2 => ?_⟩⟩
    · obtain ⟨h4, h5⟩ := h3
      rcases ht with ⟨t0, t1⟩ | ⟨t0, t1⟩
      · rcases h5 with ⟨-, h5⟩ | ⟨h5, -⟩
        · exact ⟨rfl, Or.inr ⟨rfl, t1, h5, h⟩⟩
        · exact absurd (h5.symm.trans t0) (by decide)
      · exact absurd (t0.symm.trans (h4.symm.trans z2)) (by decide)
    · obtain ⟨h4, h5⟩ := h3
      rcases ht with ⟨t0, t1⟩ | ⟨t0, t1⟩
      · exact absurd (h4.trans t0) z2
      · rcases h5 with ⟨h5, -⟩ | ⟨-, h5⟩
        · exact absurd (h5.symm.trans t0) (by decide)
        · exact ⟨rfl, Or.inl ⟨rfl, t1, h5, rfl, rfl, rfl, rfl, rfl, rfl, rfl, rfl, rfl⟩⟩
  exact ⟨fun q => main 0 (Or.inl ⟨rfl, Int32.not_lt.2 q⟩), fun q => main 1 (Or.inr ⟨rfl, Int32.not_le.1 q⟩)⟩
def pr_X7_whyNoTell (N : NetM) (z0 : Int32) (jth jrm jwy jhi jmf jmt jla jre jwr jga jlo jmo jli jta jpt jen jbg jfa jwt jac jng jnl jnm jnv jwm : Int32) (mW : Nat → Int32) (v p : Int32) : Prop := NetW N mW ∧ ((p = 1 ∧ z0 = 0) ∨ (p = 2 ∧ z0 = 1))
def ps_X7_whyNoTell (N : NetM) (z0 : Int32) (jth jrm jwy jhi jmf jmt jla jre jwr jga jlo jmo jli jta jpt jen jbg jfa jwt jac jng jnl jnm jnv jwm : Int32) (mW : Nat → Int32) (v p : Int32) (r : Int32)  : Prop := r = nI (tellF N v (zB z0)).1
def wp_X7_whyNoTell (jth jrm jwy jhi jmf jmt jla jre jwr jga jlo jmo jli jta jpt jen jbg jfa jwt jac jng jnl jnm jnv jwm : Int32) (mW : Nat → Int32) (v p : Int32) (Q : Int32 → Prop) : Prop :=
  ∃ (N_1 : NetM), (pr_X7_isNode N_1 jth jrm jwy jhi jmf jmt jla jre jwr jga jlo jmo jli jta jpt jen jbg jfa jwt jac jng jnl jnm jnv jwm mW v ∧ (∀ (r_1 : Int32), ps_X7_isNode N_1 jth jrm jwy jhi jmf jmt jla jre jwr jga jlo jmo jli jta jpt jen jbg jfa jwt jac jng jnl jnm jnv jwm mW v r_1 → (((¬ r_1 = 0 → (vp_in p 200 ∧ (((¬ (mW p.toNatClampNeg) = v → (Q 0)) ∧
 ((mW p.toNatClampNeg) = v → (Q 4)))))) ∧
 (r_1 = 0 → (Q 1))))))
theorem pf_X7_whyNoTell (N : NetM) (z0 : Int32) (jth jrm jwy jhi jmf jmt jla jre jwr jga jlo jmo jli jta jpt jen jbg jfa jwt jac jng jnl jnm jnv jwm : Int32) (mW : Nat → Int32) (v p : Int32) (hp : pr_X7_whyNoTell N z0 jth jrm jwy jhi jmf jmt jla jre jwr jga jlo jmo jli jta jpt jen jbg jfa jwt jac jng jnl jnm jnv jwm mW v p) : wp_X7_whyNoTell jth jrm jwy jhi jmf jmt jla jre jwr jga jlo jmo jli jta jpt jen jbg jfa jwt jac jng jnl jnm jnv jwm mW v p (ps_X7_whyNoTell N z0 jth jrm jwy jhi jmf jmt jla jre jwr jga jlo jmo jli jta jpt jen jbg jfa jwt jac jng jnl jnm jnv jwm mW v p) := by
  unfold wp_X7_whyNoTell
  obtain ⟨hN, hp⟩ := hp
  have h16 := hN.1.2.1
  obtain ⟨p1, p2, -⟩ := placeW hN hp
  refine ⟨N, hN, fun r1 h1 => ⟨fun z => ?_, fun z => ?_⟩⟩
  · obtain ⟨V, hV, rfl⟩ := (of_in (by omega)).1 (of_i1 h1 z)
    refine ⟨p1, fun q => ?_, fun q => ?_⟩
    · show _ = nI (tellF N (nI V) (zB z0)).1
      rw [tellF_v hV h16, if_neg (fun e => q (by rw [p2, e]))]; rfl
    · show _ = nI (tellF N (nI V) (zB z0)).1
      rw [p2] at q
      have e : (if zB z0 = true then N.exit else N.root) = V := (eqN (by have := hN.1.2.2.1; have := hN.1.2.2.2.1; split <;> omega) (by omega)).mp q
      rw [tellF_v hV h16, if_pos e]; rfl
  · show _ = nI (tellF N v (zB z0)).1
    rw [tellF_no (i1_eq0.1 (h1.symm.trans z))]; rfl
def pr_X7_whyNoLay (N : NetM) (jth jrm jwy jhi jmf jmt jla jre jwr jga jlo jmo jli jta jpt jen jbg jfa jwt jac jng jnl jnm jnv jwm : Int32) (mW : Nat → Int32) (a b : Int32) : Prop := NetW N mW
def ps_X7_whyNoLay (N : NetM) (jth jrm jwy jhi jmf jmt jla jre jwr jga jlo jmo jli jta jpt jen jbg jfa jwt jac jng jnl jnm jnv jwm : Int32) (mW : Nat → Int32) (a b : Int32) (r : Int32)  : Prop := r = nI (layF N a b).1
def wp_X7_whyNoLay (jth jrm jwy jhi jmf jmt jla jre jwr jga jlo jmo jli jta jpt jen jbg jfa jwt jac jng jnl jnm jnv jwm : Int32) (mW : Nat → Int32) (a b : Int32) (Q : Int32 → Prop) : Prop :=
  ∃ (N_1 : NetM), (pr_X7_isNode N_1 jth jrm jwy jhi jmf jmt jla jre jwr jga jlo jmo jli jta jpt jen jbg jfa jwt jac jng jnl jnm jnv jwm mW a ∧ (∀ (r_1 : Int32), ps_X7_isNode N_1 jth jrm jwy jhi jmf jmt jla jre jwr jga jlo jmo jli jta jpt jen jbg jfa jwt jac jng jnl jnm jnv jwm mW a r_1 → (((r_1 = 0 → (Q 1)) ∧
 (¬ (r_1 = 0) → (∃ (N_3 : NetM), (pr_X7_isNode N_3 jth jrm jwy jhi jmf jmt jla jre jwr jga jlo jmo jli jta jpt jen jbg jfa jwt jac jng jnl jnm jnv jwm mW b ∧ (∀ (r_3 : Int32), ps_X7_isNode N_3 jth jrm jwy jhi jmf jmt jla jre jwr jga jlo jmo jli jta jpt jen jbg jfa jwt jac jng jnl jnm jnv jwm mW b r_3 → (((¬ r_3 = 0 → (∀ (r_5 : Int32), ps_X7_arcs jth jrm jwy jhi jmf jmt jla jre jwr jga jlo jmo jli jta jpt jen jbg jfa jwt jac jng jnl jnm jnv jwm mW r_5 → (((¬ r_5 = 60 → (Q 0)) ∧
 (r_5 = 60 → (Q 2)))))) ∧
 (r_3 = 0 → (Q 1))))))))))))
theorem pf_X7_whyNoLay (N : NetM) (jth jrm jwy jhi jmf jmt jla jre jwr jga jlo jmo jli jta jpt jen jbg jfa jwt jac jng jnl jnm jnv jwm : Int32) (mW : Nat → Int32) (a b : Int32) (hp : pr_X7_whyNoLay N jth jrm jwy jhi jmf jmt jla jre jwr jga jlo jmo jli jta jpt jen jbg jfa jwt jac jng jnl jnm jnv jwm mW a b) : wp_X7_whyNoLay jth jrm jwy jhi jmf jmt jla jre jwr jga jlo jmo jli jta jpt jen jbg jfa jwt jac jng jnl jnm jnv jwm mW a b (ps_X7_whyNoLay N jth jrm jwy jhi jmf jmt jla jre jwr jga jlo jmo jli jta jpt jen jbg jfa jwt jac jng jnl jnm jnv jwm mW a b) := by
  unfold wp_X7_whyNoLay
  have h16 := hp.1.2.1
  have h60 := hp.1.2.2.2.2.1
  refine ⟨N, hp, fun r1 h1 => ⟨fun z => ?_, fun z => ⟨N, hp, fun r2 h2 => ⟨fun z2 r3 h3 => ?_, fun z2 => ?_⟩⟩⟩⟩
  · show _ = nI (layF N a b).1
    rw [layF_no (fun e => i1_eq0.1 (h1.symm.trans z) e.1)]; rfl
  · obtain ⟨A, hA, rfl⟩ := (of_in (by omega)).1 (of_i1 h1 z)
    obtain ⟨B, hB, rfl⟩ := (of_in (by omega)).1 (of_i1 h2 z2)
    have h3 : r3 = nI N.m := Eq.trans (show r3 = mW 3 from h3) hp.2.2.2.2.1
    rw [h3]
    refine ⟨fun q => ?_, fun q => ?_⟩
    · show _ = nI (layF N (nI A) (nI B)).1
      rw [layF_v hA hB h16, if_neg (fun e => q (by rw [e]; rfl))]; rfl
    · show _ = nI (layF N (nI A) (nI B)).1
      rw [layF_v hA hB h16, if_pos ((eqN (b := 60) (by omega) (by omega)).mp q)]; rfl
  · show _ = nI (layF N a b).1
    rw [layF_no (fun e => i1_eq0.1 (h2.symm.trans z2) e.2)]; rfl
def pr_X7_whyNoTurn (N : NetM) (jth jrm jwy jhi jmf jmt jla jre jwr jga jlo jmo jli jta jpt jen jbg jfa jwt jac jng jnl jnm jnv jwm : Int32) (mW : Nat → Int32) (k z : Int32) : Prop := NetW N mW ∧ (z = 0 ∨ z = 1)
def ps_X7_whyNoTurn (N : NetM) (jth jrm jwy jhi jmf jmt jla jre jwr jga jlo jmo jli jta jpt jen jbg jfa jwt jac jng jnl jnm jnv jwm : Int32) (mW : Nat → Int32) (k z : Int32) (r : Int32)  : Prop := r = nI (turnF N k (zB z)).1
def wp_X7_whyNoTurn (jth jrm jwy jhi jmf jmt jla jre jwr jga jlo jmo jli jta jpt jen jbg jfa jwt jac jng jnl jnm jnv jwm : Int32) (mW : Nat → Int32) (k z : Int32) (Q : Int32 → Prop) : Prop :=
  ∃ (N_1 : NetM), (pr_X7_isArc N_1 jth jrm jwy jhi jmf jmt jla jre jwr jga jlo jmo jli jta jpt jen jbg jfa jwt jac jng jnl jnm jnv jwm mW k ∧ (∀ (r_1 : Int32), ps_X7_isArc N_1 jth jrm jwy jhi jmf jmt jla jre jwr jga jlo jmo jli jta jpt jen jbg jfa jwt jac jng jnl jnm jnv jwm mW k r_1 → (((¬ r_1 = 0 → (vp_in (140 + k) 200 ∧ (((¬ (mW (140 + k).toNatClampNeg) = z → (Q 0)) ∧
 ((mW (140 + k).toNatClampNeg) = z → (Q 4)))))) ∧
 (r_1 = 0 → (Q 3))))))
theorem pf_X7_whyNoTurn (N : NetM) (jth jrm jwy jhi jmf jmt jla jre jwr jga jlo jmo jli jta jpt jen jbg jfa jwt jac jng jnl jnm jnv jwm : Int32) (mW : Nat → Int32) (k z : Int32) (hp : pr_X7_whyNoTurn N jth jrm jwy jhi jmf jmt jla jre jwr jga jlo jmo jli jta jpt jen jbg jfa jwt jac jng jnl jnm jnv jwm mW k z) : wp_X7_whyNoTurn jth jrm jwy jhi jmf jmt jla jre jwr jga jlo jmo jli jta jpt jen jbg jfa jwt jac jng jnl jnm jnv jwm mW k z (ps_X7_whyNoTurn N jth jrm jwy jhi jmf jmt jla jre jwr jga jlo jmo jli jta jpt jen jbg jfa jwt jac jng jnl jnm jnv jwm mW k z) := by
  unfold wp_X7_whyNoTurn
  obtain ⟨hN, hz⟩ := hp
  have h60 := hN.1.2.2.2.2.1
  refine ⟨N, hN, fun r1 h1 => ⟨fun y => ?_, fun y => ?_⟩⟩
  · obtain ⟨K, hK, rfl⟩ := (of_in (by omega)).1 (of_i1 h1 y)
    rw [show (140 : Int32) + nI K = nI (140 + K) from nI_add 140 K, clN (by omega), (hN.2.2.2.2.2.2 K hK).2.2, zB_if hz]
    refine ⟨vp_in_nI (by omega) (by decide), fun q => ?_, fun q => ?_⟩
    · show _ = nI (turnF N (nI K) (zB z)).1
      rw [turnF_v hK h60, if_neg q]; rfl
    · show _ = nI (turnF N (nI K) (zB z)).1
      rw [turnF_v hK h60, if_pos q]; rfl
  · show _ = nI (turnF N k (zB z)).1
    rw [turnF_no (i1_eq0.1 (h1.symm.trans y))]; rfl
def pr_X7_whyNoToll (N : NetM) (jth jrm jwy jhi jmf jmt jla jre jwr jga jlo jmo jli jta jpt jen jbg jfa jwt jac jng jnl jnm jnv jwm : Int32) (mW : Nat → Int32) (v z : Int32) : Prop := NetW N mW ∧ (0 ≤ z ∧ z ≤ 99)
def ps_X7_whyNoToll (N : NetM) (jth jrm jwy jhi jmf jmt jla jre jwr jga jlo jmo jli jta jpt jen jbg jfa jwt jac jng jnl jnm jnv jwm : Int32) (mW : Nat → Int32) (v z : Int32) (r : Int32)  : Prop := r = nI (tollF N v z).1
def wp_X7_whyNoToll (jth jrm jwy jhi jmf jmt jla jre jwr jga jlo jmo jli jta jpt jen jbg jfa jwt jac jng jnl jnm jnv jwm : Int32) (mW : Nat → Int32) (v z : Int32) (Q : Int32 → Prop) : Prop :=
  ∃ (N_1 : NetM), (pr_X7_isNode N_1 jth jrm jwy jhi jmf jmt jla jre jwr jga jlo jmo jli jta jpt jen jbg jfa jwt jac jng jnl jnm jnv jwm mW v ∧ (∀ (r_1 : Int32), ps_X7_isNode N_1 jth jrm jwy jhi jmf jmt jla jre jwr jga jlo jmo jli jta jpt jen jbg jfa jwt jac jng jnl jnm jnv jwm mW v r_1 → (((¬ r_1 = 0 → (vp_in (4 + v) 200 ∧ (((¬ (mW (4 + v).toNatClampNeg) = z → (Q 0)) ∧
 ((mW (4 + v).toNatClampNeg) = z → (Q 4)))))) ∧
 (r_1 = 0 → (Q 1))))))
theorem pf_X7_whyNoToll (N : NetM) (jth jrm jwy jhi jmf jmt jla jre jwr jga jlo jmo jli jta jpt jen jbg jfa jwt jac jng jnl jnm jnv jwm : Int32) (mW : Nat → Int32) (v z : Int32) (hp : pr_X7_whyNoToll N jth jrm jwy jhi jmf jmt jla jre jwr jga jlo jmo jli jta jpt jen jbg jfa jwt jac jng jnl jnm jnv jwm mW v z) : wp_X7_whyNoToll jth jrm jwy jhi jmf jmt jla jre jwr jga jlo jmo jli jta jpt jen jbg jfa jwt jac jng jnl jnm jnv jwm mW v z (ps_X7_whyNoToll N jth jrm jwy jhi jmf jmt jla jre jwr jga jlo jmo jli jta jpt jen jbg jfa jwt jac jng jnl jnm jnv jwm mW v z) := by
  unfold wp_X7_whyNoToll
  obtain ⟨hN, hz⟩ := hp
  have h16 := hN.1.2.1
  obtain ⟨T, hT, rfl⟩ : ∃ T, T ≤ 99 ∧ z = nI T := of_le (k := 99) (by decide) hz
  refine ⟨N, hN, fun r1 h1 => ⟨fun y => ?_, fun y => ?_⟩⟩
  · obtain ⟨V, hV, rfl⟩ := (of_in (by omega)).1 (of_i1 h1 y)
    have hl := hN.1.2.2.2.2.2.2 V (by omega)
    rw [show (4 : Int32) + nI V = nI (4 + V) from nI_add 4 V, clN (by omega), hN.2.2.2.2.2.1 V (by omega), eqN (by omega) (by omega)]
    refine ⟨vp_in_nI (by omega) (by decide), fun q => ?_, fun q => ?_⟩
    · show _ = nI (tollF N (nI V) (nI T)).1
      rw [tollF_v hV h16 hT, if_neg q]; rfl
    · show _ = nI (tollF N (nI V) (nI T)).1
      rw [tollF_v hV h16 hT, if_pos q]; rfl
  · show _ = nI (tollF N v (nI T)).1
    rw [tollF_no (i1_eq0.1 (h1.symm.trans y))]; rfl
def pr_X7_lays (N : NetM) (A B : Nat) (jth jrm jwy jhi jmf jmt jla jre jwr jga jlo jmo jli jta jpt jen jbg jfa jwt jac jng jnl jnm jnv jwm : Int32) (mW : Nat → Int32) (a b : Int32) : Prop := NetW N mW ∧ a = nI A ∧ b = nI B ∧ A < N.n ∧ B < N.n ∧ N.m < 60
def ps_X7_lays (N : NetM) (A B : Nat) (jth jrm jwy jhi jmf jmt jla jre jwr jga jlo jmo jli jta jpt jen jbg jfa jwt jac jng jnl jnm jnv jwm : Int32) (mW : Nat → Int32) (a b : Int32) (r : Int32) (mW' : Nat → Int32) : Prop := r = nI N.m ∧ NetW (N.add A B) mW'
def wp_X7_lays (jth jrm jwy jhi jmf jmt jla jre jwr jga jlo jmo jli jta jpt jen jbg jfa jwt jac jng jnl jnm jnv jwm : Int32) (mW : Nat → Int32) (a b : Int32) (Q : Int32 → (Nat → Int32) → Prop) : Prop :=
  ∀ (r_1 : Int32), ps_X7_arcs jth jrm jwy jhi jmf jmt jla jre jwr jga jlo jmo jli jta jpt jen jbg jfa jwt jac jng jnl jnm jnv jwm mW r_1 → (vp_in (20 + r_1) 200 ∧ (∀ u_3 : Nat → Int32, u_3 = upd mW (20 + r_1).toNatClampNeg a → (vp_in (80 + r_1) 200 ∧ (∀ u_5 : Nat → Int32, u_5 = upd u_3 (80 + r_1).toNatClampNeg b → (vp_in (140 + r_1) 200 ∧ (∀ u_7 : Nat → Int32, u_7 = upd u_5 (140 + r_1).toNatClampNeg 1 → (∀ u_8 : Nat → Int32, u_8 = upd u_7 (3 : Int32).toNatClampNeg ((u_7 (3 : Int32).toNatClampNeg) + 1) → (Q r_1 u_8))))))))
theorem pf_X7_lays (N : NetM) (A B : Nat) (jth jrm jwy jhi jmf jmt jla jre jwr jga jlo jmo jli jta jpt jen jbg jfa jwt jac jng jnl jnm jnv jwm : Int32) (mW : Nat → Int32) (a b : Int32) (hp : pr_X7_lays N A B jth jrm jwy jhi jmf jmt jla jre jwr jga jlo jmo jli jta jpt jen jbg jfa jwt jac jng jnl jnm jnv jwm mW a b) : wp_X7_lays jth jrm jwy jhi jmf jmt jla jre jwr jga jlo jmo jli jta jpt jen jbg jfa jwt jac jng jnl jnm jnv jwm mW a b (ps_X7_lays N A B jth jrm jwy jhi jmf jmt jla jre jwr jga jlo jmo jli jta jpt jen jbg jfa jwt jac jng jnl jnm jnv jwm mW a b) := by
  unfold wp_X7_lays
  obtain ⟨hN, rfl, rfl, hA, hB, hm⟩ := hp
  refine fun r1 h1 => ?_
  have h1 : r1 = nI N.m := Eq.trans (show r1 = mW 3 from h1) hN.2.2.2.2.1
  rw [h1, show (20 : Int32) + nI N.m = nI (20 + N.m) from nI_add 20 N.m, show (80 : Int32) + nI N.m = nI (80 + N.m) from nI_add 80 N.m, show (140 : Int32) + nI N.m = nI (140 + N.m) from nI_add 140 N.m, clN (by omega), clN (by omega), clN (by omega)]
  refine ⟨vp_in_nI (by omega) (by decide), fun u hu => ⟨vp_in_nI (by omega) (by decide), fun u2 hu2 => ⟨vp_in_nI (by omega) (by decide), fun u3 hu3 u4 hu4 => ⟨rfl, ?_⟩⟩⟩⟩
  have e3 : (3 : Int32).toNatClampNeg = 3 := by decide
  have : u3 3 = nI N.m := by rw [hu3, hu2, hu, upd_n (by omega), upd_n (by omega), upd_n (by omega)]; exact hN.2.2.2.2.1
  rw [hu4, e3, this, nI_1, hu3, hu2, hu]
  exact hN.add hA hB hm
def pr_X7_tell (N : NetM) (U : Nat) (W : Nat → NetM) (jth jrm jwy jhi jmf jmt jla jre jwr jga jlo jmo jli jta jpt jen jbg jfa jwt jac jng jnl jnm jnv jwm : Int32) (mW mE mG mP mK mQ mR : Nat → Int32) (v z : Int32) : Prop := NetW N mW ∧ jmf = -1 ∧ jla = -1 ∧ jrm = nI U ∧ U ≤ 8 ∧ (∀ k, k < U → NetW (W k) (fun j => mE (200 * k + j))) ∧ (z = 0 ∨ z = 1)
def ps_X7_tell (N : NetM) (U : Nat) (W : Nat → NetM) (jth jrm jwy jhi jmf jmt jla jre jwr jga jlo jmo jli jta jpt jen jbg jfa jwt jac jng jnl jnm jnv jwm : Int32) (mW mE mG mP mK mQ mR : Nat → Int32) (v z : Int32) (r : Int32) (jth' jwy' jrm' jga' jlo' jmo' jli' : Int32) (mE' mW' : Nat → Int32) (jre' jwr' : Int32) (mG' mP' mK' mQ' mR' : Nat → Int32) : Prop := (jth' = 0 ∧ (tellF N v (zB z)).1 = 0 ∧ jwy' = 0 ∧ r = nI (if z = 0 then N.root else N.exit) ∧ NetW (tellF N v (zB z)).2 mW' ∧ Latest N (tellF N v (zB z)).2 jga' jlo' jmo' jli' ∧ jrm' = nI (pushU U) ∧ ∀ k, k < pushU U → NetW (pushW W U N k) (fun j => mE' (200 * k + j))) ∨ (jth' = 1 ∧ ¬ (tellF N v (zB z)).1 = 0 ∧ jwy' = nI (tellF N v (zB z)).1 ∧ r = 0 ∧ jrm' = jrm ∧ jga' = jga ∧ jlo' = jlo ∧ jmo' = jmo ∧ jli' = jli ∧ mE' = mE ∧ mW' = mW ∧ jre' = jre ∧ jwr' = jwr ∧ mG' = mG ∧ mP' = mP ∧ mK' = mK ∧ mQ' = mQ ∧ mR' = mR)
def wp_X7_tell (jth jrm jwy jhi jmf jmt jla jre jwr jga jlo jmo jli jta jpt jen jbg jfa jwt jac jng jnl jnm jnv jwm : Int32) (mW mE mG mP mK mQ mR : Nat → Int32) (v z : Int32) (Q : Int32 → Int32 → Int32 → Int32 → Int32 → Int32 → Int32 → Int32 → (Nat → Int32) → (Nat → Int32) → Int32 → Int32 → (Nat → Int32) → (Nat → Int32) → (Nat → Int32) → (Nat → Int32) → (Nat → Int32) → Prop) : Prop :=
  ∀ J14 : Int32 → Prop, (∀ (t_2 : Int32), (∃ (N_3 : NetM) (z0_3 : Int32), (pr_X7_whyNoTell N_3 z0_3 0 jrm jwy jhi jmf jmt jla jre jwr jga jlo jmo jli jta jpt jen jbg jfa jwt jac jng jnl jnm jnv jwm mW v t_2 ∧ (∀ (r_3 : Int32), ps_X7_whyNoTell N_3 z0_3 0 jrm jwy jhi jmf jmt jla jre jwr jga jlo jmo jli jta jpt jen jbg jfa jwt jac jng jnl jnm jnv jwm mW v t_2 r_3 → (∃ (N_4 : NetM) (U_4 : Nat) (W_4 : Nat → NetM), (pr_X7_isRefused N_4 U_4 W_4 0 jrm jwy jhi jmf jmt jla jre jwr jga jlo jmo jli jta jpt jen jbg jfa jwt jac jng jnl jnm jnv jwm mW mE mG mP mK mQ mR r_3 1 ∧ (∀ (r_4 jth_4 jwy_4 jrm_4 : Int32) (mE_4 : Nat → Int32) (jre_4 jwr_4 : Int32) (mG_4 mP_4 mK_4 mQ_4 mR_4 : Nat → Int32), ps_X7_isRefused N_4 U_4 W_4 0 jrm jwy jhi jmf jmt jla jre jwr jga jlo jmo jli jta jpt jen jbg jfa jwt jac jng jnl jnm jnv jwm mW mE mG mP mK mQ mR r_3 1 r_4 jth_4 jwy_4 jrm_4 mE_4 jre_4 jwr_4 mG_4 mP_4 mK_4 mQ_4 mR_4 → (((r_4 = 0 → (vp_in t_2 200 ∧ (∀ u_7 : Nat → Int32, u_7 = upd mW t_2.toNatClampNeg v → (∃ (N_8 : NetM) (E_8 E0_8 : Nat → Nat → Prop) (r0_8 : Nat), (pr_X7_holdsAgainst N_8 E_8 E0_8 r0_8 jth_4 jrm_4 jwy_4 jhi jmf jmt jla jre_4 jwr_4 jga jlo jmo jli jta jpt jen jbg jfa jwt jac jng jnl jnm jnv jwm u_7 mG_4 mP_4 mK_4 mQ_4 mR_4 ∧ (∀ (jre_8 jga_8 jlo_8 jmo_8 jli_8 : Int32) (mG_8 mP_8 mK_8 : Nat → Int32), ps_X7_holdsAgainst N_8 E_8 E0_8 r0_8 jth_4 jrm_4 jwy_4 jhi jmf jmt jla jre_4 jwr_4 jga jlo jmo jli jta jpt jen jbg jfa jwt jac jng jnl jnm jnv jwm u_7 mG_4 mP_4 mK_4 mQ_4 mR_4 jre_8 jga_8 jlo_8 jmo_8 jli_8 mG_8 mP_8 mK_8 → (Q (mW t_2.toNatClampNeg) jth_4 jwy_4 jrm_4 jga_8 jlo_8 jmo_8 jli_8 mE_4 u_7 jre_8 jwr_4 mG_8 mP_8 mK_8 mQ_4 mR_4))))))) ∧
 (¬ (r_4 = 0) → (Q 0 jth_4 jwy_4 jrm_4 jga jlo jmo jli mE_4 mW jre_4 jwr_4 mG_4 mP_4 mK_4 mQ_4 mR_4)))))))))) → J14 t_2) →
((z = 0 → (J14 1)) ∧
 (¬ (z = 0) → (J14 2)))
theorem pf_X7_tell (N : NetM) (U : Nat) (W : Nat → NetM) (jth jrm jwy jhi jmf jmt jla jre jwr jga jlo jmo jli jta jpt jen jbg jfa jwt jac jng jnl jnm jnv jwm : Int32) (mW mE mG mP mK mQ mR : Nat → Int32) (v z : Int32) (hp : pr_X7_tell N U W jth jrm jwy jhi jmf jmt jla jre jwr jga jlo jmo jli jta jpt jen jbg jfa jwt jac jng jnl jnm jnv jwm mW mE mG mP mK mQ mR v z) : wp_X7_tell jth jrm jwy jhi jmf jmt jla jre jwr jga jlo jmo jli jta jpt jen jbg jfa jwt jac jng jnl jnm jnv jwm mW mE mG mP mK mQ mR v z (ps_X7_tell N U W jth jrm jwy jhi jmf jmt jla jre jwr jga jlo jmo jli jta jpt jen jbg jfa jwt jac jng jnl jnm jnv jwm mW mE mG mP mK mQ mR v z) := by
  unfold wp_X7_tell
  obtain ⟨hN, rfl, rfl, hrm, hU, hW, hz⟩ := hp
  have h16 := hN.1.2.1
  intro J14 hJ
  have main : ∀ t : Int32, ((t = 1 ∧ z = 0) ∨ (t = 2 ∧ z = 1)) → J14 t := by
    intro t ht
    obtain ⟨p1, p2, p3⟩ := placeW hN ht
    refine hJ t ⟨N, z, ⟨hN, ht⟩, fun r3 h3 => ⟨N, U, W, ⟨hN, rfl, rfl, hrm, hU, hW⟩, fun r4 th wy rm e re wr G P K Q1 R1 h4 => ?_⟩⟩
    have h4 := refd (tellF_c N v (zB z)).1 h3 h4
    refine ⟨fun z4 => ?_, fun z4 => ?_⟩
    · obtain ⟨hF, b2, b3, hg, hw, hr⟩ := h4.1 z4
      have hv : 0 ≤ v ∧ v < nI N.n := Classical.byContradiction fun q => absurd hF (by rw [tellF_no q]; exact Nat.succ_ne_zero _)
      obtain ⟨V, hV, rfl⟩ := (of_in (by omega)).1 hv
      have hE : tellF N (nI V) (zB z) = (0, if zB z = true then N.setX V else N.setR V) := by
        rw [tellF_v hV h16]
        by_cases q : (if zB z = true then N.exit else N.root) = V
        · rw [tellF_v hV h16, if_pos q] at hF; exact absurd hF (Nat.succ_ne_zero _)
        · rw [if_neg q]
      have hw2 : NetW (tellF N (nI V) (zB z)).2 (upd mW t.toNatClampNeg (nI V)) := by
        rw [hE]
        rcases ht with ⟨rfl, rfl⟩ | ⟨rfl, rfl⟩
        · exact hN.setR hV
        · exact hN.setX hV
      have hn := (tellF_c N (nI V) (zB z)).2.2
      refine ⟨p1, fun u hu => ⟨(tellF N (nI V) (zB z)).2, (tellF N (nI V) (zB z)).2.E, N.E, N.root, ⟨by rw [hu]; exact hw2, EGa.base hw2.1 _, by rw [hn]; exact hw⟩, fun re2 ga lo mo li G2 P2 K2 h => Or.inl ⟨b3, hF, b2, ?_, by rw [hu]; exact hw2, Latest.of hn h.2, hr⟩⟩⟩
      rw [p2, p3]
    · obtain ⟨b1, b2, b3, a1, a2, a3, a4, a5, a6, a7, a8, a9⟩ := h4.2 z4
      exact Or.inr ⟨b3, b1, b2, rfl, a1, rfl, rfl, rfl, rfl, a2, rfl, a3, a4, a5, a6, a7, a8, a9⟩
  rcases hz with rfl | rfl
  · exact ⟨fun _ => main 1 (Or.inl ⟨rfl, rfl⟩), fun q => absurd rfl q⟩
  · exact ⟨fun q => absurd q (by decide), fun _ => main 2 (Or.inr ⟨rfl, rfl⟩)⟩
def pr_X7_lay (N : NetM) (U : Nat) (W : Nat → NetM) (jth jrm jwy jhi jmf jmt jla jre jwr jga jlo jmo jli jta jpt jen jbg jfa jwt jac jng jnl jnm jnv jwm : Int32) (mW mE mG mP mK mQ mR : Nat → Int32) (a b : Int32) : Prop := NetW N mW ∧ jmf = -1 ∧ jla = -1 ∧ jrm = nI U ∧ U ≤ 8 ∧ (∀ k, k < U → NetW (W k) (fun j => mE (200 * k + j)))
def ps_X7_lay (N : NetM) (U : Nat) (W : Nat → NetM) (jth jrm jwy jhi jmf jmt jla jre jwr jga jlo jmo jli jta jpt jen jbg jfa jwt jac jng jnl jnm jnv jwm : Int32) (mW mE mG mP mK mQ mR : Nat → Int32) (a b : Int32) (r : Int32) (jth' jwy' jrm' jga' jlo' jmo' jli' : Int32) (mE' mW' : Nat → Int32) (jre' jwr' : Int32) (mG' mP' mK' mQ' mR' : Nat → Int32) : Prop := (jth' = 0 ∧ (layF N a b).1 = 0 ∧ jwy' = 0 ∧ r = nI N.m ∧ NetW (layF N a b).2 mW' ∧ Latest N (layF N a b).2 jga' jlo' jmo' jli' ∧ jrm' = nI (pushU U) ∧ ∀ k, k < pushU U → NetW (pushW W U N k) (fun j => mE' (200 * k + j))) ∨ (jth' = 1 ∧ ¬ (layF N a b).1 = 0 ∧ jwy' = nI (layF N a b).1 ∧ r = 0 ∧ jrm' = jrm ∧ jga' = jga ∧ jlo' = jlo ∧ jmo' = jmo ∧ jli' = jli ∧ mE' = mE ∧ mW' = mW ∧ jre' = jre ∧ jwr' = jwr ∧ mG' = mG ∧ mP' = mP ∧ mK' = mK ∧ mQ' = mQ ∧ mR' = mR)
def wp_X7_lay (jth jrm jwy jhi jmf jmt jla jre jwr jga jlo jmo jli jta jpt jen jbg jfa jwt jac jng jnl jnm jnv jwm : Int32) (mW mE mG mP mK mQ mR : Nat → Int32) (a b : Int32) (Q : Int32 → Int32 → Int32 → Int32 → Int32 → Int32 → Int32 → Int32 → (Nat → Int32) → (Nat → Int32) → Int32 → Int32 → (Nat → Int32) → (Nat → Int32) → (Nat → Int32) → (Nat → Int32) → (Nat → Int32) → Prop) : Prop :=
  ∃ (N_1 : NetM), (pr_X7_whyNoLay N_1 0 jrm jwy jhi jmf jmt jla jre jwr jga jlo jmo jli jta jpt jen jbg jfa jwt jac jng jnl jnm jnv jwm mW a b ∧ (∀ (r_1 : Int32), ps_X7_whyNoLay N_1 0 jrm jwy jhi jmf jmt jla jre jwr jga jlo jmo jli jta jpt jen jbg jfa jwt jac jng jnl jnm jnv jwm mW a b r_1 → (∃ (N_2 : NetM) (U_2 : Nat) (W_2 : Nat → NetM), (pr_X7_isRefused N_2 U_2 W_2 0 jrm jwy jhi jmf jmt jla jre jwr jga jlo jmo jli jta jpt jen jbg jfa jwt jac jng jnl jnm jnv jwm mW mE mG mP mK mQ mR r_1 1 ∧ (∀ (r_2 jth_2 jwy_2 jrm_2 : Int32) (mE_2 : Nat → Int32) (jre_2 jwr_2 : Int32) (mG_2 mP_2 mK_2 mQ_2 mR_2 : Nat → Int32), ps_X7_isRefused N_2 U_2 W_2 0 jrm jwy jhi jmf jmt jla jre jwr jga jlo jmo jli jta jpt jen jbg jfa jwt jac jng jnl jnm jnv jwm mW mE mG mP mK mQ mR r_1 1 r_2 jth_2 jwy_2 jrm_2 mE_2 jre_2 jwr_2 mG_2 mP_2 mK_2 mQ_2 mR_2 → (((r_2 = 0 → (∃ (N_4 : NetM) (A_4 B_4 : Nat), (pr_X7_lays N_4 A_4 B_4 jth_2 jrm_2 jwy_2 jhi jmf jmt jla jre_2 jwr_2 jga jlo jmo jli jta jpt jen jbg jfa jwt jac jng jnl jnm jnv jwm mW a b ∧ (∀ (r_4 : Int32) (mW_4 : Nat → Int32), ps_X7_lays N_4 A_4 B_4 jth_2 jrm_2 jwy_2 jhi jmf jmt jla jre_2 jwr_2 jga jlo jmo jli jta jpt jen jbg jfa jwt jac jng jnl jnm jnv jwm mW a b r_4 mW_4 → (∃ (N_5 : NetM) (E_5 E0_5 : Nat → Nat → Prop) (r0_5 : Nat), (pr_X7_holdsAgainst N_5 E_5 E0_5 r0_5 jth_2 jrm_2 jwy_2 jhi jmf jmt jla jre_2 jwr_2 jga jlo jmo jli jta jpt jen jbg jfa jwt jac jng jnl jnm jnv jwm mW_4 mG_2 mP_2 mK_2 mQ_2 mR_2 ∧ (∀ (jre_5 jga_5 jlo_5 jmo_5 jli_5 : Int32) (mG_5 mP_5 mK_5 : Nat → Int32), ps_X7_holdsAgainst N_5 E_5 E0_5 r0_5 jth_2 jrm_2 jwy_2 jhi jmf jmt jla jre_2 jwr_2 jga jlo jmo jli jta jpt jen jbg jfa jwt jac jng jnl jnm jnv jwm mW_4 mG_2 mP_2 mK_2 mQ_2 mR_2 jre_5 jga_5 jlo_5 jmo_5 jli_5 mG_5 mP_5 mK_5 → (Q r_4 jth_2 jwy_2 jrm_2 jga_5 jlo_5 jmo_5 jli_5 mE_2 mW_4 jre_5 jwr_2 mG_5 mP_5 mK_5 mQ_2 mR_2)))))))) ∧
 (¬ (r_2 = 0) → (Q 0 jth_2 jwy_2 jrm_2 jga jlo jmo jli mE_2 mW jre_2 jwr_2 mG_2 mP_2 mK_2 mQ_2 mR_2)))))))))
theorem pf_X7_lay (N : NetM) (U : Nat) (W : Nat → NetM) (jth jrm jwy jhi jmf jmt jla jre jwr jga jlo jmo jli jta jpt jen jbg jfa jwt jac jng jnl jnm jnv jwm : Int32) (mW mE mG mP mK mQ mR : Nat → Int32) (a b : Int32) (hp : pr_X7_lay N U W jth jrm jwy jhi jmf jmt jla jre jwr jga jlo jmo jli jta jpt jen jbg jfa jwt jac jng jnl jnm jnv jwm mW mE mG mP mK mQ mR a b) : wp_X7_lay jth jrm jwy jhi jmf jmt jla jre jwr jga jlo jmo jli jta jpt jen jbg jfa jwt jac jng jnl jnm jnv jwm mW mE mG mP mK mQ mR a b (ps_X7_lay N U W jth jrm jwy jhi jmf jmt jla jre jwr jga jlo jmo jli jta jpt jen jbg jfa jwt jac jng jnl jnm jnv jwm mW mE mG mP mK mQ mR a b) := by
  unfold wp_X7_lay
  obtain ⟨hN, rfl, rfl, hrm, hU, hW⟩ := hp
  have h16 := hN.1.2.1
  have h60 := hN.1.2.2.2.2.1
  refine ⟨N, hN, fun r3 h3 => ⟨N, U, W, ⟨hN, rfl, rfl, hrm, hU, hW⟩, fun r4 th wy rm e re wr G P K Q1 R1 h4 => ?_⟩⟩
  have h4 := refd (layF_c N a b).1 h3 h4
  refine ⟨fun z4 => ?_, fun z4 => ?_⟩
  · obtain ⟨hF, b2, b3, hg, hw, hr⟩ := h4.1 z4
    have hv : (0 ≤ a ∧ a < nI N.n) ∧ (0 ≤ b ∧ b < nI N.n) := Classical.byContradiction fun q => absurd hF (by rw [layF_no q]; exact Nat.succ_ne_zero _)
    obtain ⟨A, hA, rfl⟩ := (of_in (by omega)).1 hv.1
    obtain ⟨B, hB, rfl⟩ := (of_in (by omega)).1 hv.2
    have hm : ¬ N.m = 60 := fun q => by rw [layF_v hA hB h16, if_pos q] at hF; exact absurd hF (Nat.succ_ne_zero _)
    have hE : layF N (nI A) (nI B) = (0, N.add A B) := by rw [layF_v hA hB h16, if_neg hm]
    refine ⟨N, A, B, ⟨hN, rfl, rfl, hA, hB, by omega⟩, fun r5 m5 h5 => ⟨N.add A B, (N.add A B).E, N.E, N.root, ⟨h5.2, EGa.base h5.2.1 _, hw⟩, fun re2 ga lo mo li G2 P2 K2 h => Or.inl ?_⟩⟩
    rw [hE]
    exact ⟨b3, rfl, b2, h5.1, h5.2, Latest.of (N := N) (N' := N.add A B) rfl h.2, hr⟩
  · obtain ⟨b1, b2, b3, a1, a2, a3, a4, a5, a6, a7, a8, a9⟩ := h4.2 z4
    exact Or.inr ⟨b3, b1, b2, rfl, a1, rfl, rfl, rfl, rfl, a2, rfl, a3, a4, a5, a6, a7, a8, a9⟩
def pr_X7_shut (N : NetM) (U : Nat) (W : Nat → NetM) (jth jrm jwy jhi jmf jmt jla jre jwr jga jlo jmo jli jta jpt jen jbg jfa jwt jac jng jnl jnm jnv jwm : Int32) (mW mE mG mP mK mQ mR : Nat → Int32) (k : Int32) : Prop := NetW N mW ∧ jmf = -1 ∧ jla = -1 ∧ jrm = nI U ∧ U ≤ 8 ∧ (∀ k, k < U → NetW (W k) (fun j => mE (200 * k + j)))
def ps_X7_shut (N : NetM) (U : Nat) (W : Nat → NetM) (jth jrm jwy jhi jmf jmt jla jre jwr jga jlo jmo jli jta jpt jen jbg jfa jwt jac jng jnl jnm jnv jwm : Int32) (mW mE mG mP mK mQ mR : Nat → Int32) (k : Int32) (r : Int32) (jth' jwy' jrm' jga' jlo' jmo' jli' : Int32) (mE' mW' : Nat → Int32) (jre' jwr' : Int32) (mG' mP' mK' mQ' mR' : Nat → Int32) : Prop := (jth' = 0 ∧ (turnF N k false).1 = 0 ∧ jwy' = 0 ∧ r = nI (cnt 16 (fun x => Rd N.E N.root x ∧ ¬ Rd (turnF N k false).2.E (turnF N k false).2.root x)) ∧ NetW (turnF N k false).2 mW' ∧ Latest N (turnF N k false).2 jga' jlo' jmo' jli' ∧ jrm' = nI (pushU U) ∧ ∀ k, k < pushU U → NetW (pushW W U N k) (fun j => mE' (200 * k + j))) ∨ (jth' = 1 ∧ ¬ (turnF N k false).1 = 0 ∧ jwy' = nI (turnF N k false).1 ∧ r = 0 ∧ jrm' = jrm ∧ jga' = jga ∧ jlo' = jlo ∧ jmo' = jmo ∧ jli' = jli ∧ mE' = mE ∧ mW' = mW ∧ jre' = jre ∧ jwr' = jwr ∧ mG' = mG ∧ mP' = mP ∧ mK' = mK ∧ mQ' = mQ ∧ mR' = mR)
def wp_X7_shut (jth jrm jwy jhi jmf jmt jla jre jwr jga jlo jmo jli jta jpt jen jbg jfa jwt jac jng jnl jnm jnv jwm : Int32) (mW mE mG mP mK mQ mR : Nat → Int32) (k : Int32) (Q : Int32 → Int32 → Int32 → Int32 → Int32 → Int32 → Int32 → Int32 → (Nat → Int32) → (Nat → Int32) → Int32 → Int32 → (Nat → Int32) → (Nat → Int32) → (Nat → Int32) → (Nat → Int32) → (Nat → Int32) → Prop) : Prop :=
  ∃ (N_1 : NetM), (pr_X7_whyNoTurn N_1 0 jrm jwy jhi jmf jmt jla jre jwr jga jlo jmo jli jta jpt jen jbg jfa jwt jac jng jnl jnm jnv jwm mW k 0 ∧ (∀ (r_1 : Int32), ps_X7_whyNoTurn N_1 0 jrm jwy jhi jmf jmt jla jre jwr jga jlo jmo jli jta jpt jen jbg jfa jwt jac jng jnl jnm jnv jwm mW k 0 r_1 → (∃ (N_2 : NetM) (U_2 : Nat) (W_2 : Nat → NetM), (pr_X7_isRefused N_2 U_2 W_2 0 jrm jwy jhi jmf jmt jla jre jwr jga jlo jmo jli jta jpt jen jbg jfa jwt jac jng jnl jnm jnv jwm mW mE mG mP mK mQ mR r_1 1 ∧ (∀ (r_2 jth_2 jwy_2 jrm_2 : Int32) (mE_2 : Nat → Int32) (jre_2 jwr_2 : Int32) (mG_2 mP_2 mK_2 mQ_2 mR_2 : Nat → Int32), ps_X7_isRefused N_2 U_2 W_2 0 jrm jwy jhi jmf jmt jla jre jwr jga jlo jmo jli jta jpt jen jbg jfa jwt jac jng jnl jnm jnv jwm mW mE mG mP mK mQ mR r_1 1 r_2 jth_2 jwy_2 jrm_2 mE_2 jre_2 jwr_2 mG_2 mP_2 mK_2 mQ_2 mR_2 → (((r_2 = 0 → (vp_in (140 + k) 200 ∧ (∀ u_5 : Nat → Int32, u_5 = upd mW (140 + k).toNatClampNeg 0 → (∃ (N_6 : NetM) (E_6 E0_6 : Nat → Nat → Prop) (r0_6 : Nat), (pr_X7_holdsAgainst N_6 E_6 E0_6 r0_6 jth_2 jrm_2 jwy_2 jhi jmf jmt jla jre_2 jwr_2 jga jlo jmo jli jta jpt jen jbg jfa jwt jac jng jnl jnm jnv jwm u_5 mG_2 mP_2 mK_2 mQ_2 mR_2 ∧ (∀ (jre_6 jga_6 jlo_6 jmo_6 jli_6 : Int32) (mG_6 mP_6 mK_6 : Nat → Int32), ps_X7_holdsAgainst N_6 E_6 E0_6 r0_6 jth_2 jrm_2 jwy_2 jhi jmf jmt jla jre_2 jwr_2 jga jlo jmo jli jta jpt jen jbg jfa jwt jac jng jnl jnm jnv jwm u_5 mG_2 mP_2 mK_2 mQ_2 mR_2 jre_6 jga_6 jlo_6 jmo_6 jli_6 mG_6 mP_6 mK_6 → (∀ (r_7 : Int32), ps_X7_bits jlo_6 r_7 → (Q r_7 jth_2 jwy_2 jrm_2 jga_6 jlo_6 jmo_6 jli_6 mE_2 u_5 jre_6 jwr_2 mG_6 mP_6 mK_6 mQ_2 mR_2)))))))) ∧
 (¬ (r_2 = 0) → (Q 0 jth_2 jwy_2 jrm_2 jga jlo jmo jli mE_2 mW jre_2 jwr_2 mG_2 mP_2 mK_2 mQ_2 mR_2)))))))))
theorem pf_X7_shut (N : NetM) (U : Nat) (W : Nat → NetM) (jth jrm jwy jhi jmf jmt jla jre jwr jga jlo jmo jli jta jpt jen jbg jfa jwt jac jng jnl jnm jnv jwm : Int32) (mW mE mG mP mK mQ mR : Nat → Int32) (k : Int32) (hp : pr_X7_shut N U W jth jrm jwy jhi jmf jmt jla jre jwr jga jlo jmo jli jta jpt jen jbg jfa jwt jac jng jnl jnm jnv jwm mW mE mG mP mK mQ mR k) : wp_X7_shut jth jrm jwy jhi jmf jmt jla jre jwr jga jlo jmo jli jta jpt jen jbg jfa jwt jac jng jnl jnm jnv jwm mW mE mG mP mK mQ mR k (ps_X7_shut N U W jth jrm jwy jhi jmf jmt jla jre jwr jga jlo jmo jli jta jpt jen jbg jfa jwt jac jng jnl jnm jnv jwm mW mE mG mP mK mQ mR k) := by
  unfold wp_X7_shut
  obtain ⟨hN, rfl, rfl, hrm, hU, hW⟩ := hp
  have h60 := hN.1.2.2.2.2.1
  refine ⟨N, ⟨hN, by decide⟩, fun r3 h3 => ⟨N, U, W, ⟨hN, rfl, rfl, hrm, hU, hW⟩, fun r4 th wy rm e re wr G P K Q1 R1 h4 => ?_⟩⟩
  have h4 := refd (turnF_c hN.1 k false).1 h3 h4
  refine ⟨fun z4 => ?_, fun z4 => ?_⟩
  · obtain ⟨hF, b2, b3, hg, hw, hr⟩ := h4.1 z4
    have hv : 0 ≤ k ∧ k < nI N.m := Classical.byContradiction fun q => absurd hF (by rw [turnF_no q]; exact Nat.succ_ne_zero _)
    obtain ⟨K', hK, rfl⟩ := (of_in (by omega)).1 hv
    have hm : ¬ N.op K' = false := fun q => by rw [turnF_v hK h60, if_pos q] at hF; exact absurd hF (Nat.succ_ne_zero _)
    have hE : turnF N (nI K') false = (0, N.turn K' false) := by rw [turnF_v hK h60, if_neg hm]
    rw [show (140 : Int32) + nI K' = nI (140 + K') from nI_add 140 K', clN (by omega)]
    refine ⟨vp_in_nI (by omega) (by decide), fun u hu => ⟨N.turn K' false, (N.turn K' false).E, N.E, N.root, ⟨by rw [hu]; exact hN.turn hK false, EGa.base (hN.turn hK false).1 _, hw⟩, fun re2 ga lo mo li G2 P2 K2 h r7 h7 => Or.inl ?_⟩⟩
    rw [hE]
    exact ⟨b3, rfl, b2, Eq.trans (show r7 = nI (pc lo) from h7) (by rw [pc_set h.2.2.1]), by rw [hu]; exact hN.turn hK false, Latest.of (N := N) (N' := N.turn K' false) rfl h.2, hr⟩
  · obtain ⟨b1, b2, b3, a1, a2, a3, a4, a5, a6, a7, a8, a9⟩ := h4.2 z4
    exact Or.inr ⟨b3, b1, b2, rfl, a1, rfl, rfl, rfl, rfl, a2, rfl, a3, a4, a5, a6, a7, a8, a9⟩
def pr_X7_open (N : NetM) (U : Nat) (W : Nat → NetM) (jth jrm jwy jhi jmf jmt jla jre jwr jga jlo jmo jli jta jpt jen jbg jfa jwt jac jng jnl jnm jnv jwm : Int32) (mW mE mG mP mK mQ mR : Nat → Int32) (k : Int32) : Prop := NetW N mW ∧ jmf = -1 ∧ jla = -1 ∧ jrm = nI U ∧ U ≤ 8 ∧ (∀ k, k < U → NetW (W k) (fun j => mE (200 * k + j)))
def ps_X7_open (N : NetM) (U : Nat) (W : Nat → NetM) (jth jrm jwy jhi jmf jmt jla jre jwr jga jlo jmo jli jta jpt jen jbg jfa jwt jac jng jnl jnm jnv jwm : Int32) (mW mE mG mP mK mQ mR : Nat → Int32) (k : Int32) (r : Int32) (jth' jwy' jrm' jga' jlo' jmo' jli' : Int32) (mE' mW' : Nat → Int32) (jre' jwr' : Int32) (mG' mP' mK' mQ' mR' : Nat → Int32) : Prop := (jth' = 0 ∧ (turnF N k true).1 = 0 ∧ jwy' = 0 ∧ r = nI (cnt 16 (fun x => Rd (turnF N k true).2.E (turnF N k true).2.root x ∧ ¬ Rd N.E N.root x)) ∧ NetW (turnF N k true).2 mW' ∧ Latest N (turnF N k true).2 jga' jlo' jmo' jli' ∧ jrm' = nI (pushU U) ∧ ∀ k, k < pushU U → NetW (pushW W U N k) (fun j => mE' (200 * k + j))) ∨ (jth' = 1 ∧ ¬ (turnF N k true).1 = 0 ∧ jwy' = nI (turnF N k true).1 ∧ r = 0 ∧ jrm' = jrm ∧ jga' = jga ∧ jlo' = jlo ∧ jmo' = jmo ∧ jli' = jli ∧ mE' = mE ∧ mW' = mW ∧ jre' = jre ∧ jwr' = jwr ∧ mG' = mG ∧ mP' = mP ∧ mK' = mK ∧ mQ' = mQ ∧ mR' = mR)
def wp_X7_open (jth jrm jwy jhi jmf jmt jla jre jwr jga jlo jmo jli jta jpt jen jbg jfa jwt jac jng jnl jnm jnv jwm : Int32) (mW mE mG mP mK mQ mR : Nat → Int32) (k : Int32) (Q : Int32 → Int32 → Int32 → Int32 → Int32 → Int32 → Int32 → Int32 → (Nat → Int32) → (Nat → Int32) → Int32 → Int32 → (Nat → Int32) → (Nat → Int32) → (Nat → Int32) → (Nat → Int32) → (Nat → Int32) → Prop) : Prop :=
  ∃ (N_1 : NetM), (pr_X7_whyNoTurn N_1 0 jrm jwy jhi jmf jmt jla jre jwr jga jlo jmo jli jta jpt jen jbg jfa jwt jac jng jnl jnm jnv jwm mW k 1 ∧ (∀ (r_1 : Int32), ps_X7_whyNoTurn N_1 0 jrm jwy jhi jmf jmt jla jre jwr jga jlo jmo jli jta jpt jen jbg jfa jwt jac jng jnl jnm jnv jwm mW k 1 r_1 → (∃ (N_2 : NetM) (U_2 : Nat) (W_2 : Nat → NetM), (pr_X7_isRefused N_2 U_2 W_2 0 jrm jwy jhi jmf jmt jla jre jwr jga jlo jmo jli jta jpt jen jbg jfa jwt jac jng jnl jnm jnv jwm mW mE mG mP mK mQ mR r_1 1 ∧ (∀ (r_2 jth_2 jwy_2 jrm_2 : Int32) (mE_2 : Nat → Int32) (jre_2 jwr_2 : Int32) (mG_2 mP_2 mK_2 mQ_2 mR_2 : Nat → Int32), ps_X7_isRefused N_2 U_2 W_2 0 jrm jwy jhi jmf jmt jla jre jwr jga jlo jmo jli jta jpt jen jbg jfa jwt jac jng jnl jnm jnv jwm mW mE mG mP mK mQ mR r_1 1 r_2 jth_2 jwy_2 jrm_2 mE_2 jre_2 jwr_2 mG_2 mP_2 mK_2 mQ_2 mR_2 → (((r_2 = 0 → (vp_in (140 + k) 200 ∧ (∀ u_5 : Nat → Int32, u_5 = upd mW (140 + k).toNatClampNeg 1 → (∃ (N_6 : NetM) (E_6 E0_6 : Nat → Nat → Prop) (r0_6 : Nat), (pr_X7_holdsAgainst N_6 E_6 E0_6 r0_6 jth_2 jrm_2 jwy_2 jhi jmf jmt jla jre_2 jwr_2 jga jlo jmo jli jta jpt jen jbg jfa jwt jac jng jnl jnm jnv jwm u_5 mG_2 mP_2 mK_2 mQ_2 mR_2 ∧ (∀ (jre_6 jga_6 jlo_6 jmo_6 jli_6 : Int32) (mG_6 mP_6 mK_6 : Nat → Int32), ps_X7_holdsAgainst N_6 E_6 E0_6 r0_6 jth_2 jrm_2 jwy_2 jhi jmf jmt jla jre_2 jwr_2 jga jlo jmo jli jta jpt jen jbg jfa jwt jac jng jnl jnm jnv jwm u_5 mG_2 mP_2 mK_2 mQ_2 mR_2 jre_6 jga_6 jlo_6 jmo_6 jli_6 mG_6 mP_6 mK_6 → (∀ (r_7 : Int32), ps_X7_bits jga_6 r_7 → (Q r_7 jth_2 jwy_2 jrm_2 jga_6 jlo_6 jmo_6 jli_6 mE_2 u_5 jre_6 jwr_2 mG_6 mP_6 mK_6 mQ_2 mR_2)))))))) ∧
 (¬ (r_2 = 0) → (Q 0 jth_2 jwy_2 jrm_2 jga jlo jmo jli mE_2 mW jre_2 jwr_2 mG_2 mP_2 mK_2 mQ_2 mR_2)))))))))
theorem pf_X7_open (N : NetM) (U : Nat) (W : Nat → NetM) (jth jrm jwy jhi jmf jmt jla jre jwr jga jlo jmo jli jta jpt jen jbg jfa jwt jac jng jnl jnm jnv jwm : Int32) (mW mE mG mP mK mQ mR : Nat → Int32) (k : Int32) (hp : pr_X7_open N U W jth jrm jwy jhi jmf jmt jla jre jwr jga jlo jmo jli jta jpt jen jbg jfa jwt jac jng jnl jnm jnv jwm mW mE mG mP mK mQ mR k) : wp_X7_open jth jrm jwy jhi jmf jmt jla jre jwr jga jlo jmo jli jta jpt jen jbg jfa jwt jac jng jnl jnm jnv jwm mW mE mG mP mK mQ mR k (ps_X7_open N U W jth jrm jwy jhi jmf jmt jla jre jwr jga jlo jmo jli jta jpt jen jbg jfa jwt jac jng jnl jnm jnv jwm mW mE mG mP mK mQ mR k) := by
  unfold wp_X7_open
  obtain ⟨hN, rfl, rfl, hrm, hU, hW⟩ := hp
  have h60 := hN.1.2.2.2.2.1
  refine ⟨N, ⟨hN, by decide⟩, fun r3 h3 => ⟨N, U, W, ⟨hN, rfl, rfl, hrm, hU, hW⟩, fun r4 th wy rm e re wr G P K Q1 R1 h4 => ?_⟩⟩
  have h4 := refd (turnF_c hN.1 k true).1 h3 h4
  refine ⟨fun z4 => ?_, fun z4 => ?_⟩
  · obtain ⟨hF, b2, b3, hg, hw, hr⟩ := h4.1 z4
    have hv : 0 ≤ k ∧ k < nI N.m := Classical.byContradiction fun q => absurd hF (by rw [turnF_no q]; exact Nat.succ_ne_zero _)
    obtain ⟨K', hK, rfl⟩ := (of_in (by omega)).1 hv
    have hm : ¬ N.op K' = true := fun q => by rw [turnF_v hK h60, if_pos q] at hF; exact absurd hF (Nat.succ_ne_zero _)
    have hE : turnF N (nI K') true = (0, N.turn K' true) := by rw [turnF_v hK h60, if_neg hm]
    rw [show (140 : Int32) + nI K' = nI (140 + K') from nI_add 140 K', clN (by omega)]
    refine ⟨vp_in_nI (by omega) (by decide), fun u hu => ⟨N.turn K' true, (N.turn K' true).E, N.E, N.root, ⟨by rw [hu]; exact hN.turn hK true, EGa.base (hN.turn hK true).1 _, hw⟩, fun re2 ga lo mo li G2 P2 K2 h r7 h7 => Or.inl ?_⟩⟩
    rw [hE]
    exact ⟨b3, rfl, b2, Eq.trans (show r7 = nI (pc ga) from h7) (by rw [pc_set h.2.1]), by rw [hu]; exact hN.turn hK true, Latest.of (N := N) (N' := N.turn K' true) rfl h.2, hr⟩
  · obtain ⟨b1, b2, b3, a1, a2, a3, a4, a5, a6, a7, a8, a9⟩ := h4.2 z4
    exact Or.inr ⟨b3, b1, b2, rfl, a1, rfl, rfl, rfl, rfl, a2, rfl, a3, a4, a5, a6, a7, a8, a9⟩
def pr_X7_toll (N : NetM) (U : Nat) (W : Nat → NetM) (jth jrm jwy jhi jmf jmt jla jre jwr jga jlo jmo jli jta jpt jen jbg jfa jwt jac jng jnl jnm jnv jwm : Int32) (mW mE mG mP mK mQ mR : Nat → Int32) (v z : Int32) : Prop := NetW N mW ∧ jmf = -1 ∧ jla = -1 ∧ jrm = nI U ∧ U ≤ 8 ∧ (∀ k, k < U → NetW (W k) (fun j => mE (200 * k + j)))
def ps_X7_toll (N : NetM) (U : Nat) (W : Nat → NetM) (jth jrm jwy jhi jmf jmt jla jre jwr jga jlo jmo jli jta jpt jen jbg jfa jwt jac jng jnl jnm jnv jwm : Int32) (mW mE mG mP mK mQ mR : Nat → Int32) (v z : Int32) (r : Int32) (jth' jwy' jrm' jga' jlo' jmo' jli' : Int32) (mE' mW' : Nat → Int32) (jre' jwr' : Int32) (mG' mP' mK' mQ' mR' : Nat → Int32) : Prop := ((0 ≤ z ∧ z ≤ 99) ∧ jth' = 0 ∧ (tollF N v z).1 = 0 ∧ jwy' = 0 ∧ r = nI (N.tl v.toNatClampNeg) ∧ NetW (tollF N v z).2 mW' ∧ Latest N (tollF N v z).2 jga' jlo' jmo' jli' ∧ jrm' = nI (pushU U) ∧ ∀ k, k < pushU U → NetW (pushW W U N k) (fun j => mE' (200 * k + j))) ∨ ((0 ≤ z ∧ z ≤ 99) ∧ jth' = 2 ∧ ¬ (tollF N v z).1 = 0 ∧ jwy' = nI (tollF N v z).1 ∧ r = 0 ∧ jrm' = jrm ∧ jga' = jga ∧ jlo' = jlo ∧ jmo' = jmo ∧ jli' = jli ∧ mE' = mE ∧ mW' = mW ∧ jre' = jre ∧ jwr' = jwr ∧ mG' = mG ∧ mP' = mP ∧ mK' = mK ∧ mQ' = mQ ∧ mR' = mR) ∨ (¬ (0 ≤ z ∧ z ≤ 99) ∧ jth' = 1 ∧ jwy' = jwy ∧ r = 0 ∧ jrm' = jrm ∧ jga' = jga ∧ jlo' = jlo ∧ jmo' = jmo ∧ jli' = jli ∧ mE' = mE ∧ mW' = mW ∧ jre' = jre ∧ jwr' = jwr ∧ mG' = mG ∧ mP' = mP ∧ mK' = mK ∧ mQ' = mQ ∧ mR' = mR)
def wp_X7_toll (jth jrm jwy jhi jmf jmt jla jre jwr jga jlo jmo jli jta jpt jen jbg jfa jwt jac jng jnl jnm jnv jwm : Int32) (mW mE mG mP mK mQ mR : Nat → Int32) (v z : Int32) (Q : Int32 → Int32 → Int32 → Int32 → Int32 → Int32 → Int32 → Int32 → (Nat → Int32) → (Nat → Int32) → Int32 → Int32 → (Nat → Int32) → (Nat → Int32) → (Nat → Int32) → (Nat → Int32) → (Nat → Int32) → Prop) : Prop :=
  ∀ (r_1 : Int32), ps_X7_in z 0 99 r_1 → (∀ J21 : Int32 → Prop, (∀ (t_3 : Int32), (pr_X7_throwsIf 0 jrm jwy jhi jmf jmt jla jre jwr jga jlo jmo jli jta jpt jen jbg jfa jwt jac jng jnl jnm jnv jwm t_3 1 ∧ (∀ (r_4 jth_4 : Int32), ps_X7_throwsIf 0 jrm jwy jhi jmf jmt jla jre jwr jga jlo jmo jli jta jpt jen jbg jfa jwt jac jng jnl jnm jnv jwm t_3 1 r_4 jth_4 → (((¬ r_4 = 0 → (Q 0 jth_4 jwy jrm jga jlo jmo jli mE mW jre jwr mG mP mK mQ mR)) ∧
 (r_4 = 0 → (∃ (N_6 : NetM), (pr_X7_whyNoToll N_6 jth_4 jrm jwy jhi jmf jmt jla jre jwr jga jlo jmo jli jta jpt jen jbg jfa jwt jac jng jnl jnm jnv jwm mW v z ∧ (∀ (r_6 : Int32), ps_X7_whyNoToll N_6 jth_4 jrm jwy jhi jmf jmt jla jre jwr jga jlo jmo jli jta jpt jen jbg jfa jwt jac jng jnl jnm jnv jwm mW v z r_6 → (∃ (N_7 : NetM) (U_7 : Nat) (W_7 : Nat → NetM), (pr_X7_isRefused N_7 U_7 W_7 jth_4 jrm jwy jhi jmf jmt jla jre jwr jga jlo jmo jli jta jpt jen jbg jfa jwt jac jng jnl jnm jnv jwm mW mE mG mP mK mQ mR r_6 2 ∧ (∀ (r_7 jth_7 jwy_7 jrm_7 : Int32) (mE_7 : Nat → Int32) (jre_7 jwr_7 : Int32) (mG_7 mP_7 mK_7 mQ_7 mR_7 : Nat → Int32), ps_X7_isRefused N_7 U_7 W_7 jth_4 jrm jwy jhi jmf jmt jla jre jwr jga jlo jmo jli jta jpt jen jbg jfa jwt jac jng jnl jnm jnv jwm mW mE mG mP mK mQ mR r_6 2 r_7 jth_7 jwy_7 jrm_7 mE_7 jre_7 jwr_7 mG_7 mP_7 mK_7 mQ_7 mR_7 → (((r_7 = 0 → (vp_in (4 + v) 200 ∧ (∀ u_10 : Nat → Int32, u_10 = upd mW (4 + v).toNatClampNeg z → (∃ (N_11 : NetM) (E_11 E0_11 : Nat → Nat → Prop) (r0_11 : Nat), (pr_X7_holdsAgainst N_11 E_11 E0_11 r0_11 jth_7 jrm_7 jwy_7 jhi jmf jmt jla jre_7 jwr_7 jga jlo jmo jli jta jpt jen jbg jfa jwt jac jng jnl jnm jnv jwm u_10 mG_7 mP_7 mK_7 mQ_7 mR_7 ∧ (∀ (jre_11 jga_11 jlo_11 jmo_11 jli_11 : Int32) (mG_11 mP_11 mK_11 : Nat → Int32), ps_X7_holdsAgainst N_11 E_11 E0_11 r0_11 jth_7 jrm_7 jwy_7 jhi jmf jmt jla jre_7 jwr_7 jga jlo jmo jli jta jpt jen jbg jfa jwt jac jng jnl jnm jnv jwm u_10 mG_7 mP_7 mK_7 mQ_7 mR_7 jre_11 jga_11 jlo_11 jmo_11 jli_11 mG_11 mP_11 mK_11 → (Q (mW (4 + v).toNatClampNeg) jth_7 jwy_7 jrm_7 jga_11 jlo_11 jmo_11 jli_11 mE_7 u_10 jre_11 jwr_7 mG_11 mP_11 mK_11 mQ_7 mR_7))))))) ∧
 (¬ (r_7 = 0) → (Q 0 jth_7 jwy_7 jrm_7 jga jlo jmo jli mE_7 mW jre_7 jwr_7 mG_7 mP_7 mK_7 mQ_7 mR_7))))))))))))))) → J21 t_3) →
((¬ r_1 = 0 → (J21 0)) ∧
 (r_1 = 0 → (J21 1))))
theorem pf_X7_toll (N : NetM) (U : Nat) (W : Nat → NetM) (jth jrm jwy jhi jmf jmt jla jre jwr jga jlo jmo jli jta jpt jen jbg jfa jwt jac jng jnl jnm jnv jwm : Int32) (mW mE mG mP mK mQ mR : Nat → Int32) (v z : Int32) (hp : pr_X7_toll N U W jth jrm jwy jhi jmf jmt jla jre jwr jga jlo jmo jli jta jpt jen jbg jfa jwt jac jng jnl jnm jnv jwm mW mE mG mP mK mQ mR v z) : wp_X7_toll jth jrm jwy jhi jmf jmt jla jre jwr jga jlo jmo jli jta jpt jen jbg jfa jwt jac jng jnl jnm jnv jwm mW mE mG mP mK mQ mR v z (ps_X7_toll N U W jth jrm jwy jhi jmf jmt jla jre jwr jga jlo jmo jli jta jpt jen jbg jfa jwt jac jng jnl jnm jnv jwm mW mE mG mP mK mQ mR v z) := by
  unfold wp_X7_toll
  obtain ⟨hN, rfl, rfl, hrm, hU, hW⟩ := hp
  have h16 := hN.1.2.1
  intro r1 h1 J21 hJ
  have h1 : r1 = i1 (0 ≤ z ∧ z ≤ 99) := h1
  refine ⟨fun y1 => hJ 0 ⟨Or.inl rfl, fun r2 th2 h2 => ⟨fun y2 => absurd h2.1 y2, fun y2 => ?_⟩⟩, fun y1 => hJ 1 ⟨Or.inr rfl, fun r2 th2 h2 => ⟨fun y2 => ?_, fun y2 => absurd (h2.1.symm.trans y2) (by decide)⟩⟩⟩
  · have hz := of_i1 h1 y1
    obtain ⟨T, hT, rfl⟩ : ∃ T, T ≤ 99 ∧ z = nI T := of_le (k := 99) (by decide) hz
    have t2 : th2 = 0 := h2.2.elim (fun q => q.2) (fun q => absurd q.1 (by decide))
    refine ⟨N, ⟨hN, hz⟩, fun r3 h3 => ⟨N, U, W, ⟨hN, rfl, rfl, hrm, hU, hW⟩, fun r4 th wy rm e re wr G P K Q1 R1 h4 => ?_⟩⟩
    have h4 := refd (tollF_c N v (nI T)).1 h3 h4
    refine ⟨fun z4 => ?_, fun z4 => ?_⟩
    · obtain ⟨hF, b2, b3, hg, hw, hr⟩ := h4.1 z4
      have hv : 0 ≤ v ∧ v < nI N.n := Classical.byContradiction fun q => absurd hF (by rw [tollF_no q]; exact Nat.succ_ne_zero _)
      obtain ⟨V, hV, rfl⟩ := (of_in (by omega)).1 hv
      have hm : ¬ N.tl V = T := fun q => by rw [tollF_v hV h16 hT, if_pos q] at hF; exact absurd hF (Nat.succ_ne_zero _)
      have hE : tollF N (nI V) (nI T) = (0, N.setT V T) := by rw [tollF_v hV h16 hT, if_neg hm]
      have hw2 := hN.setT hV hT
      rw [show (4 : Int32) + nI V = nI (4 + V) from nI_add 4 V, clN (by omega)]
      refine ⟨vp_in_nI (by omega) (by decide), fun u hu => ⟨N.setT V T, (N.setT V T).E, N.E, N.root, ⟨by rw [hu]; exact hw2, EGa.base hw2.1 _, hw⟩, fun re2 ga lo mo li G2 P2 K2 h => Or.inl ?_⟩⟩
      rw [hE]
      exact ⟨hz, b3.trans t2, rfl, b2, by rw [clN (by omega)]; exact hN.2.2.2.2.2.1 V (by omega), by rw [hu]; exact hw2, Latest.of (N := N) (N' := N.setT V T) rfl h.2, hr⟩
    · obtain ⟨b1, b2, b3, a1, a2, a3, a4, a5, a6, a7, a8, a9⟩ := h4.2 z4
      exact Or.inr (Or.inl ⟨hz, b3, b1, b2, rfl, a1, rfl, rfl, rfl, rfl, a2, rfl, a3, a4, a5, a6, a7, a8, a9⟩)
  · have hz := i1_eq0.1 (h1.symm.trans y1)
    have t2 : th2 = 1 := h2.2.elim (fun q => absurd q.1 (by decide)) (fun q => q.2)
    exact Or.inr (Or.inr ⟨hz, t2, rfl, rfl, rfl, rfl, rfl, rfl, rfl, rfl, rfl, rfl, rfl, rfl, rfl, rfl, rfl, rfl⟩)
def pr_X7_undo (U : Nat) (W : Nat → NetM) (jth jrm jwy jhi jmf jmt jla jre jwr jga jlo jmo jli jta jpt jen jbg jfa jwt jac jng jnl jnm jnv jwm : Int32) (mW mE : Nat → Int32) : Prop := jrm = nI U ∧ U ≤ 8 ∧ (∀ k, k < U → NetW (W k) (fun j => mE (200 * k + j)))
def ps_X7_undo (U : Nat) (W : Nat → NetM) (jth jrm jwy jhi jmf jmt jla jre jwr jga jlo jmo jli jta jpt jen jbg jfa jwt jac jng jnl jnm jnv jwm : Int32) (mW mE : Nat → Int32) (r : Int32) (jth' jrm' jga' jlo' jmo' jli' : Int32) (mW' : Nat → Int32) : Prop := (U = 0 ∧ jth' = 1 ∧ r = 0 ∧ jrm' = jrm ∧ jga' = jga ∧ jlo' = jlo ∧ jmo' = jmo ∧ jli' = jli ∧ mW' = mW) ∨ (0 < U ∧ jth' = 0 ∧ r = nI (U - 1) ∧ jrm' = nI (U - 1) ∧ NetW (W (U - 1)) mW' ∧ jga' = 0 ∧ jlo' = 0 ∧ jmo' = 0 ∧ jli' = 0)
def wp_X7_undo (jth jrm jwy jhi jmf jmt jla jre jwr jga jlo jmo jli jta jpt jen jbg jfa jwt jac jng jnl jnm jnv jwm : Int32) (mW mE : Nat → Int32) (Q : Int32 → Int32 → Int32 → Int32 → Int32 → Int32 → Int32 → (Nat → Int32) → Prop) : Prop :=
  ∀ J18 : Int32 → Prop, (∀ (t_2 : Int32), (pr_X7_throwsIf 0 jrm jwy jhi jmf jmt jla jre jwr jga jlo jmo jli jta jpt jen jbg jfa jwt jac jng jnl jnm jnv jwm t_2 1 ∧ (∀ (r_3 jth_3 : Int32), ps_X7_throwsIf 0 jrm jwy jhi jmf jmt jla jre jwr jga jlo jmo jli jta jpt jen jbg jfa jwt jac jng jnl jnm jnv jwm t_2 1 r_3 jth_3 → (((r_3 = 0 → (∃ (A_5 B_5 : Nat), (pr_X7_copies A_5 B_5 1600 200 mE mW (200 * (jrm - 1)) 0 ∧ (∀ (g2_5 : Nat → Int32), ps_X7_copies A_5 B_5 1600 200 mE mW (200 * (jrm - 1)) 0 g2_5 → (∀ (jga_6 jlo_6 jmo_6 jli_6 : Int32), ps_X7_hasNoLatest jth_3 (jrm - 1) jwy jhi jmf jmt jla jre jwr jga jlo jmo jli jta jpt jen jbg jfa jwt jac jng jnl jnm jnv jwm jga_6 jlo_6 jmo_6 jli_6 → (Q (jrm - 1) jth_3 (jrm - 1) jga_6 jlo_6 jmo_6 jli_6 g2_5)))))) ∧
 (¬ (r_3 = 0) → (Q 0 jth_3 jrm jga jlo jmo jli mW)))))) → J18 t_2) →
((¬ jrm = 0 → (J18 0)) ∧
 (jrm = 0 → (J18 1)))
theorem pf_X7_undo (U : Nat) (W : Nat → NetM) (jth jrm jwy jhi jmf jmt jla jre jwr jga jlo jmo jli jta jpt jen jbg jfa jwt jac jng jnl jnm jnv jwm : Int32) (mW mE : Nat → Int32) (hp : pr_X7_undo U W jth jrm jwy jhi jmf jmt jla jre jwr jga jlo jmo jli jta jpt jen jbg jfa jwt jac jng jnl jnm jnv jwm mW mE) : wp_X7_undo jth jrm jwy jhi jmf jmt jla jre jwr jga jlo jmo jli jta jpt jen jbg jfa jwt jac jng jnl jnm jnv jwm mW mE (ps_X7_undo U W jth jrm jwy jhi jmf jmt jla jre jwr jga jlo jmo jli jta jpt jen jbg jfa jwt jac jng jnl jnm jnv jwm mW mE) := by
  unfold wp_X7_undo
  obtain ⟨rfl, hU, hW⟩ := hp
  intro J18 hJ
  refine ⟨fun y1 => hJ 0 ⟨Or.inl rfl, fun r2 th2 h2 => ⟨fun _ => ?_, fun y2 => absurd h2.1 y2⟩⟩, fun y1 => hJ 1 ⟨Or.inr rfl, fun r2 th2 h2 => ⟨fun y2 => absurd (h2.1.symm.trans y2) (by decide), fun _ => ?_⟩⟩⟩
  · have hU0 : 0 < U := Nat.pos_of_ne_zero (fun e => y1 (by rw [e]; rfl))
    have t2 : th2 = 0 := h2.2.elim (fun q => q.2) (fun q => absurd q.1 (by decide))
    have e1 : nI U - 1 = nI (U - 1) := by rw [n1, pk_sub (by omega)]
    rw [e1]
    refine ⟨200 * (U - 1), 0, ⟨pk_mul 200 (U - 1), rfl, by omega, by omega, by omega, by omega⟩, fun g hg ga lo mo li hl => Or.inr ⟨hU0, t2, rfl, rfl, (hW (U - 1) (by omega)).copy (fun j hj => ?_), hl⟩⟩
    rw [(hg j).1 (by omega) (by omega)]
    exact congrArg mE (by omega)
  · have t2 : th2 = 1 := h2.2.elim (fun q => absurd q.1 (by decide)) (fun q => q.2)
    have hU0 : U = 0 := (eqN (b := 0) (by omega) (by omega)).mp y1
    exact Or.inl ⟨hU0, t2, rfl, rfl, rfl, rfl, rfl, rfl, rfl⟩
def pr_X7_image (N : NetM) (jth jrm jwy jhi jmf jmt jla jre jwr jga jlo jmo jli jta jpt jen jbg jfa jwt jac jng jnl jnm jnv jwm : Int32) (mW mI : Nat → Int32) : Prop := NetW N mW
def ps_X7_image (N : NetM) (jth jrm jwy jhi jmf jmt jla jre jwr jga jlo jmo jli jta jpt jen jbg jfa jwt jac jng jnl jnm jnv jwm : Int32) (mW mI : Nat → Int32) (jth' jhi' : Int32) (mI' : Nat → Int32) : Prop := jth' = 0 ∧ jhi' = 1 ∧ NetW N mI'
def wp_X7_image (jth jrm jwy jhi jmf jmt jla jre jwr jga jlo jmo jli jta jpt jen jbg jfa jwt jac jng jnl jnm jnv jwm : Int32) (mW mI : Nat → Int32) (Q : Int32 → Int32 → (Nat → Int32) → Prop) : Prop :=
  ∃ (A_1 B_1 : Nat), (pr_X7_copies A_1 B_1 200 200 mW mI 0 0 ∧ (∀ (g2_1 : Nat → Int32), ps_X7_copies A_1 B_1 200 200 mW mI 0 0 g2_1 → (Q 0 1 g2_1)))
theorem pf_X7_image (N : NetM) (jth jrm jwy jhi jmf jmt jla jre jwr jga jlo jmo jli jta jpt jen jbg jfa jwt jac jng jnl jnm jnv jwm : Int32) (mW mI : Nat → Int32) (hp : pr_X7_image N jth jrm jwy jhi jmf jmt jla jre jwr jga jlo jmo jli jta jpt jen jbg jfa jwt jac jng jnl jnm jnv jwm mW mI) : wp_X7_image jth jrm jwy jhi jmf jmt jla jre jwr jga jlo jmo jli jta jpt jen jbg jfa jwt jac jng jnl jnm jnv jwm mW mI (ps_X7_image N jth jrm jwy jhi jmf jmt jla jre jwr jga jlo jmo jli jta jpt jen jbg jfa jwt jac jng jnl jnm jnv jwm mW mI) := by
  unfold wp_X7_image
  refine ⟨0, 0, ⟨rfl, rfl, by omega, by omega, by omega, by omega⟩, fun g hg => ⟨rfl, rfl, hp.copy (fun j hj => ?_)⟩⟩
  rw [(hg j).1 (by omega) (by omega)]
  exact congrArg mW (by omega)
def pr_X7_back (I : NetM) (jth jrm jwy jhi jmf jmt jla jre jwr jga jlo jmo jli jta jpt jen jbg jfa jwt jac jng jnl jnm jnv jwm : Int32) (mW mI : Nat → Int32) : Prop := (jhi = 0 ∨ jhi = 1) ∧ (jhi = 1 → NetW I mI)
def ps_X7_back (I : NetM) (jth jrm jwy jhi jmf jmt jla jre jwr jga jlo jmo jli jta jpt jen jbg jfa jwt jac jng jnl jnm jnv jwm : Int32) (mW mI : Nat → Int32) (r : Int32) (jth' jrm' jga' jlo' jmo' jli' : Int32) (mW' : Nat → Int32) : Prop := jth' = 0 ∧ ((jhi = 0 ∧ r = 0 ∧ jrm' = jrm ∧ jga' = jga ∧ jlo' = jlo ∧ jmo' = jmo ∧ jli' = jli ∧ mW' = mW) ∨ (jhi = 1 ∧ r = 1 ∧ jrm' = 0 ∧ NetW I mW' ∧ jga' = 0 ∧ jlo' = 0 ∧ jmo' = 0 ∧ jli' = 0))
def wp_X7_back (jth jrm jwy jhi jmf jmt jla jre jwr jga jlo jmo jli jta jpt jen jbg jfa jwt jac jng jnl jnm jnv jwm : Int32) (mW mI : Nat → Int32) (Q : Int32 → Int32 → Int32 → Int32 → Int32 → Int32 → Int32 → (Nat → Int32) → Prop) : Prop :=
  ((¬ jhi = 0 → (∃ (A_2 B_2 : Nat), (pr_X7_copies A_2 B_2 200 200 mI mW 0 0 ∧ (∀ (g2_2 : Nat → Int32), ps_X7_copies A_2 B_2 200 200 mI mW 0 0 g2_2 → (∀ (jga_3 jlo_3 jmo_3 jli_3 : Int32), ps_X7_hasNoLatest 0 0 jwy jhi jmf jmt jla jre jwr jga jlo jmo jli jta jpt jen jbg jfa jwt jac jng jnl jnm jnv jwm jga_3 jlo_3 jmo_3 jli_3 → (Q 1 0 0 jga_3 jlo_3 jmo_3 jli_3 g2_2)))))) ∧
 (jhi = 0 → (Q 0 0 jrm jga jlo jmo jli mW)))
theorem pf_X7_back (I : NetM) (jth jrm jwy jhi jmf jmt jla jre jwr jga jlo jmo jli jta jpt jen jbg jfa jwt jac jng jnl jnm jnv jwm : Int32) (mW mI : Nat → Int32) (hp : pr_X7_back I jth jrm jwy jhi jmf jmt jla jre jwr jga jlo jmo jli jta jpt jen jbg jfa jwt jac jng jnl jnm jnv jwm mW mI) : wp_X7_back jth jrm jwy jhi jmf jmt jla jre jwr jga jlo jmo jli jta jpt jen jbg jfa jwt jac jng jnl jnm jnv jwm mW mI (ps_X7_back I jth jrm jwy jhi jmf jmt jla jre jwr jga jlo jmo jli jta jpt jen jbg jfa jwt jac jng jnl jnm jnv jwm mW mI) := by
  unfold wp_X7_back
  obtain ⟨hj, hI⟩ := hp
  refine ⟨fun q => ⟨0, 0, ⟨rfl, rfl, by omega, by omega, by omega, by omega⟩, fun g hg ga lo mo li hl => ⟨rfl, Or.inr ⟨hj.resolve_left q, rfl, rfl, (hI (hj.resolve_left q)).copy (fun j hj => ?_), hl⟩⟩⟩, fun q => ⟨rfl, Or.inl ⟨q, rfl, rfl, rfl, rfl, rfl, rfl, rfl⟩⟩⟩
  rw [(hg j).1 (by omega) (by omega)]
  exact congrArg mI (by omega)
def ps_X7_net (jth jrm jwy jhi jmf jmt jla jre jwr jga jlo jmo jli jta jpt jen jbg jfa jwt jac jng jnl jnm jnv jwm : Int32) (mW : Nat → Int32) (k : Int32) (jth' jwy' jrm' jga' jlo' jmo' jli' : Int32) (mW' : Nat → Int32) : Prop := (∃ K, k = nI K ∧ 2 ≤ K ∧ K ≤ 16 ∧ jth' = 0 ∧ jrm' = 0 ∧ jwy' = 0 ∧ NetW (freshN K) mW' ∧ jga' = 0 ∧ jlo' = 0 ∧ jmo' = 0 ∧ jli' = 0) ∨ (¬ (2 ≤ k ∧ k ≤ 16) ∧ jth' = 1 ∧ jrm' = jrm ∧ jwy' = jwy ∧ jga' = jga ∧ jlo' = jlo ∧ jmo' = jmo ∧ jli' = jli ∧ mW' = mW)
def wp_X7_net (jth jrm jwy jhi jmf jmt jla jre jwr jga jlo jmo jli jta jpt jen jbg jfa jwt jac jng jnl jnm jnv jwm : Int32) (mW : Nat → Int32) (k : Int32) (Q : Int32 → Int32 → Int32 → Int32 → Int32 → Int32 → Int32 → (Nat → Int32) → Prop) : Prop :=
  ∀ (r_1 : Int32), ps_X7_in k 2 16 r_1 → (∀ J21 : Int32 → Prop, (∀ (t_3 : Int32), (pr_X7_throwsIf 0 jrm jwy jhi jmf jmt jla jre jwr jga jlo jmo jli jta jpt jen jbg jfa jwt jac jng jnl jnm jnv jwm t_3 1 ∧ (∀ (r_4 jth_4 : Int32), ps_X7_throwsIf 0 jrm jwy jhi jmf jmt jla jre jwr jga jlo jmo jli jta jpt jen jbg jfa jwt jac jng jnl jnm jnv jwm t_3 1 r_4 jth_4 → (((r_4 = 0 → (∃ (K_6 : Nat), (pr_X7_isFresh K_6 jth_4 jrm jwy jhi jmf jmt jla jre jwr jga jlo jmo jli jta jpt jen jbg jfa jwt jac jng jnl jnm jnv jwm mW k ∧ (∀ (mW_6 : Nat → Int32), ps_X7_isFresh K_6 jth_4 jrm jwy jhi jmf jmt jla jre jwr jga jlo jmo jli jta jpt jen jbg jfa jwt jac jng jnl jnm jnv jwm mW k mW_6 → (∀ (jga_7 jlo_7 jmo_7 jli_7 : Int32), ps_X7_hasNoLatest jth_4 0 0 jhi jmf jmt jla jre jwr jga jlo jmo jli jta jpt jen jbg jfa jwt jac jng jnl jnm jnv jwm jga_7 jlo_7 jmo_7 jli_7 → (Q jth_4 0 0 jga_7 jlo_7 jmo_7 jli_7 mW_6)))))) ∧
 (¬ (r_4 = 0) → (Q jth_4 jwy jrm jga jlo jmo jli mW)))))) → J21 t_3) →
((¬ r_1 = 0 → (J21 0)) ∧
 (r_1 = 0 → (J21 1))))
theorem pf_X7_net (jth jrm jwy jhi jmf jmt jla jre jwr jga jlo jmo jli jta jpt jen jbg jfa jwt jac jng jnl jnm jnv jwm : Int32) (mW : Nat → Int32) (k : Int32) : wp_X7_net jth jrm jwy jhi jmf jmt jla jre jwr jga jlo jmo jli jta jpt jen jbg jfa jwt jac jng jnl jnm jnv jwm mW k (ps_X7_net jth jrm jwy jhi jmf jmt jla jre jwr jga jlo jmo jli jta jpt jen jbg jfa jwt jac jng jnl jnm jnv jwm mW k) := by
  unfold wp_X7_net
  intro r1 h1 J21 hJ
  have h1 : r1 = i1 (2 ≤ k ∧ k ≤ 16) := h1
  refine ⟨fun y1 => hJ 0 ⟨Or.inl rfl, fun r2 th2 h2 => ⟨fun _ => ?_, fun y2 => absurd h2.1 y2⟩⟩, fun y1 => hJ 1 ⟨Or.inr rfl, fun r2 th2 h2 => ⟨fun y2 => absurd (h2.1.symm.trans y2) (by decide), fun _ => ?_⟩⟩⟩
  · have hk := of_i1 h1 y1
    have t2 : th2 = 0 := h2.2.elim (fun q => q.2) (fun q => absurd q.1 (by decide))
    obtain ⟨K, hK1, hK2, rfl⟩ : ∃ K, 2 ≤ K ∧ K ≤ 16 ∧ k = nI K := by
      have h0 : 0 ≤ k := Int32.le_trans (by decide) hk.1
      obtain ⟨K, hK, rfl⟩ := of_le (k := 16) (by decide) ⟨h0, hk.2⟩
      have hb := hk.1
      rw [show (2 : Int32) = nI 2 from rfl, leN (by omega) (by omega)] at hb
      exact ⟨K, hb, hK, rfl⟩
    exact ⟨K, ⟨rfl, hK1, hK2⟩, fun w hw ga lo mo li hl => Or.inl ⟨K, rfl, hK1, hK2, t2, rfl, rfl, hw, hl⟩⟩
  · have t2 : th2 = 1 := h2.2.elim (fun q => absurd q.1 (by decide)) (fun q => q.2)
    exact Or.inr ⟨i1_eq0.1 (h1.symm.trans y1), t2, rfl, rfl, rfl, rfl, rfl, rfl, rfl⟩
def ps_X7_why (jth jrm jwy jhi jmf jmt jla jre jwr jga jlo jmo jli jta jpt jen jbg jfa jwt jac jng jnl jnm jnv jwm : Int32) (r : Int32) (jth' : Int32) : Prop := r = jwy ∧ jth' = 0
def wp_X7_why (jth jrm jwy jhi jmf jmt jla jre jwr jga jlo jmo jli jta jpt jen jbg jfa jwt jac jng jnl jnm jnv jwm : Int32) (Q : Int32 → Int32 → Prop) : Prop :=
  Q jwy 0
theorem pf_X7_why (jth jrm jwy jhi jmf jmt jla jre jwr jga jlo jmo jli jta jpt jen jbg jfa jwt jac jng jnl jnm jnv jwm : Int32) : wp_X7_why jth jrm jwy jhi jmf jmt jla jre jwr jga jlo jmo jli jta jpt jen jbg jfa jwt jac jng jnl jnm jnv jwm (ps_X7_why jth jrm jwy jhi jmf jmt jla jre jwr jga jlo jmo jli jta jpt jen jbg jfa jwt jac jng jnl jnm jnv jwm) := by
  unfold wp_X7_why
  exact ⟨rfl, rfl⟩
def ps_X7_fault (jth jrm jwy jhi jmf jmt jla jre jwr jga jlo jmo jli jta jpt jen jbg jfa jwt jac jng jnl jnm jnv jwm : Int32) (r : Int32) (jth' : Int32) : Prop := r = jfa ∧ jth' = 0
def wp_X7_fault (jth jrm jwy jhi jmf jmt jla jre jwr jga jlo jmo jli jta jpt jen jbg jfa jwt jac jng jnl jnm jnv jwm : Int32) (Q : Int32 → Int32 → Prop) : Prop :=
  Q jfa 0
theorem pf_X7_fault (jth jrm jwy jhi jmf jmt jla jre jwr jga jlo jmo jli jta jpt jen jbg jfa jwt jac jng jnl jnm jnv jwm : Int32) : wp_X7_fault jth jrm jwy jhi jmf jmt jla jre jwr jga jlo jmo jli jta jpt jen jbg jfa jwt jac jng jnl jnm jnv jwm (ps_X7_fault jth jrm jwy jhi jmf jmt jla jre jwr jga jlo jmo jli jta jpt jen jbg jfa jwt jac jng jnl jnm jnv jwm) := by
  unfold wp_X7_fault
  exact ⟨rfl, rfl⟩
def ps_X7_latest (jth jrm jwy jhi jmf jmt jla jre jwr jga jlo jmo jli jta jpt jen jbg jfa jwt jac jng jnl jnm jnv jwm k : Int32) (r : Int32) (jth' : Int32) : Prop := (∃ K, k = nI K ∧ K ≤ 3 ∧ jth' = 0 ∧ ((K = 0 ∧ r = jga) ∨ (K = 1 ∧ r = jlo) ∨ (K = 2 ∧ r = jmo) ∨ (K = 3 ∧ r = jli))) ∨ (¬ (0 ≤ k ∧ k ≤ 3) ∧ jth' = 1 ∧ r = 0)
def wp_X7_latest (jth jrm jwy jhi jmf jmt jla jre jwr jga jlo jmo jli jta jpt jen jbg jfa jwt jac jng jnl jnm jnv jwm k : Int32) (Q : Int32 → Int32 → Prop) : Prop :=
  ∀ (r_1 : Int32), ps_X7_in k 0 3 r_1 → (∀ J20 : Int32 → Prop, (∀ (t_3 : Int32), (pr_X7_throwsIf 0 jrm jwy jhi jmf jmt jla jre jwr jga jlo jmo jli jta jpt jen jbg jfa jwt jac jng jnl jnm jnv jwm t_3 1 ∧ (∀ (r_4 jth_4 : Int32), ps_X7_throwsIf 0 jrm jwy jhi jmf jmt jla jre jwr jga jlo jmo jli jta jpt jen jbg jfa jwt jac jng jnl jnm jnv jwm t_3 1 r_4 jth_4 → (((r_4 = 0 → ((¬ k = 0 → ((¬ k = 1 → ((¬ k = 2 → (Q jli jth_4)) ∧
 (k = 2 → (Q jmo jth_4)))) ∧
 (k = 1 → (Q jlo jth_4)))) ∧
 (k = 0 → (Q jga jth_4)))) ∧
 (¬ (r_4 = 0) → (Q 0 jth_4)))))) → J20 t_3) →
((¬ r_1 = 0 → (J20 0)) ∧
 (r_1 = 0 → (J20 1))))
theorem pf_X7_latest (jth jrm jwy jhi jmf jmt jla jre jwr jga jlo jmo jli jta jpt jen jbg jfa jwt jac jng jnl jnm jnv jwm k : Int32) : wp_X7_latest jth jrm jwy jhi jmf jmt jla jre jwr jga jlo jmo jli jta jpt jen jbg jfa jwt jac jng jnl jnm jnv jwm k (ps_X7_latest jth jrm jwy jhi jmf jmt jla jre jwr jga jlo jmo jli jta jpt jen jbg jfa jwt jac jng jnl jnm jnv jwm k) := by
  unfold wp_X7_latest
  intro r1 h1 J20 hJ
  have h1 : r1 = i1 (0 ≤ k ∧ k ≤ 3) := h1
  refine ⟨fun y1 => hJ 0 ⟨Or.inl rfl, fun r2 th2 h2 => ⟨fun _ => ?_, fun y2 => absurd h2.1 y2⟩⟩, fun y1 => hJ 1 ⟨Or.inr rfl, fun r2 th2 h2 => ⟨fun y2 => absurd (h2.1.symm.trans y2) (by decide), fun _ => ?_⟩⟩⟩
  · have hk := of_i1 h1 y1
    have t2 : th2 = 0 := h2.2.elim (fun q => q.2) (fun q => absurd q.1 (by decide))
    obtain ⟨K, hK, rfl⟩ : ∃ K, K ≤ 3 ∧ k = nI K := of_le (k := 3) (by decide) hk
    refine ⟨fun a => ⟨fun b => ⟨fun c => Or.inl ⟨K, rfl, hK, t2, Or.inr (Or.inr (Or.inr ⟨?_, rfl⟩))⟩, fun c => Or.inl ⟨2, c, by omega, t2, Or.inr (Or.inr (Or.inl ⟨rfl, rfl⟩))⟩⟩, fun b => Or.inl ⟨1, b, by omega, t2, Or.inr (Or.inl ⟨rfl, rfl⟩)⟩⟩, fun a => Or.inl ⟨0, a, by omega, t2, Or.inl ⟨rfl, rfl⟩⟩⟩
    have n0 : ¬ K = 0 := fun e => a (by rw [e]; rfl)
    have n1 : ¬ K = 1 := fun e => b (by rw [e]; rfl)
    have n2 : ¬ K = 2 := fun e => c (by rw [e]; rfl)
    omega
  · have t2 : th2 = 1 := h2.2.elim (fun q => absurd q.1 (by decide)) (fun q => q.2)
    exact Or.inr ⟨i1_eq0.1 (h1.symm.trans y1), t2, rfl⟩
