/-! sets and sums that grow along a loop (own work) -/
def PassW (N : NetM) (a v : Nat) : Prop := N.op a = true ∧ Rd N.E N.root v ∧ ¬ Rd (N.Eb a) N.root v
theorem ndW {N : NetM} {mW : Nat → Int32} (hN : NetW N mW) {r : Int32} (h : r = mW 0) : r = nI N.n := h.trans hN.2.1
theorem rtW {N : NetM} {mW : Nat → Int32} (hN : NetW N mW) {r : Int32} (h : r = mW 1) : r = nI N.root := h.trans hN.2.2.1
theorem exW {N : NetM} {mW : Nat → Int32} (hN : NetW N mW) : mW ((2 : Int32).toNatClampNeg) = nI N.exit := by
  rw [show (2 : Int32).toNatClampNeg = 2 by decide]; exact hN.2.2.2.1
theorem mnW {N : NetM} {mW : Nat → Int32} (hN : NetW N mW) {r : Int32} (h : r = mW 3) : r = nI N.m := h.trans hN.2.2.2.2.1
theorem no_i1 {r : Int32} {P : Prop} [Decidable P] (h : r = i1 P) (z : r = 0) : ¬ P := i1_eq0.1 (h.symm.trans z)
def Acc (B : Nat → Prop) (k : Nat) (P : Nat → Nat → Prop) (s : Int32) : Prop := IsSet s (fun x => B x ∨ ∃ j, j < k ∧ P j x)
theorem Acc.z {P : Nat → Nat → Prop} : Acc (fun _ => False) 0 P 0 := IsSet.zero.congr (fun _ _ => ⟨fun q => q.elim, fun q => q.elim id (fun ⟨j, h, _⟩ => absurd h (by omega))⟩)
theorem Acc.s {B : Nat → Prop} {P : Nat → Nat → Prop} {s : Int32} (h : IsSet s B) : Acc B 0 P s := h.congr (fun _ _ => ⟨Or.inl, fun q => q.elim id (fun ⟨j, h, _⟩ => absurd h (by omega))⟩)
theorem Acc.no {B : Nat → Prop} {k : Nat} {P : Nat → Nat → Prop} {s : Int32} (h : Acc B k P s) (q : ∀ x, x < 16 → ¬ P k x) : Acc B (k + 1) P s := IsSet.congr h (fun x hx => ⟨fun w => w.elim Or.inl (fun ⟨j, a, b⟩ => Or.inr ⟨j, by omega, b⟩), fun w => w.elim Or.inl (fun ⟨j, a, b⟩ => by
  by_cases e : j = k
  · subst e; exact absurd b (q x hx)
  · exact Or.inr ⟨j, by omega, b⟩)⟩)
theorem Acc.or {B : Nat → Prop} {k : Nat} {P : Nat → Nat → Prop} {s t : Int32} (h : Acc B k P s) (ht : IsSet t (P k)) : Acc B (k + 1) P (s ||| t) := (IsSet.or h ht).congr (fun x hx => ⟨fun w => w.elim (fun w => w.elim Or.inl (fun ⟨j, a, b⟩ => Or.inr ⟨j, by omega, b⟩)) (fun w => Or.inr ⟨k, by omega, w⟩), fun w => w.elim (fun w => Or.inl (Or.inl w)) (fun ⟨j, a, b⟩ => by
  by_cases e : j = k
  · subst e; exact Or.inr b
  · exact Or.inl (Or.inr ⟨j, by omega, b⟩))⟩)
theorem Acc.no0 {B : Nat → Prop} {k : Nat} {P : Nat → Nat → Prop} {s : Int32} (h : Acc B k P s) (q : ∀ x, x < 16 → ¬ P k x) : Acc B (k + 1) P (s ||| 0) := h.or (IsSet.zero.congr (fun x hx => ⟨False.elim, fun z => absurd z (q x hx)⟩))
theorem Acc.hit {B : Nat → Prop} {k b : Nat} {P : Nat → Nat → Prop} {s : Int32} (h : Acc B k P s) (hb : b < 16) (q : ∀ x, x < 16 → (P k x ↔ x = b)) : Acc B (k + 1) P (s ||| ((1 : Int32) <<< (nI b &&& 31))) := h.or ((IsSet.bit hb).congr (fun x hx => (q x hx).symm))
theorem Acc.get {k : Nat} {P : Nat → Nat → Prop} {s : Int32} (h : Acc (fun _ => False) k P s) : IsSet s (fun x => ∃ j, j < k ∧ P j x) := IsSet.congr h (fun _ _ => ⟨fun w => w.elim False.elim id, Or.inr⟩)
theorem KepR.iff {E : Nat → Nat → Prop} {r : Nat} {K : Nat → Int32} (h : KepR E r K) {x v : Nat} (hx : x < 16) (hv : v < 2 ^ 30) : K x = nI v ↔ Id E r v x := by
  rcases h x hx with ⟨a1, a2⟩ | ⟨g, a1, a2, a3⟩
  · rw [a1]; exact ⟨fun q => absurd q.symm (nI_m1 (by omega)), fun q => absurd q (a2 v)⟩
  · rw [a1, eqN (by omega) (by omega)]
    exact ⟨fun q => by subst q; exact a3, fun q => a3.uniq q⟩
theorem cnt_top {P : Nat → Prop} {n : Nat} (h : ∀ j, n ≤ j → ¬ P j) : ∀ d, cnt (n + d) P = cnt n P
  | 0 => rfl
  | d + 1 => by rw [show n + (d + 1) = (n + d) + 1 by omega, cnt_n (h _ (by omega)), cnt_top h d]
theorem cnt_to16 {P : Nat → Prop} {n : Nat} (hn : n ≤ 16) (h : ∀ j, n ≤ j → ¬ P j) : cnt n P = cnt 16 P := by
  have := cnt_top h (16 - n)
  rw [show n + (16 - n) = 16 by omega] at this
  exact this.symm
theorem EGa.but {N : NetM} (hN : N.ok) {K : Nat} (hK : K < N.m) (mt : Int32) : EGa N (-1) mt (-1) (nI K) (N.Eb K) := by
  have h60 := hN.2.2.2.2.1
  refine ⟨fun a b => ⟨?_, ?_⟩, fun q => absurd rfl q⟩
  · rintro ⟨k, h1, h0, h2, h3, h4⟩
    exact Or.inl ⟨k, h1, fun e => h0 ((eqN (by omega) (by omega)).mp e), nI_m1 (by omega), h2, h3, h4⟩
  · rintro (⟨k, h1, h0, -, h2, h3, h4⟩ | ⟨q, -⟩)
    · exact ⟨k, h1, fun e => h0 (by rw [e]), h2, h3, h4⟩
    · exact absurd rfl q
theorem Dm.split {E : Nat → Nat → Prop} {r g x : Nat} (hx : Rd E r x) : Dm E r g x ↔ g = x ∨ Pd E r g x := by
  constructor
  · intro h
    by_cases e : g = x
    · exact Or.inl e
    · exact Or.inr ⟨e, h⟩
  · rintro (rfl | h)
    · exact Dm.refl hx
    · exact h.2
theorem smP_in {P Q : Nat → Prop} {f : Nat → Nat} {g : Nat} (h : ∀ x, P x ↔ x = g ∨ Q x) (hq : ¬ Q g) : ∀ n, smP n P f = smP n Q f + if g < n then f g else 0
  | 0 => rfl
  | n + 1 => by
    have ih := smP_in (f := f) h hq n
    by_cases e : n = g
    · subst e
      rw [smP_s ((h n).2 (Or.inl rfl)), smP_n hq, ih, if_neg (by omega), if_pos (by omega), Nat.add_zero]
    · have hi : (if g < n + 1 then f g else 0) = if g < n then f g else 0 := by
        by_cases l : g < n
        · rw [if_pos l, if_pos (by omega)]
        · rw [if_neg l, if_neg (by omega)]
      rw [hi]
      by_cases q : Q n
      · rw [smP_s ((h n).2 (Or.inr q)), smP_s q, ih]; omega
      · rw [smP_n (fun z => ((h n).1 z).elim e q), smP_n q, ih]
theorem OutG.rd {N : NetM} {v g : Nat} (h : OutG N v g) : Rd N.E N.root g := by
  have w : Rs N.X (fun z => z = g) (fun _ => False) v := h.2.2.way
  exact Rs.trans h.1 (Rs.flip_iff.2 w)
/-! the least tolls, arc by arc (own work) -/
def FsW (N : NetM) (fa : Nat → Int32) : Prop := (∀ x, x < N.n → fa x = -1 ∨ ∃ c l, Vl fa x c ∧ Wk N l c x ∧ c ≤ 99 * cnt N.n (fun z => ¬ fa z = -1)) ∧ ¬ fa N.root = -1 ∧ ∀ c, Vl fa N.root c → c ≤ N.tl N.root
def RelW (N : NetM) (fa : Nat → Int32) (k : Nat) : Prop := N.op k = true → ¬ fa (N.fr k) = -1 → ∀ c, Vl fa (N.fr k) c → ∃ d, Vl fa (N.to k) d ∧ d ≤ c + N.tl (N.to k)
def FcW (N : NetM) (fa : Nat → Int32) : Prop := ∀ k, k < N.m → RelW N fa k
def vlF (fa : Nat → Int32) (x : Nat) : Nat := if fa x = -1 then 2000 else (fa x).toNatClampNeg
def smF : Nat → (Nat → Int32) → Nat
  | 0, _ => 0
  | n + 1, fa => smF n fa + vlF fa n
theorem smF_congr {fa fb : Nat → Int32} : ∀ n, (∀ x, x < n → fa x = fb x) → smF n fa = smF n fb
  | 0, _ => rfl
  | n + 1, h => by
    show smF n fa + vlF fa n = smF n fb + vlF fb n
    rw [smF_congr n (fun x hx => h x (by omega))]
    unfold vlF
    rw [h n (by omega)]
theorem smF_lt {fa : Nat → Int32} {b : Nat} {v : Int32} : ∀ n, b < n → vlF (upd fa b v) b < vlF fa b → smF n (upd fa b v) < smF n fa
  | 0, h, _ => absurd h (by omega)
  | n + 1, h, hl => by
    show smF n (upd fa b v) + vlF (upd fa b v) n < smF n fa + vlF fa n
    by_cases e : b = n
    · subst e
      rw [smF_congr (fb := fa) b (fun x hx => upd_n (by omega))]
      omega
    · have := smF_lt n (by omega) hl
      have e2 : vlF (upd fa b v) n = vlF fa n := by unfold vlF; rw [upd_n (by omega)]
      omega
theorem FsW.relax {N : NetM} (hN : N.ok) {fa : Nat → Int32} (h : FsW N fa) {a b ca la : Nat} (ha : Vl fa a ca) (hw : Wk N la ca a) (hc : ca ≤ 99 * cnt N.n (fun z => ¬ fa z = -1)) (he : N.E a b) (hb : fa b = -1 ∨ ∃ cb, Vl fa b cb ∧ ca + N.tl b < cb) :
    FsW N (upd fa b (nI (ca + N.tl b))) ∧ smF N.n (upd fa b (nI (ca + N.tl b))) < smF N.n fa := by
  have hbn := (NetM.E_lt hN he).2
  have hn := hN.2.1
  have ht : N.tl b ≤ 99 := hN.2.2.2.2.2.2 b (by omega)
  have hn0 : ca + N.tl b < 2 ^ 31 → ¬ nI (ca + N.tl b) = -1 := fun q => nI_m1 q
  have c16 : cnt N.n (fun z => ¬ fa z = -1) ≤ N.n := cnt_le _ _
  have hmono : cnt N.n (fun z => ¬ fa z = -1) ≤ cnt N.n (fun z => ¬ upd fa b (nI (ca + N.tl b)) z = -1) := cnt_mono (fun k _ q => by
    by_cases e : k = b
    · subst e; rw [upd_s]; exact hn0 (by omega)
    · rw [upd_n e]; exact q)
  have hcnt : ca + N.tl b ≤ 99 * cnt N.n (fun z => ¬ upd fa b (nI (ca + N.tl b)) z = -1) := by
    rcases hb with q | ⟨cb, q1, q2⟩
    · have := cnt_lt (n := N.n) (P := fun z => ¬ fa z = -1) (Q := fun z => ¬ upd fa b (nI (ca + N.tl b)) z = -1) (g := b) hbn (fun k _ q => by
        by_cases e : k = b
        · subst e; rw [upd_s]; exact hn0 (by omega)
        · rw [upd_n e]; exact q) (fun z => z q) (by rw [upd_s]; exact hn0 (by omega))
      omega
    · rcases h.1 b hbn with q | ⟨c, l, w1, w2, w3⟩
      · exact absurd q q1.ne
      · have := w1.uniq q1; omega
  have d16 : cnt N.n (fun z => ¬ upd fa b (nI (ca + N.tl b)) z = -1) ≤ N.n := cnt_le _ _
  have hv : Vl (upd fa b (nI (ca + N.tl b))) b (ca + N.tl b) := ⟨upd_s, by omega⟩
  refine ⟨⟨fun x hx => ?_, ?_, ?_⟩, smF_lt _ hbn ?_⟩
  · by_cases e : x = b
    · subst e
      exact Or.inr ⟨_, la + 1, hv, ⟨a, ca, hw, he, rfl⟩, hcnt⟩
    · rcases h.1 x hx with q | ⟨c, l, q1, q2, q3⟩
      · exact Or.inl (by rw [upd_n e]; exact q)
      · exact Or.inr ⟨c, l, ⟨by rw [upd_n e]; exact q1.1, q1.2⟩, q2, by omega⟩
  · by_cases e : N.root = b
    · rw [e, upd_s]; exact hn0 (by omega)
    · rw [upd_n e]; exact h.2.1
  · intro c q
    by_cases e : N.root = b
    · have := (show Vl (upd fa b (nI (ca + N.tl b))) b c by rw [← e] at q ⊢; exact q).uniq hv
      rcases hb with w | ⟨cb, w1, w2⟩
      · exact absurd (by rw [e]; exact w) h.2.1
      · have := h.2.2 cb (by rw [e]; exact w1)
        omega
    · exact h.2.2 c ⟨by have := q.1; rwa [upd_n e] at this, q.2⟩
  · have e1 : vlF (upd fa b (nI (ca + N.tl b))) b = ca + N.tl b := by
      unfold vlF
      rw [upd_s, if_neg (hn0 (by omega)), clN (by omega)]
    rw [e1]
    unfold vlF
    rcases hb with q | ⟨cb, q1, q2⟩
    · rw [if_pos q]; omega
    · have := q1.2
      rw [if_neg q1.ne, q1.1, clN (by omega)]; exact q2
theorem FcW.fin {N : NetM} (hN : N.ok) {fa : Nat → Int32} (h : FcW N fa) (hF : FsW N fa) {v : Nat} (hv : v < N.n) : FareIs N v (fa v) := by
  have all : ∀ l c x, Wk N l c x → ∃ d, Vl fa x d ∧ d ≤ c := by
    intro l
    induction l with
    | zero =>
      rintro c x ⟨rfl, rfl⟩
      obtain ⟨d, _, w, _⟩ := (hF.1 _ hN.2.2.1).resolve_left hF.2.1
      exact ⟨d, w, hF.2.2 d w⟩
    | succ l ih =>
      rintro c x ⟨y, c', w, ⟨k, k1, k2, rfl, rfl⟩, rfl⟩
      obtain ⟨d, d1, d2⟩ := ih c' _ w
      obtain ⟨e, e1, e2⟩ := h k k1 k2 d1.ne d d1
      exact ⟨e, e1, by omega⟩
  rcases hF.1 v hv with q | ⟨c, l, w1, w2, -⟩
  · exact Or.inl ⟨q, fun l c w => by obtain ⟨d, d1, _⟩ := all l c v w; exact d1.ne q⟩
  · refine Or.inr ⟨c, l, w1.1, w2, fun l' c' w => ?_⟩
    obtain ⟨d, d1, d2⟩ := all l' c' v w
    have := d1.uniq w1
    omega
/-! mod3: contracts, pure predicates (printed by gen.py) -/
def pr_X7_ownOf (N : NetM) (V : Nat) (jth jrm jwy jhi jmf jmt jla jre jwr jga jlo jmo jli jta jpt jen jbg jfa jwt jac jng jnl jnm jnv jwm : Int32) (mW mK : Nat → Int32) (v : Int32) : Prop := NetW N mW ∧ KepR N.E N.root mK ∧ v = nI V ∧ V < N.n
def ps_X7_ownOf (N : NetM) (V : Nat) (jth jrm jwy jhi jmf jmt jla jre jwr jga jlo jmo jli jta jpt jen jbg jfa jwt jac jng jnl jnm jnv jwm : Int32) (mW mK : Nat → Int32) (v : Int32) (r : Int32)  : Prop := IsSet r (fun n0 => n0 < N.n ∧ Id N.E N.root V n0)
def wp_X7_ownOf_L4 (jth jrm jwy jhi jmf jmt jla jre jwr jga jlo jmo jli jta jpt jen jbg jfa jwt jac jng jnl jnm jnv jwm : Int32) (mW mK : Nat → Int32) (v : Int32) (J38 : Int32 → Prop) (ix3_21 ix2_22 : Int32) : Prop :=
  ∀ X4 : Int32 → Int32 → Prop, (∀ (x3_21 : Int32) (x2_22 : Int32), (∀ (r_24 : Int32), ps_X7_nodes jth jrm jwy jhi jmf jmt jla jre jwr jga jlo jmo jli jta jpt jen jbg jfa jwt jac jng jnl jnm jnv jwm mW r_24 → (((r_24 ≤ x3_21 → (J38 x2_22)) ∧
 (¬ (r_24 ≤ x3_21) → (vp_in x3_21 16 ∧ (((¬ (mK x3_21.toNatClampNeg) = v → (X4 (x3_21 + 1) (x2_22 ||| 0))) ∧
 ((mK x3_21.toNatClampNeg) = v → (X4 (x3_21 + 1) (x2_22 ||| (1 <<< (x3_21 &&& 31)))))))))))) → X4 x3_21 x2_22) → X4 ix3_21 ix2_22
def wp_X7_ownOf (jth jrm jwy jhi jmf jmt jla jre jwr jga jlo jmo jli jta jpt jen jbg jfa jwt jac jng jnl jnm jnv jwm : Int32) (mW mK : Nat → Int32) (v : Int32) (Q : Int32 → Prop) : Prop :=
  ∀ J38 : Int32 → Prop, (∀ (x2_19 : Int32), (Q x2_19) → J38 x2_19) →
wp_X7_ownOf_L4 jth jrm jwy jhi jmf jmt jla jre jwr jga jlo jmo jli jta jpt jen jbg jfa jwt jac jng jnl jnm jnv jwm mW mK v J38 0 0
theorem pf_X7_ownOf (N : NetM) (V : Nat) (jth jrm jwy jhi jmf jmt jla jre jwr jga jlo jmo jli jta jpt jen jbg jfa jwt jac jng jnl jnm jnv jwm : Int32) (mW mK : Nat → Int32) (v : Int32) (hp : pr_X7_ownOf N V jth jrm jwy jhi jmf jmt jla jre jwr jga jlo jmo jli jta jpt jen jbg jfa jwt jac jng jnl jnm jnv jwm mW mK v) : wp_X7_ownOf jth jrm jwy jhi jmf jmt jla jre jwr jga jlo jmo jli jta jpt jen jbg jfa jwt jac jng jnl jnm jnv jwm mW mK v (ps_X7_ownOf N V jth jrm jwy jhi jmf jmt jla jre jwr jga jlo jmo jli jta jpt jen jbg jfa jwt jac jng jnl jnm jnv jwm mW mK v) := by
  unfold wp_X7_ownOf
  obtain ⟨hN, hK, rfl, hV⟩ := hp
  have h16 := hN.1.2.1
  intro J hJ X hX
  refine up1 N.n (fun k s => Acc (fun _ => False) k (fun j x => x = j ∧ Id N.E N.root V j) s) (fun k s hk hI hh => hX _ _ (fun r1 h1 => ?_)) (fun s hI => hX _ _ (fun r1 h1 => ?_)) 0 0 (Nat.zero_le _) Acc.z
  · rw [ndW hN h1, leN (by omega) (by omega)]
    refine ⟨fun z => absurd z (by omega), fun _ => ⟨vp_in_nI (by omega) (by decide), ?_⟩⟩
    rw [clN (by omega), hK.iff (by omega) (by omega)]
    exact ⟨fun z => hh _ (hI.no0 (fun x _ w => z w.2)), fun z => hh _ (hI.hit (by omega) (fun x _ => ⟨fun w => w.1, fun w => ⟨w, z⟩⟩))⟩
  · rw [ndW hN h1]
    exact ⟨fun _ => hJ _ (hI.get.congr (fun x _ => ⟨fun ⟨j, a, b, c⟩ => by subst b; exact ⟨a, c⟩, fun w => ⟨x, w.1, rfl, w.2⟩⟩)), fun z => absurd (Int32.le_refl _) z⟩
def pr_X7_edgeOf (N : NetM) (V : Nat) (jth jrm jwy jhi jmf jmt jla jre jwr jga jlo jmo jli jta jpt jen jbg jfa jwt jac jng jnl jnm jnv jwm : Int32) (mW mG : Nat → Int32) (v : Int32) : Prop := NetW N mW ∧ IsSet jre (Rd N.E N.root) ∧ (∀ x, x < 16 → IsSet (mG x) (fun z => Pd N.E N.root z x)) ∧ v = nI V ∧ V < N.n
def ps_X7_edgeOf (N : NetM) (V : Nat) (jth jrm jwy jhi jmf jmt jla jre jwr jga jlo jmo jli jta jpt jen jbg jfa jwt jac jng jnl jnm jnv jwm : Int32) (mW mG : Nat → Int32) (v : Int32) (r : Int32)  : Prop := IsSet r (fun b => Rd N.E N.root V ∧ ∃ n, Dm N.E N.root V n ∧ N.E n b ∧ ¬ Pd N.E N.root V b)
def wp_X7_edgeOf_L28 (jth jrm jwy jhi jmf jmt jla jre jwr jga jlo jmo jli jta jpt jen jbg jfa jwt jac jng jnl jnm jnv jwm : Int32) (mW mG : Nat → Int32) (v r_3 : Int32) (J90 : Int32 → Prop) (ix4_46 ix3_47 : Int32) : Prop :=
  ∀ X28 : Int32 → Int32 → Prop, (∀ (x4_46 : Int32) (x3_47 : Int32), (∀ (r_49 : Int32), ps_X7_arcs jth jrm jwy jhi jmf jmt jla jre jwr jga jlo jmo jli jta jpt jen jbg jfa jwt jac jng jnl jnm jnv jwm mW r_49 → (((r_49 ≤ x4_46 → (J90 x3_47)) ∧
 (¬ (r_49 ≤ x4_46) → (∃ (N_51 : NetM) (K_51 : Nat), (pr_X7_isOpen N_51 K_51 jth jrm jwy jhi jmf jmt jla jre jwr jga jlo jmo jli jta jpt jen jbg jfa jwt jac jng jnl jnm jnv jwm mW x4_46 ∧ (∀ (r_51 : Int32), ps_X7_isOpen N_51 K_51 jth jrm jwy jhi jmf jmt jla jre jwr jga jlo jmo jli jta jpt jen jbg jfa jwt jac jng jnl jnm jnv jwm mW x4_46 r_51 → (((r_51 = 0 → (X28 (x4_46 + 1) x3_47)) ∧
 (¬ (r_51 = 0) → (∃ (N_53 : NetM) (K_53 : Nat), (pr_X7_fromOf N_53 K_53 jth jrm jwy jhi jmf jmt jla jre jwr jga jlo jmo jli jta jpt jen jbg jfa jwt jac jng jnl jnm jnv jwm mW x4_46 ∧ (∀ (r_53 : Int32), ps_X7_fromOf N_53 K_53 jth jrm jwy jhi jmf jmt jla jre jwr jga jlo jmo jli jta jpt jen jbg jfa jwt jac jng jnl jnm jnv jwm mW x4_46 r_53 → (∀ (r_54 : Int32), ps_X7_holds (r_3 ||| (1 <<< (v &&& 31))) r_53 r_54 → (((r_54 = 0 → (X28 (x4_46 + 1) x3_47)) ∧
 (¬ (r_54 = 0) → (∃ (N_56 : NetM) (K_56 : Nat), (pr_X7_toOf N_56 K_56 jth jrm jwy jhi jmf jmt jla jre jwr jga jlo jmo jli jta jpt jen jbg jfa jwt jac jng jnl jnm jnv jwm mW x4_46 ∧ (∀ (r_56 : Int32), ps_X7_toOf N_56 K_56 jth jrm jwy jhi jmf jmt jla jre jwr jga jlo jmo jli jta jpt jen jbg jfa jwt jac jng jnl jnm jnv jwm mW x4_46 r_56 → (∃ (E_57 : Nat → Nat → Prop) (ro_57 B_57 V_57 : Nat), (pr_X7_keepsOne E_57 ro_57 B_57 V_57 jth jrm jwy jhi jmf jmt jla jre jwr jga jlo jmo jli jta jpt jen jbg jfa jwt jac jng jnl jnm jnv jwm mG v r_56 ∧ (∀ (r_57 : Int32), ps_X7_keepsOne E_57 ro_57 B_57 V_57 jth jrm jwy jhi jmf jmt jla jre jwr jga jlo jmo jli jta jpt jen jbg jfa jwt jac jng jnl jnm jnv jwm mG v r_56 r_57 → (((¬ r_57 = 0 → (X28 (x4_46 + 1) x3_47)) ∧
 (r_57 = 0 → (∃ (N_59 : NetM) (K_59 : Nat), (pr_X7_toOf N_59 K_59 jth jrm jwy jhi jmf jmt jla jre jwr jga jlo jmo jli jta jpt jen jbg jfa jwt jac jng jnl jnm jnv jwm mW x4_46 ∧ (∀ (r_59 : Int32), ps_X7_toOf N_59 K_59 jth jrm jwy jhi jmf jmt jla jre jwr jga jlo jmo jli jta jpt jen jbg jfa jwt jac jng jnl jnm jnv jwm mW x4_46 r_59 → (X28 (x4_46 + 1) (x3_47 ||| (1 <<< (r_59 &&& 31))))))))))))))))))))))))))))))))) → X28 x4_46 x3_47) → X28 ix4_46 ix3_47
def wp_X7_edgeOf (jth jrm jwy jhi jmf jmt jla jre jwr jga jlo jmo jli jta jpt jen jbg jfa jwt jac jng jnl jnm jnv jwm : Int32) (mW mG : Nat → Int32) (v : Int32) (Q : Int32 → Prop) : Prop :=
  ∀ (r_1 : Int32), ps_X7_holds jre v r_1 → (((¬ r_1 = 0 → (∃ (N_3 : NetM) (V_3 : Nat), (pr_X7_keptBy N_3 V_3 jth jrm jwy jhi jmf jmt jla jre jwr jga jlo jmo jli jta jpt jen jbg jfa jwt jac jng jnl jnm jnv jwm mW mG v ∧ (∀ (r_3 : Int32), ps_X7_keptBy N_3 V_3 jth jrm jwy jhi jmf jmt jla jre jwr jga jlo jmo jli jta jpt jen jbg jfa jwt jac jng jnl jnm jnv jwm mW mG v r_3 → (∀ J90 : Int32 → Prop, (∀ (x3_44 : Int32), (Q x3_44) → J90 x3_44) →
wp_X7_edgeOf_L28 jth jrm jwy jhi jmf jmt jla jre jwr jga jlo jmo jli jta jpt jen jbg jfa jwt jac jng jnl jnm jnv jwm mW mG v r_3 J90 0 0))))) ∧
 (r_1 = 0 → (Q 0))))
theorem pf_X7_edgeOf (N : NetM) (V : Nat) (jth jrm jwy jhi jmf jmt jla jre jwr jga jlo jmo jli jta jpt jen jbg jfa jwt jac jng jnl jnm jnv jwm : Int32) (mW mG : Nat → Int32) (v : Int32) (hp : pr_X7_edgeOf N V jth jrm jwy jhi jmf jmt jla jre jwr jga jlo jmo jli jta jpt jen jbg jfa jwt jac jng jnl jnm jnv jwm mW mG v) : wp_X7_edgeOf jth jrm jwy jhi jmf jmt jla jre jwr jga jlo jmo jli jta jpt jen jbg jfa jwt jac jng jnl jnm jnv jwm mW mG v (ps_X7_edgeOf N V jth jrm jwy jhi jmf jmt jla jre jwr jga jlo jmo jli jta jpt jen jbg jfa jwt jac jng jnl jnm jnv jwm mW mG v) := by
  unfold wp_X7_edgeOf
  obtain ⟨hN, hr, hG, rfl, hV⟩ := hp
  have h16 := hN.1.2.1
  have h60 := hN.1.2.2.2.2.1
  refine fun r1 h1 => ⟨fun z => ?_, fun z => IsSet.zero.congr (fun x _ => ⟨False.elim, fun w => absurd w.1 (hold_z h1 hr (by omega) z)⟩)⟩
  have hRd := hold_p h1 hr (by omega) z
  refine ⟨N, V, ⟨hN, hG, rfl, hV⟩, fun r3 h3 J hJ X hX => ?_⟩
  have h3 : IsSet r3 (fun x => Pd N.E N.root V x) := h3
  have hown : IsSet (r3 ||| ((1 : Int32) <<< (nI V &&& 31))) (fun x => Dm N.E N.root V x) := (h3.or (IsSet.bit (by omega))).congr (fun x _ => ⟨fun w => w.elim (fun w => w.2) (fun w => by subst w; exact Dm.refl hRd), fun w => ((Dm.split w.R).1 w).elim (fun e => Or.inr e.symm) Or.inl⟩)
  refine up1 N.m (fun k s => Acc (fun _ => False) k (fun j x => N.op j = true ∧ Dm N.E N.root V (N.fr j) ∧ ¬ Pd N.E N.root V (N.to j) ∧ x = N.to j) s) (fun k s hk hI hh => hX _ _ (fun r1 h1 => ?_)) (fun s hI => hX _ _ (fun r1 h1 => ?_)) 0 0 (Nat.zero_le _) Acc.z
  · rw [mnW hN h1, leN (by omega) (by omega)]
    have harc := hN.1.2.2.2.2.2.1 k hk
    refine ⟨fun z => absurd z (by omega), fun _ => ⟨N, k, ⟨hN, rfl, hk⟩, fun r4 h4 => ⟨fun y => hh _ (hI.no (fun x _ w => no_i1 h4 y w.1)), fun y => ⟨N, k, ⟨hN, rfl, hk⟩, fun r5 h5 r6 h6 => ?_⟩⟩⟩⟩
    have h5 : r5 = nI (N.fr k) := h5
    subst h5
    refine ⟨fun y2 => hh _ (hI.no (fun x _ w => hold_z h6 hown (by omega) y2 w.2.1)), fun y2 => ⟨N, k, ⟨hN, rfl, hk⟩, fun r7 h7 => ?_⟩⟩
    have h7 : r7 = nI (N.to k) := h7
    subst h7
    refine ⟨N.E, N.root, V, N.to k, ⟨hG, rfl, by omega, rfl, by omega⟩, fun r8 h8 => ⟨fun y3 => hh _ (hI.no (fun x _ w => w.2.2.1 (IsB.pos h8 y3))), fun y3 => ⟨N, k, ⟨hN, rfl, hk⟩, fun r9 h9 => ?_⟩⟩⟩
    have h9 : r9 = nI (N.to k) := h9
    subst h9
    exact hh _ (hI.hit (by omega) (fun x _ => ⟨fun w => w.2.2.2, fun w => ⟨of_i1 h4 y, hold_p h6 hown (by omega) y2, IsB.neg h8 y3, w⟩⟩))
  · rw [mnW hN h1]
    refine ⟨fun _ => hJ _ (hI.get.congr (fun x _ => ⟨?_, ?_⟩)), fun z => absurd (Int32.le_refl _) z⟩
    · rintro ⟨j, a, b, c, d, rfl⟩
      exact ⟨hRd, N.fr j, c, ⟨j, a, b, rfl, rfl⟩, d⟩
    · rintro ⟨-, n, a, ⟨j, b1, b2, rfl, rfl⟩, c⟩
      exact ⟨j, b1, b2, a, c, rfl⟩
def pr_X7_isBack (N : NetM) (K : Nat) (jth jrm jwy jhi jmf jmt jla jre jwr jga jlo jmo jli jta jpt jen jbg jfa jwt jac jng jnl jnm jnv jwm : Int32) (mW mG : Nat → Int32) (k : Int32) : Prop := NetW N mW ∧ IsSet jre (Rd N.E N.root) ∧ (∀ x, x < 16 → IsSet (mG x) (fun z => Pd N.E N.root z x)) ∧ k = nI K ∧ K < N.m
def ps_X7_isBack (N : NetM) (K : Nat) (jth jrm jwy jhi jmf jmt jla jre jwr jga jlo jmo jli jta jpt jen jbg jfa jwt jac jng jnl jnm jnv jwm : Int32) (mW mG : Nat → Int32) (k : Int32) (r : Int32)  : Prop := IsB r (N.op K = true ∧ Rd N.E N.root (N.fr K) ∧ Dm N.E N.root (N.to K) (N.fr K))
def wp_X7_isBack (jth jrm jwy jhi jmf jmt jla jre jwr jga jlo jmo jli jta jpt jen jbg jfa jwt jac jng jnl jnm jnv jwm : Int32) (mW mG : Nat → Int32) (k : Int32) (Q : Int32 → Prop) : Prop :=
  ∃ (N_1 : NetM) (K_1 : Nat), (pr_X7_isOpen N_1 K_1 jth jrm jwy jhi jmf jmt jla jre jwr jga jlo jmo jli jta jpt jen jbg jfa jwt jac jng jnl jnm jnv jwm mW k ∧ (∀ (r_1 : Int32), ps_X7_isOpen N_1 K_1 jth jrm jwy jhi jmf jmt jla jre jwr jga jlo jmo jli jta jpt jen jbg jfa jwt jac jng jnl jnm jnv jwm mW k r_1 → (((r_1 = 0 → (Q 0)) ∧
 (¬ (r_1 = 0) → (∃ (N_3 : NetM) (K_3 : Nat), (pr_X7_fromOf N_3 K_3 jth jrm jwy jhi jmf jmt jla jre jwr jga jlo jmo jli jta jpt jen jbg jfa jwt jac jng jnl jnm jnv jwm mW k ∧ (∀ (r_3 : Int32), ps_X7_fromOf N_3 K_3 jth jrm jwy jhi jmf jmt jla jre jwr jga jlo jmo jli jta jpt jen jbg jfa jwt jac jng jnl jnm jnv jwm mW k r_3 → (∀ (r_4 : Int32), ps_X7_holds jre r_3 r_4 → (((r_4 = 0 → (Q 0)) ∧
 (¬ (r_4 = 0) → (∃ (N_6 : NetM) (K_6 : Nat), (pr_X7_fromOf N_6 K_6 jth jrm jwy jhi jmf jmt jla jre jwr jga jlo jmo jli jta jpt jen jbg jfa jwt jac jng jnl jnm jnv jwm mW k ∧ (∀ (r_6 : Int32), ps_X7_fromOf N_6 K_6 jth jrm jwy jhi jmf jmt jla jre jwr jga jlo jmo jli jta jpt jen jbg jfa jwt jac jng jnl jnm jnv jwm mW k r_6 → (∃ (N_7 : NetM) (K_7 : Nat), (pr_X7_toOf N_7 K_7 jth jrm jwy jhi jmf jmt jla jre jwr jga jlo jmo jli jta jpt jen jbg jfa jwt jac jng jnl jnm jnv jwm mW k ∧ (∀ (r_7 : Int32), ps_X7_toOf N_7 K_7 jth jrm jwy jhi jmf jmt jla jre jwr jga jlo jmo jli jta jpt jen jbg jfa jwt jac jng jnl jnm jnv jwm mW k r_7 → (((r_6 = r_7 → (Q 1)) ∧
 (¬ (r_6 = r_7) → (∃ (N_9 : NetM) (K_9 : Nat), (pr_X7_toOf N_9 K_9 jth jrm jwy jhi jmf jmt jla jre jwr jga jlo jmo jli jta jpt jen jbg jfa jwt jac jng jnl jnm jnv jwm mW k ∧ (∀ (r_9 : Int32), ps_X7_toOf N_9 K_9 jth jrm jwy jhi jmf jmt jla jre jwr jga jlo jmo jli jta jpt jen jbg jfa jwt jac jng jnl jnm jnv jwm mW k r_9 → (∃ (N_10 : NetM) (K_10 : Nat), (pr_X7_fromOf N_10 K_10 jth jrm jwy jhi jmf jmt jla jre jwr jga jlo jmo jli jta jpt jen jbg jfa jwt jac jng jnl jnm jnv jwm mW k ∧ (∀ (r_10 : Int32), ps_X7_fromOf N_10 K_10 jth jrm jwy jhi jmf jmt jla jre jwr jga jlo jmo jli jta jpt jen jbg jfa jwt jac jng jnl jnm jnv jwm mW k r_10 → (∃ (E_11 : Nat → Nat → Prop) (ro_11 B_11 V_11 : Nat), (pr_X7_keepsOne E_11 ro_11 B_11 V_11 jth jrm jwy jhi jmf jmt jla jre jwr jga jlo jmo jli jta jpt jen jbg jfa jwt jac jng jnl jnm jnv jwm mG r_9 r_10 ∧ (∀ (r_11 : Int32), ps_X7_keepsOne E_11 ro_11 B_11 V_11 jth jrm jwy jhi jmf jmt jla jre jwr jga jlo jmo jli jta jpt jen jbg jfa jwt jac jng jnl jnm jnv jwm mG r_9 r_10 r_11 → (((r_11 = 0 → (Q 0)) ∧
 (¬ (r_11 = 0) → (Q 1))))))))))))))))))))))))))))))))))
theorem pf_X7_isBack (N : NetM) (K : Nat) (jth jrm jwy jhi jmf jmt jla jre jwr jga jlo jmo jli jta jpt jen jbg jfa jwt jac jng jnl jnm jnv jwm : Int32) (mW mG : Nat → Int32) (k : Int32) (hp : pr_X7_isBack N K jth jrm jwy jhi jmf jmt jla jre jwr jga jlo jmo jli jta jpt jen jbg jfa jwt jac jng jnl jnm jnv jwm mW mG k) : wp_X7_isBack jth jrm jwy jhi jmf jmt jla jre jwr jga jlo jmo jli jta jpt jen jbg jfa jwt jac jng jnl jnm jnv jwm mW mG k (ps_X7_isBack N K jth jrm jwy jhi jmf jmt jla jre jwr jga jlo jmo jli jta jpt jen jbg jfa jwt jac jng jnl jnm jnv jwm mW mG k) := by
  unfold wp_X7_isBack
  obtain ⟨hN, hr, hG, rfl, hK⟩ := hp
  have h16 := hN.1.2.1
  have h60 := hN.1.2.2.2.2.1
  have harc := hN.1.2.2.2.2.2.1 K hK
  have ha : pr_X7_fromOf N K jth jrm jwy jhi jmf jmt jla jre jwr jga jlo jmo jli jta jpt jen jbg jfa jwt jac jng jnl jnm jnv jwm mW (nI K) := ⟨hN, rfl, hK⟩
  refine ⟨N, K, ⟨hN, rfl, hK⟩, fun r1 h1 => ⟨fun y => Or.inr ⟨rfl, fun w => no_i1 h1 y w.1⟩, fun y => ⟨N, K, ha, fun r2 h2 r3 h3 => ?_⟩⟩⟩
  have h2 : r2 = nI (N.fr K) := h2
  subst h2
  refine ⟨fun y2 => Or.inr ⟨rfl, fun w => hold_z h3 hr (by omega) y2 w.2.1⟩, fun y2 => ⟨N, K, ha, fun r4 h4 => ⟨N, K, ⟨hN, rfl, hK⟩, fun r5 h5 => ?_⟩⟩⟩
  have h4 : r4 = nI (N.fr K) := h4
  subst h4
  have h5 : r5 = nI (N.to K) := h5
  subst h5
  have hop := of_i1 h1 y
  have hrd := hold_p h3 hr (by omega) y2
  rw [eqN (by omega) (by omega)]
  refine ⟨fun e => Or.inl ⟨rfl, hop, hrd, by rw [← e]; exact Dm.refl hrd⟩, fun ne => ⟨N, K, ⟨hN, rfl, hK⟩, fun r6 h6 => ⟨N, K, ha, fun r7 h7 => ?_⟩⟩⟩
  have h6 : r6 = nI (N.to K) := h6
  subst h6
  have h7 : r7 = nI (N.fr K) := h7
  subst h7
  exact ⟨N.E, N.root, N.to K, N.fr K, ⟨hG, rfl, by omega, rfl, by omega⟩, fun r8 h8 => ⟨fun y3 => Or.inr ⟨rfl, fun w => IsB.neg h8 y3 ⟨fun e => ne e.symm, w.2.2⟩⟩, fun y3 => Or.inl ⟨rfl, hop, hrd, (IsB.pos h8 y3).2⟩⟩⟩
def pr_X7_bodyOf (N : NetM) (V : Nat) (jth jrm jwy jhi jmf jmt jla jre jwr jga jlo jmo jli jta jpt jen jbg jfa jwt jac jng jnl jnm jnv jwm : Int32) (mW mG : Nat → Int32) (v : Int32) : Prop := NetW N mW ∧ IsSet jre (Rd N.E N.root) ∧ (∀ x, x < 16 → IsSet (mG x) (fun z => Pd N.E N.root z x)) ∧ v = nI V ∧ V < N.n
def ps_X7_bodyOf (N : NetM) (V : Nat) (jth jrm jwy jhi jmf jmt jla jre jwr jga jlo jmo jli jta jpt jen jbg jfa jwt jac jng jnl jnm jnv jwm : Int32) (mW mG : Nat → Int32) (v : Int32) (r : Int32)  : Prop := IsSet r (Body N.E N.root V)
def wp_X7_bodyOf_L7 (jth jrm jwy jhi jmf jmt jla jre jwr jga jlo jmo jli jta jpt jen jbg jfa jwt jac jng jnl jnm jnv jwm : Int32) (mW mG : Nat → Int32) (v : Int32) (J57 : Int32 → Int32 → Prop) (ix4_36 ix3_37 ix2_38 : Int32) : Prop :=
  ∀ X7 : Int32 → Int32 → Int32 → Prop, (∀ (x4_36 : Int32) (x3_37 : Int32) (x2_38 : Int32), (∀ (r_40 : Int32), ps_X7_arcs jth jrm jwy jhi jmf jmt jla jre jwr jga jlo jmo jli jta jpt jen jbg jfa jwt jac jng jnl jnm jnv jwm mW r_40 → (((r_40 ≤ x4_36 → (J57 x3_37 x2_38)) ∧
 (¬ (r_40 ≤ x4_36) → (∃ (N_42 : NetM) (K_42 : Nat), (pr_X7_isBack N_42 K_42 jth jrm jwy jhi jmf jmt jla jre jwr jga jlo jmo jli jta jpt jen jbg jfa jwt jac jng jnl jnm jnv jwm mW mG x4_36 ∧ (∀ (r_42 : Int32), ps_X7_isBack N_42 K_42 jth jrm jwy jhi jmf jmt jla jre jwr jga jlo jmo jli jta jpt jen jbg jfa jwt jac jng jnl jnm jnv jwm mW mG x4_36 r_42 → (((r_42 = 0 → (X7 (x4_36 + 1) x3_37 x2_38)) ∧
 (¬ (r_42 = 0) → (∃ (N_44 : NetM) (K_44 : Nat), (pr_X7_toOf N_44 K_44 jth jrm jwy jhi jmf jmt jla jre jwr jga jlo jmo jli jta jpt jen jbg jfa jwt jac jng jnl jnm jnv jwm mW x4_36 ∧ (∀ (r_44 : Int32), ps_X7_toOf N_44 K_44 jth jrm jwy jhi jmf jmt jla jre jwr jga jlo jmo jli jta jpt jen jbg jfa jwt jac jng jnl jnm jnv jwm mW x4_36 r_44 → (((r_44 = v → (∃ (N_46 : NetM) (K_46 : Nat), (pr_X7_fromOf N_46 K_46 jth jrm jwy jhi jmf jmt jla jre jwr jga jlo jmo jli jta jpt jen jbg jfa jwt jac jng jnl jnm jnv jwm mW x4_36 ∧ (∀ (r_46 : Int32), ps_X7_fromOf N_46 K_46 jth jrm jwy jhi jmf jmt jla jre jwr jga jlo jmo jli jta jpt jen jbg jfa jwt jac jng jnl jnm jnv jwm mW x4_36 r_46 → (X7 (x4_36 + 1) 1 (x2_38 ||| (1 <<< (r_46 &&& 31)))))))) ∧
 (¬ (r_44 = v) → (X7 (x4_36 + 1) x3_37 x2_38))))))))))))))))) → X7 x4_36 x3_37 x2_38) → X7 ix4_36 ix3_37 ix2_38
def wp_X7_bodyOf (jth jrm jwy jhi jmf jmt jla jre jwr jga jlo jmo jli jta jpt jen jbg jfa jwt jac jng jnl jnm jnv jwm : Int32) (mW mG : Nat → Int32) (v : Int32) (Q : Int32 → Prop) : Prop :=
  ∀ J57 : Int32 → Int32 → Prop, (∀ (x3_31 : Int32) (x2_32 : Int32), (((x3_31 = 0 → (Q 0)) ∧
 (¬ (x3_31 = 0) → (∃ (N_34 : NetM) (A_34 B_34 : Nat → Prop), (pr_X7_comers N_34 A_34 B_34 jth jrm jwy jhi jmf jmt jla jre jwr jga jlo jmo jli jta jpt jen jbg jfa jwt jac jng jnl jnm jnv jwm mW (x2_32 &&& ((1 <<< (v &&& 31)) ^^^ (-1))) (1 <<< (v &&& 31)) ∧ (∀ (r_34 : Int32), ps_X7_comers N_34 A_34 B_34 jth jrm jwy jhi jmf jmt jla jre jwr jga jlo jmo jli jta jpt jen jbg jfa jwt jac jng jnl jnm jnv jwm mW (x2_32 &&& ((1 <<< (v &&& 31)) ^^^ (-1))) (1 <<< (v &&& 31)) r_34 → (Q ((r_34 &&& jre) ||| (1 <<< (v &&& 31)))))))))) → J57 x3_31 x2_32) →
wp_X7_bodyOf_L7 jth jrm jwy jhi jmf jmt jla jre jwr jga jlo jmo jli jta jpt jen jbg jfa jwt jac jng jnl jnm jnv jwm mW mG v J57 0 0 0
theorem pf_X7_bodyOf (N : NetM) (V : Nat) (jth jrm jwy jhi jmf jmt jla jre jwr jga jlo jmo jli jta jpt jen jbg jfa jwt jac jng jnl jnm jnv jwm : Int32) (mW mG : Nat → Int32) (v : Int32) (hp : pr_X7_bodyOf N V jth jrm jwy jhi jmf jmt jla jre jwr jga jlo jmo jli jta jpt jen jbg jfa jwt jac jng jnl jnm jnv jwm mW mG v) : wp_X7_bodyOf jth jrm jwy jhi jmf jmt jla jre jwr jga jlo jmo jli jta jpt jen jbg jfa jwt jac jng jnl jnm jnv jwm mW mG v (ps_X7_bodyOf N V jth jrm jwy jhi jmf jmt jla jre jwr jga jlo jmo jli jta jpt jen jbg jfa jwt jac jng jnl jnm jnv jwm mW mG v) := by
  unfold wp_X7_bodyOf
  obtain ⟨hN, hr, hG, rfl, hV⟩ := hp
  have h16 := hN.1.2.1
  have h60 := hN.1.2.2.2.2.1
  intro J hJ X hX
  refine up2 N.m (fun k is s => IsB is (∃ j, j < k ∧ (N.op j = true ∧ Rd N.E N.root (N.fr j) ∧ Dm N.E N.root (N.to j) (N.fr j)) ∧ N.to j = V) ∧ Acc (fun _ => False) k (fun j x => ((N.op j = true ∧ Rd N.E N.root (N.fr j) ∧ Dm N.E N.root (N.to j) (N.fr j)) ∧ N.to j = V) ∧ x = N.fr j) s) (fun k is s hk hI hh => hX _ _ _ (fun r1 h1 => ?_)) (fun is s hI => hX _ _ _ (fun r1 h1 => ?_)) 0 0 0 (Nat.zero_le _) ⟨Or.inr ⟨rfl, fun ⟨j, h, _⟩ => absurd h (by omega)⟩, Acc.z⟩
  · rw [mnW hN h1, leN (by omega) (by omega)]
    have harc := hN.1.2.2.2.2.2.1 k hk
    have no : ¬ ((N.op k = true ∧ Rd N.E N.root (N.fr k) ∧ Dm N.E N.root (N.to k) (N.fr k)) ∧ N.to k = V) → X (nI k + 1) is s := fun q => hh _ _ ⟨hI.1.congr ⟨fun ⟨j, a, b⟩ => ⟨j, by omega, b⟩, fun ⟨j, a, b⟩ => by
      by_cases e : j = k
      · subst e; exact absurd b q
      · exact ⟨j, by omega, b⟩⟩, hI.2.no (fun x _ w => q w.1)⟩
    refine ⟨fun z => absurd z (by omega), fun _ => ⟨N, k, ⟨hN, hr, hG, rfl, hk⟩, fun r2 h2 => ⟨fun y => no (fun w => IsB.neg h2 y w.1), fun y => ⟨N, k, ⟨hN, rfl, hk⟩, fun r3 h3 => ?_⟩⟩⟩⟩
    have h3 : r3 = nI (N.to k) := h3
    subst h3
    rw [eqN (by omega) (by omega)]
    refine ⟨fun e => ⟨N, k, ⟨hN, rfl, hk⟩, fun r4 h4 => ?_⟩, fun e => no (fun w => e w.2)⟩
    have h4 : r4 = nI (N.fr k) := h4
    subst h4
    exact hh _ _ ⟨Or.inl ⟨rfl, k, by omega, IsB.pos h2 y, e⟩, hI.2.hit (by omega) (fun x _ => ⟨fun w => w.2, fun w => ⟨⟨IsB.pos h2 y, e⟩, w⟩⟩)⟩
  · rw [mnW hN h1]
    have tl : (∃ t, Tail N.E N.root t V) ↔ ∃ j, j < N.m ∧ (N.op j = true ∧ Rd N.E N.root (N.fr j) ∧ Dm N.E N.root (N.to j) (N.fr j)) ∧ N.to j = V := by
      constructor
      · rintro ⟨t, ⟨j, j1, j2, rfl, rfl⟩, d⟩; exact ⟨j, j1, ⟨j2, d.R, d⟩, rfl⟩
      · rintro ⟨j, j1, ⟨j2, _, d⟩, rfl⟩; exact ⟨N.fr j, ⟨j, j1, j2, rfl, rfl⟩, d⟩
    refine ⟨fun _ => hJ _ _ ⟨fun y => IsSet.zero.congr (fun x _ => ⟨False.elim, fun w => IsB.neg hI.1 y (tl.1 w.1)⟩), fun y => ?_⟩, fun z => absurd (Int32.le_refl _) z⟩
    have hb := IsSet.bit (k := V) (by omega)
    refine ⟨N, _, _, ⟨hN, hI.2.get.andNot hb, hb, fun x ⟨⟨j, a, b, c⟩, _⟩ => by subst c; exact (hN.1.2.2.2.2.2.1 j a).1⟩, fun r5 h5 => ?_⟩
    refine ((IsSet.and h5 hr).or hb).congr (fun x hx => ⟨?_, ?_⟩)
    · rintro (⟨w1, w2⟩ | w)
      · obtain ⟨a, ⟨⟨j, j1, ⟨⟨j2, j3, j4⟩, j5⟩, j6⟩, ne⟩, -, w⟩ := w1.from
        subst j6
        have hT : Tail N.E N.root (N.fr j) V := ⟨⟨j, j1, j2, rfl, j5⟩, by rw [← j5]; exact j4⟩
        exact ⟨⟨_, hT⟩, Or.inr ⟨w1.notW, w2, N.fr j, hT, ne, Rs.flip_iff.2 w⟩⟩
      · exact ⟨tl.2 (IsB.pos hI.1 y), Or.inl w⟩
    · rintro ⟨-, w | ⟨w1, w2, t, ⟨⟨j, j1, j2, rfl, rfl⟩, d⟩, w4, w5⟩⟩
      · exact Or.inr w
      · refine Or.inl ⟨?_, w2⟩
        have w6 := Rs.flip_iff.1 w5
        exact Rs.mono (fun _ _ q => q) (fun a q => by subst q; exact ⟨⟨j, j1, ⟨⟨j2, d.R, d⟩, rfl⟩, rfl⟩, w4⟩) (fun _ q => q) w6
def pr_X7_nestOf (N : NetM) (V : Nat) (jth jrm jwy jhi jmf jmt jla jre jwr jga jlo jmo jli jta jpt jen jbg jfa jwt jac jng jnl jnm jnv jwm : Int32) (mW mG : Nat → Int32) (v : Int32) : Prop := NetW N mW ∧ IsSet jre (Rd N.E N.root) ∧ (∀ x, x < 16 → IsSet (mG x) (fun z => Pd N.E N.root z x)) ∧ v = nI V ∧ V < N.n
def ps_X7_nestOf (N : NetM) (V : Nat) (jth jrm jwy jhi jmf jmt jla jre jwr jga jlo jmo jli jta jpt jen jbg jfa jwt jac jng jnl jnm jnv jwm : Int32) (mW mG : Nat → Int32) (v : Int32) (r : Int32)  : Prop := r = nI (cnt 16 (fun h => h < N.n ∧ Body N.E N.root h V))
def wp_X7_nestOf_L4 (jth jrm jwy jhi jmf jmt jla jre jwr jga jlo jmo jli jta jpt jen jbg jfa jwt jac jng jnl jnm jnv jwm : Int32) (mW mG : Nat → Int32) (v : Int32) (J38 : Int32 → Prop) (ix3_25 ix2_26 : Int32) : Prop :=
  ∀ X4 : Int32 → Int32 → Prop, (∀ (x3_25 : Int32) (x2_26 : Int32), (∀ (r_28 : Int32), ps_X7_nodes jth jrm jwy jhi jmf jmt jla jre jwr jga jlo jmo jli jta jpt jen jbg jfa jwt jac jng jnl jnm jnv jwm mW r_28 → (((r_28 ≤ x3_25 → (J38 x2_26)) ∧
 (¬ (r_28 ≤ x3_25) → (∃ (N_30 : NetM) (V_30 : Nat), (pr_X7_bodyOf N_30 V_30 jth jrm jwy jhi jmf jmt jla jre jwr jga jlo jmo jli jta jpt jen jbg jfa jwt jac jng jnl jnm jnv jwm mW mG x3_25 ∧ (∀ (r_30 : Int32), ps_X7_bodyOf N_30 V_30 jth jrm jwy jhi jmf jmt jla jre jwr jga jlo jmo jli jta jpt jen jbg jfa jwt jac jng jnl jnm jnv jwm mW mG x3_25 r_30 → (∀ (r_31 : Int32), ps_X7_holds r_30 v r_31 → (((r_31 = 0 → (X4 (x3_25 + 1) (x2_26 + 0))) ∧
 (¬ (r_31 = 0) → (X4 (x3_25 + 1) (x2_26 + 1))))))))))))) → X4 x3_25 x2_26) → X4 ix3_25 ix2_26
def wp_X7_nestOf (jth jrm jwy jhi jmf jmt jla jre jwr jga jlo jmo jli jta jpt jen jbg jfa jwt jac jng jnl jnm jnv jwm : Int32) (mW mG : Nat → Int32) (v : Int32) (Q : Int32 → Prop) : Prop :=
  ∀ J38 : Int32 → Prop, (∀ (x2_23 : Int32), (Q x2_23) → J38 x2_23) →
wp_X7_nestOf_L4 jth jrm jwy jhi jmf jmt jla jre jwr jga jlo jmo jli jta jpt jen jbg jfa jwt jac jng jnl jnm jnv jwm mW mG v J38 0 0
theorem pf_X7_nestOf (N : NetM) (V : Nat) (jth jrm jwy jhi jmf jmt jla jre jwr jga jlo jmo jli jta jpt jen jbg jfa jwt jac jng jnl jnm jnv jwm : Int32) (mW mG : Nat → Int32) (v : Int32) (hp : pr_X7_nestOf N V jth jrm jwy jhi jmf jmt jla jre jwr jga jlo jmo jli jta jpt jen jbg jfa jwt jac jng jnl jnm jnv jwm mW mG v) : wp_X7_nestOf jth jrm jwy jhi jmf jmt jla jre jwr jga jlo jmo jli jta jpt jen jbg jfa jwt jac jng jnl jnm jnv jwm mW mG v (ps_X7_nestOf N V jth jrm jwy jhi jmf jmt jla jre jwr jga jlo jmo jli jta jpt jen jbg jfa jwt jac jng jnl jnm jnv jwm mW mG v) := by
  unfold wp_X7_nestOf
  obtain ⟨hN, hr, hG, rfl, hV⟩ := hp
  have h16 := hN.1.2.1
  intro J hJ X hX
  refine up1 N.n (fun k x => x = nI (cnt k (fun h => h < N.n ∧ Body N.E N.root h V))) (fun k x hk hI hh => hX _ _ (fun r1 h1 => ?_)) (fun x hI => hX _ _ (fun r1 h1 => ?_)) 0 0 (Nat.zero_le _) rfl
  · rw [ndW hN h1, leN (by omega) (by omega)]
    refine ⟨fun z => absurd z (by omega), fun _ => ⟨N, k, ⟨hN, hr, hG, rfl, hk⟩, fun r2 h2 r3 h3 => ⟨fun y => hh _ ?_, fun y => hh _ ?_⟩⟩⟩
    · rw [hI, cnt_n (fun w => hold_z h3 h2 (by omega) y w.2), nI_z]
    · rw [hI, cnt_s ⟨hk, hold_p h3 h2 (by omega) y⟩, nI_1]
  · rw [ndW hN h1]
    refine ⟨fun _ => hJ _ ?_, fun z => absurd (Int32.le_refl _) z⟩
    show _ = nI _
    rw [hI, cnt_to16 h16 (fun j q w => by omega)]
def pr_X7_nearOf (N : NetM) (V : Nat) (jth jrm jwy jhi jmf jmt jla jre jwr jga jlo jmo jli jta jpt jen jbg jfa jwt jac jng jnl jnm jnv jwm : Int32) (mW : Nat → Int32) (v : Int32) : Prop := NetW N mW ∧ v = nI V ∧ V < N.n
def ps_X7_nearOf (N : NetM) (V : Nat) (jth jrm jwy jhi jmf jmt jla jre jwr jga jlo jmo jli jta jpt jen jbg jfa jwt jac jng jnl jnm jnv jwm : Int32) (mW : Nat → Int32) (v : Int32) (r : Int32)  : Prop := NearIs N.E N.root V r
def wp_X7_nearOf_L25 (jth jrm jwy jhi jmf jmt jla jre jwr jga jlo jmo jli jta jpt jen jbg jfa jwt jac jng jnl jnm jnv jwm : Int32) (mW : Nat → Int32) (x2_154 : Int32) (J75 : Int32 → Prop) (ix5_192 ix4_193 : Int32) : Prop :=
  ∀ X25 : Int32 → Int32 → Prop, (∀ (x5_192 : Int32) (x4_193 : Int32), (∀ (r_195 : Int32), ps_X7_arcs jth jrm jwy jhi jmf jmt jla jre jwr jga jlo jmo jli jta jpt jen jbg jfa jwt jac jng jnl jnm jnv jwm mW r_195 → (((r_195 ≤ x5_192 → (J75 x4_193)) ∧
 (¬ (r_195 ≤ x5_192) → (∃ (N_197 : NetM) (K_197 : Nat), (pr_X7_isOpen N_197 K_197 jth jrm jwy jhi jmf jmt jla jre jwr jga jlo jmo jli jta jpt jen jbg jfa jwt jac jng jnl jnm jnv jwm mW x5_192 ∧ (∀ (r_197 : Int32), ps_X7_isOpen N_197 K_197 jth jrm jwy jhi jmf jmt jla jre jwr jga jlo jmo jli jta jpt jen jbg jfa jwt jac jng jnl jnm jnv jwm mW x5_192 r_197 → (((r_197 = 0 → (X25 (x5_192 + 1) x4_193)) ∧
 (¬ (r_197 = 0) → (∃ (N_199 : NetM) (K_199 : Nat), (pr_X7_fromOf N_199 K_199 jth jrm jwy jhi jmf jmt jla jre jwr jga jlo jmo jli jta jpt jen jbg jfa jwt jac jng jnl jnm jnv jwm mW x5_192 ∧ (∀ (r_199 : Int32), ps_X7_fromOf N_199 K_199 jth jrm jwy jhi jmf jmt jla jre jwr jga jlo jmo jli jta jpt jen jbg jfa jwt jac jng jnl jnm jnv jwm mW x5_192 r_199 → (∀ (r_200 : Int32), ps_X7_holds x2_154 r_199 r_200 → (((r_200 = 0 → (X25 (x5_192 + 1) x4_193)) ∧
 (¬ (r_200 = 0) → (∃ (N_202 : NetM) (K_202 : Nat), (pr_X7_toOf N_202 K_202 jth jrm jwy jhi jmf jmt jla jre jwr jga jlo jmo jli jta jpt jen jbg jfa jwt jac jng jnl jnm jnv jwm mW x5_192 ∧ (∀ (r_202 : Int32), ps_X7_toOf N_202 K_202 jth jrm jwy jhi jmf jmt jla jre jwr jga jlo jmo jli jta jpt jen jbg jfa jwt jac jng jnl jnm jnv jwm mW x5_192 r_202 → (X25 (x5_192 + 1) (x4_193 ||| (1 <<< (r_202 &&& 31)))))))))))))))))))))))) → X25 x5_192 x4_193) → X25 ix5_192 ix4_193
def wp_X7_nearOf_L9 (jth jrm jwy jhi jmf jmt jla jre jwr jga jlo jmo jli jta jpt jen jbg jfa jwt jac jng jnl jnm jnv jwm : Int32) (mW : Nat → Int32) (v : Int32) (J17 : Int32 → Prop) (J81 : Prop) (ix3_153 ix2_154 : Int32) : Prop :=
  ∀ X9 : Int32 → Int32 → Prop, (∀ (x3_153 : Int32) (x2_154 : Int32), (∀ (r_156 : Int32), ps_X7_holds x2_154 v r_156 → (((r_156 = 0 → (∀ J75 : Int32 → Prop, (∀ (x4_189 : Int32), (((¬ x4_189 = x2_154 → (X9 (x3_153 + 1) x4_189)) ∧
 (x4_189 = x2_154 → (J81)))) → J75 x4_189) →
wp_X7_nearOf_L25 jth jrm jwy jhi jmf jmt jla jre jwr jga jlo jmo jli jta jpt jen jbg jfa jwt jac jng jnl jnm jnv jwm mW x2_154 J75 0 x2_154)) ∧
 (¬ (r_156 = 0) → (J17 x3_153))))) → X9 x3_153 x2_154) → X9 ix3_153 ix2_154
def wp_X7_nearOf (jth jrm jwy jhi jmf jmt jla jre jwr jga jlo jmo jli jta jpt jen jbg jfa jwt jac jng jnl jnm jnv jwm : Int32) (mW : Nat → Int32) (v : Int32) (Q : Int32 → Prop) : Prop :=
  ∀ (r_1 : Int32), ps_X7_root jth jrm jwy jhi jmf jmt jla jre jwr jga jlo jmo jli jta jpt jen jbg jfa jwt jac jng jnl jnm jnv jwm mW r_1 → (∀ J17 : Int32 → Prop, (∀ (x3_150 : Int32), (Q x3_150) → J17 x3_150) →
∀ J81 : Prop, ((Q (-1)) → J81) →
wp_X7_nearOf_L9 jth jrm jwy jhi jmf jmt jla jre jwr jga jlo jmo jli jta jpt jen jbg jfa jwt jac jng jnl jnm jnv jwm mW v J17 J81 0 (1 <<< (r_1 &&& 31)))
theorem pf_X7_nearOf (N : NetM) (V : Nat) (jth jrm jwy jhi jmf jmt jla jre jwr jga jlo jmo jli jta jpt jen jbg jfa jwt jac jng jnl jnm jnv jwm : Int32) (mW : Nat → Int32) (v : Int32) (hp : pr_X7_nearOf N V jth jrm jwy jhi jmf jmt jla jre jwr jga jlo jmo jli jta jpt jen jbg jfa jwt jac jng jnl jnm jnv jwm mW v) : wp_X7_nearOf jth jrm jwy jhi jmf jmt jla jre jwr jga jlo jmo jli jta jpt jen jbg jfa jwt jac jng jnl jnm jnv jwm mW v (ps_X7_nearOf N V jth jrm jwy jhi jmf jmt jla jre jwr jga jlo jmo jli jta jpt jen jbg jfa jwt jac jng jnl jnm jnv jwm mW v) := by
  unfold wp_X7_nearOf
  obtain ⟨hN, rfl, hV⟩ := hp
  have h16 := hN.1.2.1
  have h60 := hN.1.2.2.2.2.1
  have hroot := hN.1.2.2.1
  refine fun r1 h1 J17 hJ17 J81 hJ81 X hX => ?_
  rw [rtW hN h1]
  have lv16 : ∀ d x, Lv N.E N.root d x → x < 16 := fun d x q => by
    have := Lv.lt hroot (fun a b e => (NetM.E_lt hN.1 e).2) d x q; omega
  have key := dn1 (X := fun p : Int32 × Int32 => X p.1 p.2) (fun p => ∃ F, p.1 = nI F ∧ IsSet p.2 (Lv N.E N.root F) ∧ F + 1 ≤ cnt 16 (Lv N.E N.root F) ∧ ∀ k, k < F → ¬ Lv N.E N.root k V) (fun p => 16 - pc p.2) (fun p hp hh => ?_) (0, (1 : Int32) <<< (nI N.root &&& 31)) ⟨0, rfl, (IsSet.bit (by omega)).congr (fun _ _ => Iff.rfl), ?_, fun k q => absurd q (by omega)⟩
  · exact key
  · obtain ⟨a, s⟩ := p
    obtain ⟨F, rfl, hs, hc, hno⟩ := hp
    have hF : F < 16 := by have := cnt_le 16 (Lv N.E N.root F); omega
    refine hX _ _ (fun r2 h2 => ⟨fun y J75 hJ75 X25 hX25 => ?_, fun y => hJ17 _ (Or.inl ⟨F, rfl, hF, hold_p h2 hs (by omega) y, hno⟩)⟩)
    have nV := hold_z h2 hs (by omega) y
    refine up1 N.m (fun k t => Acc (Lv N.E N.root F) k (fun j x => N.op j = true ∧ Lv N.E N.root F (N.fr j) ∧ x = N.to j) t) (fun k t hk hI hh2 => hX25 _ _ (fun r3 h3 => ?_)) (fun t hI => hX25 _ _ (fun r3 h3 => ?_)) 0 s (Nat.zero_le _) (Acc.s hs)
    · rw [mnW hN h3, leN (by omega) (by omega)]
      have harc := hN.1.2.2.2.2.2.1 k hk
      refine ⟨fun z => absurd z (by omega), fun _ => ⟨N, k, ⟨hN, rfl, hk⟩, fun r4 h4 => ⟨fun y => hh2 _ (hI.no (fun x _ w => no_i1 h4 y w.1)), fun y4 => ⟨N, k, ⟨hN, rfl, hk⟩, fun r5 h5 r6 h6 => ?_⟩⟩⟩⟩
      have h5 : r5 = nI (N.fr k) := h5
      subst h5
      refine ⟨fun y2 => hh2 _ (hI.no (fun x _ w => hold_z h6 hs (by omega) y2 w.2.1)), fun y2 => ⟨N, k, ⟨hN, rfl, hk⟩, fun r7 h7 => ?_⟩⟩
      have h7 : r7 = nI (N.to k) := h7
      subst h7
      exact hh2 _ (hI.hit (by omega) (fun x _ => ⟨fun w => w.2.2, fun w => ⟨of_i1 h4 y4, hold_p h6 hs (by omega) y2, w⟩⟩))
    · rw [mnW hN h3]
      have hn : IsSet t (Lv N.E N.root (F + 1)) := IsSet.congr hI (fun x _ => ⟨fun w => w.elim Or.inl (fun ⟨j, a, b, c, d⟩ => by subst d; exact Or.inr ⟨_, c, j, a, b, rfl, rfl⟩), fun w => w.elim Or.inl (fun ⟨u, q1, j, a, b, c, d⟩ => Or.inr ⟨j, a, b, by rw [c]; exact q1, d.symm⟩)⟩)
      have hlt : ¬ t = s → cnt 16 (Lv N.E N.root F) < cnt 16 (Lv N.E N.root (F + 1)) := fun ne => by
        apply Classical.byContradiction
        intro hq
        apply ne
        refine hn.uniq (hs.congr (fun x hx => ⟨fun q => Or.inl q, fun q => ?_⟩))
        apply Classical.byContradiction
        intro q2
        exact hq (cnt_lt hx (fun k _ w => Or.inl w) q2 q)
      refine ⟨fun _ => hJ75 _ ⟨fun ne => hh (_, _) ⟨F + 1, nI_1 F, hn, ?_, fun k hk q => ?_⟩ ?_, fun e => hJ81 (Or.inr ⟨rfl, fun d q => ?_⟩)⟩, fun z => absurd (Int32.le_refl _) z⟩
      rotate_left 3
      · subst e
        have st : ∀ x, Lv N.E N.root (F + 1) x → Lv N.E N.root F x := fun x q => ((hs x (by have := lv16 _ _ q; omega)).1 ((hn x (by have := lv16 _ _ q; omega)).2 ⟨lv16 _ _ q, q⟩)).2
        have := q.mono F
        rw [Nat.add_comm] at this
        exact nV (Lv.stay st d V this)
      · have := hlt ne; omega
      · by_cases e : k = F
        · subst e; exact nV q
        · exact hno k (by omega) q
      · show 16 - pc t < 16 - pc s
        rw [pc_set hn, pc_set hs]
        have := cnt_le 16 (Lv N.E N.root (F + 1))
        have := hlt ne
        omega
  · exact cnt_pos (k := N.root) (by omega) rfl
def pr_X7_hasWayOut (N : NetM) (V : Nat) (jth jrm jwy jhi jmf jmt jla jre jwr jga jlo jmo jli jta jpt jen jbg jfa jwt jac jng jnl jnm jnv jwm : Int32) (mW : Nat → Int32) (v : Int32) : Prop := NetW N mW ∧ IsSet jre (Rd N.E N.root) ∧ v = nI V ∧ V < N.n
def ps_X7_hasWayOut (N : NetM) (V : Nat) (jth jrm jwy jhi jmf jmt jla jre jwr jga jlo jmo jli jta jpt jen jbg jfa jwt jac jng jnl jnm jnv jwm : Int32) (mW : Nat → Int32) (v : Int32) (r : Int32)  : Prop := IsB r (Rd N.E N.root V ∧ Rd N.X N.exit V)
def wp_X7_hasWayOut (jth jrm jwy jhi jmf jmt jla jre jwr jga jlo jmo jli jta jpt jen jbg jfa jwt jac jng jnl jnm jnv jwm : Int32) (mW : Nat → Int32) (v : Int32) (Q : Int32 → Prop) : Prop :=
  ∀ (r_1 : Int32), ps_X7_holds jre v r_1 → (((r_1 = 0 → (Q 0)) ∧
 (¬ (r_1 = 0) → (∃ (N_3 : NetM) (A_3 B_3 : Nat → Prop), (pr_X7_comers N_3 A_3 B_3 jth jrm jwy jhi jmf jmt jla jre jwr jga jlo jmo jli jta jpt jen jbg jfa jwt jac jng jnl jnm jnv jwm mW (1 <<< ((mW (2 : Int32).toNatClampNeg) &&& 31)) 0 ∧ (∀ (r_3 : Int32), ps_X7_comers N_3 A_3 B_3 jth jrm jwy jhi jmf jmt jla jre jwr jga jlo jmo jli jta jpt jen jbg jfa jwt jac jng jnl jnm jnv jwm mW (1 <<< ((mW (2 : Int32).toNatClampNeg) &&& 31)) 0 r_3 → (∀ (r_4 : Int32), ps_X7_holds r_3 v r_4 → (((r_4 = 0 → (Q 0)) ∧
 (¬ (r_4 = 0) → (Q 1)))))))))))
theorem pf_X7_hasWayOut (N : NetM) (V : Nat) (jth jrm jwy jhi jmf jmt jla jre jwr jga jlo jmo jli jta jpt jen jbg jfa jwt jac jng jnl jnm jnv jwm : Int32) (mW : Nat → Int32) (v : Int32) (hp : pr_X7_hasWayOut N V jth jrm jwy jhi jmf jmt jla jre jwr jga jlo jmo jli jta jpt jen jbg jfa jwt jac jng jnl jnm jnv jwm mW v) : wp_X7_hasWayOut jth jrm jwy jhi jmf jmt jla jre jwr jga jlo jmo jli jta jpt jen jbg jfa jwt jac jng jnl jnm jnv jwm mW v (ps_X7_hasWayOut N V jth jrm jwy jhi jmf jmt jla jre jwr jga jlo jmo jli jta jpt jen jbg jfa jwt jac jng jnl jnm jnv jwm mW v) := by
  unfold wp_X7_hasWayOut
  obtain ⟨hN, hr, rfl, hV⟩ := hp
  have h16 := hN.1.2.1
  have hx := hN.1.2.2.2.1
  refine fun r1 h1 => ⟨fun y => Or.inr ⟨rfl, fun w => hold_z h1 hr (by omega) y w.1⟩, fun y => ?_⟩
  rw [exW hN]
  exact ⟨N, fun z => z = N.exit, fun _ => False, ⟨hN, IsSet.bit (by omega), IsSet.zero, fun x q => by rw [q]; exact hx⟩, fun r3 h3 r4 h4 => ⟨fun y2 => Or.inr ⟨rfl, fun w => hold_z h4 h3 (by omega) y2 w.2⟩, fun y2 => Or.inl ⟨rfl, hold_p h1 hr (by omega) y, hold_p h4 h3 (by omega) y2⟩⟩⟩
def pr_X7_outGatesOf (N : NetM) (V : Nat) (jth jrm jwy jhi jmf jmt jla jre jwr jga jlo jmo jli jta jpt jen jbg jfa jwt jac jng jnl jnm jnv jwm : Int32) (mW : Nat → Int32) (v : Int32) : Prop := NetW N mW ∧ IsSet jre (Rd N.E N.root) ∧ v = nI V ∧ V < N.n
def ps_X7_outGatesOf (N : NetM) (V : Nat) (jth jrm jwy jhi jmf jmt jla jre jwr jga jlo jmo jli jta jpt jen jbg jfa jwt jac jng jnl jnm jnv jwm : Int32) (mW : Nat → Int32) (v : Int32) (r : Int32)  : Prop := IsSet r (OutG N V)
def wp_X7_outGatesOf_L14 (jth jrm jwy jhi jmf jmt jla jre jwr jga jlo jmo jli jta jpt jen jbg jfa jwt jac jng jnl jnm jnv jwm : Int32) (mW : Nat → Int32) (v : Int32) (J61 : Int32 → Prop) (ix3_30 ix2_31 : Int32) : Prop :=
  ∀ X14 : Int32 → Int32 → Prop, (∀ (x3_30 : Int32) (x2_31 : Int32), (∀ (r_33 : Int32), ps_X7_nodes jth jrm jwy jhi jmf jmt jla jre jwr jga jlo jmo jli jta jpt jen jbg jfa jwt jac jng jnl jnm jnv jwm mW r_33 → (((r_33 ≤ x3_30 → (J61 x2_31)) ∧
 (¬ (r_33 ≤ x3_30) → ((x3_30 = v → (X14 (x3_30 + 1) x2_31)) ∧
 (¬ (x3_30 = v) → (∃ (N_36 : NetM) (A_36 B_36 : Nat → Prop), (pr_X7_comers N_36 A_36 B_36 jth jrm jwy jhi jmf jmt jla jre jwr jga jlo jmo jli jta jpt jen jbg jfa jwt jac jng jnl jnm jnv jwm mW (1 <<< ((mW (2 : Int32).toNatClampNeg) &&& 31)) (1 <<< (x3_30 &&& 31)) ∧ (∀ (r_36 : Int32), ps_X7_comers N_36 A_36 B_36 jth jrm jwy jhi jmf jmt jla jre jwr jga jlo jmo jli jta jpt jen jbg jfa jwt jac jng jnl jnm jnv jwm mW (1 <<< ((mW (2 : Int32).toNatClampNeg) &&& 31)) (1 <<< (x3_30 &&& 31)) r_36 → (∀ (r_37 : Int32), ps_X7_holds r_36 v r_37 → (((¬ r_37 = 0 → (X14 (x3_30 + 1) x2_31)) ∧
 (r_37 = 0 → (X14 (x3_30 + 1) (x2_31 ||| (1 <<< (x3_30 &&& 31))))))))))))))))) → X14 x3_30 x2_31) → X14 ix3_30 ix2_31
def wp_X7_outGatesOf (jth jrm jwy jhi jmf jmt jla jre jwr jga jlo jmo jli jta jpt jen jbg jfa jwt jac jng jnl jnm jnv jwm : Int32) (mW : Nat → Int32) (v : Int32) (Q : Int32 → Prop) : Prop :=
  ∃ (N_1 : NetM) (V_1 : Nat), (pr_X7_hasWayOut N_1 V_1 jth jrm jwy jhi jmf jmt jla jre jwr jga jlo jmo jli jta jpt jen jbg jfa jwt jac jng jnl jnm jnv jwm mW v ∧ (∀ (r_1 : Int32), ps_X7_hasWayOut N_1 V_1 jth jrm jwy jhi jmf jmt jla jre jwr jga jlo jmo jli jta jpt jen jbg jfa jwt jac jng jnl jnm jnv jwm mW v r_1 → (((¬ r_1 = 0 → (∀ J61 : Int32 → Prop, (∀ (x2_28 : Int32), (Q x2_28) → J61 x2_28) →
wp_X7_outGatesOf_L14 jth jrm jwy jhi jmf jmt jla jre jwr jga jlo jmo jli jta jpt jen jbg jfa jwt jac jng jnl jnm jnv jwm mW v J61 0 0)) ∧
 (r_1 = 0 → (Q 0))))))
theorem pf_X7_outGatesOf (N : NetM) (V : Nat) (jth jrm jwy jhi jmf jmt jla jre jwr jga jlo jmo jli jta jpt jen jbg jfa jwt jac jng jnl jnm jnv jwm : Int32) (mW : Nat → Int32) (v : Int32) (hp : pr_X7_outGatesOf N V jth jrm jwy jhi jmf jmt jla jre jwr jga jlo jmo jli jta jpt jen jbg jfa jwt jac jng jnl jnm jnv jwm mW v) : wp_X7_outGatesOf jth jrm jwy jhi jmf jmt jla jre jwr jga jlo jmo jli jta jpt jen jbg jfa jwt jac jng jnl jnm jnv jwm mW v (ps_X7_outGatesOf N V jth jrm jwy jhi jmf jmt jla jre jwr jga jlo jmo jli jta jpt jen jbg jfa jwt jac jng jnl jnm jnv jwm mW v) := by
  unfold wp_X7_outGatesOf
  obtain ⟨hN, hr, rfl, hV⟩ := hp
  have h16 := hN.1.2.1
  have hx := hN.1.2.2.2.1
  refine ⟨N, V, ⟨hN, hr, rfl, hV⟩, fun r1 h1 => ⟨fun y J hJ X hX => ?_, fun y => IsSet.zero.congr (fun x _ => ⟨False.elim, fun w => IsB.neg h1 y ⟨w.1, w.2.2.R⟩⟩)⟩⟩
  have hw := IsB.pos h1 y
  rw [exW hN] at hX
  refine up1 N.n (fun k s => Acc (fun _ => False) k (fun j x => Pd N.X N.exit j V ∧ x = j) s) (fun k s hk hI hh => hX _ _ (fun r1 h1 => ?_)) (fun s hI => hX _ _ (fun r1 h1 => ?_)) 0 0 (Nat.zero_le _) Acc.z
  · rw [ndW hN h1, leN (by omega) (by omega)]
    refine ⟨fun z => absurd z (by omega), fun _ => ?_⟩
    rw [eqN (by omega) (by omega)]
    refine ⟨fun e => hh _ (hI.no (fun x _ w => w.1.1 e)), fun ne => ⟨N, fun z => z = N.exit, fun z => z = k, ⟨hN, IsSet.bit (by omega), IsSet.bit (by omega), fun x q => by rw [q]; exact hx⟩, fun r3 h3 r4 h4 => ⟨fun y2 => hh _ (hI.no (fun x _ w => w.1.2.2 (hold_p h4 h3 (by omega) y2))), fun y2 => hh _ (hI.hit (by omega) (fun x _ => ⟨fun w => w.2, fun w => ⟨⟨ne, hw.2, hold_z h4 h3 (by omega) y2⟩, w⟩⟩))⟩⟩⟩
  · rw [ndW hN h1]
    exact ⟨fun _ => hJ _ (hI.get.congr (fun x _ => ⟨fun ⟨j, a, b, c⟩ => by subst c; exact ⟨hw.1, b⟩, fun w => ⟨x, NetM.X_lt hN.1 w.2.2.Rg, w.2, rfl⟩⟩)), fun z => absurd (Int32.le_refl _) z⟩
def pr_X7_outKeeperOf (N : NetM) (V : Nat) (jth jrm jwy jhi jmf jmt jla jre jwr jga jlo jmo jli jta jpt jen jbg jfa jwt jac jng jnl jnm jnv jwm : Int32) (mW : Nat → Int32) (v : Int32) : Prop := NetW N mW ∧ IsSet jre (Rd N.E N.root) ∧ v = nI V ∧ V < N.n
def ps_X7_outKeeperOf (N : NetM) (V : Nat) (jth jrm jwy jhi jmf jmt jla jre jwr jga jlo jmo jli jta jpt jen jbg jfa jwt jac jng jnl jnm jnv jwm : Int32) (mW : Nat → Int32) (v : Int32) (r : Int32)  : Prop := OutK N V r
def wp_X7_outKeeperOf_L8 (jth jrm jwy jhi jmf jmt jla jre jwr jga jlo jmo jli jta jpt jen jbg jfa jwt jac jng jnl jnm jnv jwm : Int32) (mW : Nat → Int32) (r_1 : Int32) (J42 : Int32 → Prop) (J50 : Prop) (ix3_28 : Int32) : Prop :=
  ∀ X8 : Int32 → Prop, (∀ (x3_28 : Int32), (∀ (r_30 : Int32), ps_X7_nodes jth jrm jwy jhi jmf jmt jla jre jwr jga jlo jmo jli jta jpt jen jbg jfa jwt jac jng jnl jnm jnv jwm mW r_30 → (((r_30 ≤ x3_28 → (J50)) ∧
 (¬ (r_30 ≤ x3_28) → (∀ (r_32 : Int32), ps_X7_holds r_1 x3_28 r_32 → (((r_32 = 0 → (X8 (x3_28 + 1))) ∧
 (¬ (r_32 = 0) → (∃ (N_34 : NetM) (V_34 : Nat), (pr_X7_outGatesOf N_34 V_34 jth jrm jwy jhi jmf jmt jla jre jwr jga jlo jmo jli jta jpt jen jbg jfa jwt jac jng jnl jnm jnv jwm mW x3_28 ∧ (∀ (r_34 : Int32), ps_X7_outGatesOf N_34 V_34 jth jrm jwy jhi jmf jmt jla jre jwr jga jlo jmo jli jta jpt jen jbg jfa jwt jac jng jnl jnm jnv jwm mW x3_28 r_34 → (((¬ ((r_1 &&& ((1 <<< (x3_28 &&& 31)) ^^^ (-1))) &&& (r_34 ^^^ (-1))) = 0 → (X8 (x3_28 + 1))) ∧
 (((r_1 &&& ((1 <<< (x3_28 &&& 31)) ^^^ (-1))) &&& (r_34 ^^^ (-1))) = 0 → (J42 x3_28))))))))))))))) → X8 x3_28) → X8 ix3_28
def wp_X7_outKeeperOf (jth jrm jwy jhi jmf jmt jla jre jwr jga jlo jmo jli jta jpt jen jbg jfa jwt jac jng jnl jnm jnv jwm : Int32) (mW : Nat → Int32) (v : Int32) (Q : Int32 → Prop) : Prop :=
  ∃ (N_1 : NetM) (V_1 : Nat), (pr_X7_outGatesOf N_1 V_1 jth jrm jwy jhi jmf jmt jla jre jwr jga jlo jmo jli jta jpt jen jbg jfa jwt jac jng jnl jnm jnv jwm mW v ∧ (∀ (r_1 : Int32), ps_X7_outGatesOf N_1 V_1 jth jrm jwy jhi jmf jmt jla jre jwr jga jlo jmo jli jta jpt jen jbg jfa jwt jac jng jnl jnm jnv jwm mW v r_1 → (∀ J42 : Int32 → Prop, (∀ (x3_25 : Int32), (Q x3_25) → J42 x3_25) →
∀ J50 : Prop, ((Q (-1)) → J50) →
wp_X7_outKeeperOf_L8 jth jrm jwy jhi jmf jmt jla jre jwr jga jlo jmo jli jta jpt jen jbg jfa jwt jac jng jnl jnm jnv jwm mW r_1 J42 J50 0)))
theorem pf_X7_outKeeperOf (N : NetM) (V : Nat) (jth jrm jwy jhi jmf jmt jla jre jwr jga jlo jmo jli jta jpt jen jbg jfa jwt jac jng jnl jnm jnv jwm : Int32) (mW : Nat → Int32) (v : Int32) (hp : pr_X7_outKeeperOf N V jth jrm jwy jhi jmf jmt jla jre jwr jga jlo jmo jli jta jpt jen jbg jfa jwt jac jng jnl jnm jnv jwm mW v) : wp_X7_outKeeperOf jth jrm jwy jhi jmf jmt jla jre jwr jga jlo jmo jli jta jpt jen jbg jfa jwt jac jng jnl jnm jnv jwm mW v (ps_X7_outKeeperOf N V jth jrm jwy jhi jmf jmt jla jre jwr jga jlo jmo jli jta jpt jen jbg jfa jwt jac jng jnl jnm jnv jwm mW v) := by
  unfold wp_X7_outKeeperOf
  obtain ⟨hN, hr, rfl, hV⟩ := hp
  have h16 := hN.1.2.1
  refine ⟨N, V, ⟨hN, hr, rfl, hV⟩, fun r1 h1 J42 hJ42 J50 hJ50 X hX => ?_⟩
  have h1 : IsSet r1 (OutG N V) := h1
  refine up0 N.n (fun k => ∀ j, j < k → ¬ (Rd N.E N.root V ∧ Id N.X N.exit j V)) (fun k hk hI hh => hX _ (fun r2 h2 => ?_)) (fun hI => hX _ (fun r2 h2 => ?_)) 0 (Nat.zero_le _) (fun j hj => absurd hj (by omega))
  · rw [ndW hN h2, leN (by omega) (by omega)]
    have no : ¬ (Rd N.E N.root V ∧ Id N.X N.exit k V) → X (nI k + 1) := fun q => hh (fun j hj => by
      by_cases e : j = k
      · subst e; exact q
      · exact hI j (by omega))
    refine ⟨fun z => absurd z (by omega), fun _ r3 h3 => ⟨fun y => no (fun w => hold_z h3 h1 (by omega) y ⟨w.1, w.2.1⟩), fun y => ⟨N, k, ⟨hN, hr, rfl, hk⟩, fun r4 h4 => ?_⟩⟩⟩
    have ho := hold_p h3 h1 (by omega) y
    have h4 : IsSet r4 (OutG N k) := h4
    rw [((h1.andNot (IsSet.bit (k := k) (by omega))).andNot h4).eq0]
    refine ⟨fun q => no (fun w => q (fun h _ z => z.2 ⟨ho.rd, fun e => z.1.2 e, w.2.2 h z.1.1.2⟩)), fun q => hJ42 _ (Or.inr ⟨k, rfl, hk, ho.1, ho.2, fun h z => ?_⟩)⟩
    by_cases e : h = k
    · subst e; exact Dm.refl z.2.Rg
    · have := q h (by have := NetM.X_lt hN.1 z.2.Rg; omega)
      have hz : OutG N k h := Classical.byContradiction (fun w => this ⟨⟨⟨ho.1, z⟩, e⟩, w⟩)
      exact hz.2.2
  · rw [ndW hN h2]
    refine ⟨fun _ => hJ50 (Or.inl ⟨rfl, fun g q => ?_⟩), fun z => absurd (Int32.le_refl _) z⟩
    have hne : V ≠ N.exit := fun e => by
      subst e
      exact q.2.1 (q.2.2.antisymm (Dm.root q.2.2.Rg))
    obtain ⟨i, hi⟩ := Id.ex (E := N.X) (r := N.exit) (n := N.n) (fun x hx => NetM.X_lt hN.1 hx) q.2.2.R hne
    exact hI i (NetM.X_lt hN.1 hi.1.2.Rg) ⟨q.1, hi⟩
def pr_X7_feeOf (N : NetM) (V : Nat) (jth jrm jwy jhi jmf jmt jla jre jwr jga jlo jmo jli jta jpt jen jbg jfa jwt jac jng jnl jnm jnv jwm : Int32) (mW mG : Nat → Int32) (v : Int32) : Prop := NetW N mW ∧ IsSet jre (Rd N.E N.root) ∧ (∀ x, x < 16 → IsSet (mG x) (fun z => Pd N.E N.root z x)) ∧ v = nI V ∧ V < N.n ∧ Rd N.E N.root V
def ps_X7_feeOf (N : NetM) (V : Nat) (jth jrm jwy jhi jmf jmt jla jre jwr jga jlo jmo jli jta jpt jen jbg jfa jwt jac jng jnl jnm jnv jwm : Int32) (mW mG : Nat → Int32) (v : Int32) (r : Int32)  : Prop := r = nI (smP N.n (fun g => Dm N.E N.root g V) N.tl)
def wp_X7_feeOf_L11 (jth jrm jwy jhi jmf jmt jla jre jwr jga jlo jmo jli jta jpt jen jbg jfa jwt jac jng jnl jnm jnv jwm : Int32) (mW mG : Nat → Int32) (v : Int32) (J53 : Int32 → Prop) (ix3_29 ix2_30 : Int32) : Prop :=
  ∀ X11 : Int32 → Int32 → Prop, (∀ (x3_29 : Int32) (x2_30 : Int32), (∀ (r_32 : Int32), ps_X7_nodes jth jrm jwy jhi jmf jmt jla jre jwr jga jlo jmo jli jta jpt jen jbg jfa jwt jac jng jnl jnm jnv jwm mW r_32 → (((r_32 ≤ x3_29 → (J53 x2_30)) ∧
 (¬ (r_32 ≤ x3_29) → (vp_in v 16 ∧ (∀ (r_35 : Int32), ps_X7_holds (mG v.toNatClampNeg) x3_29 r_35 → (((r_35 = 0 → (X11 (x3_29 + 1) (x2_30 + 0))) ∧
 (¬ (r_35 = 0) → (vp_in (4 + x3_29) 200 ∧ (X11 (x3_29 + 1) (x2_30 + (mW (4 + x3_29).toNatClampNeg))))))))))))) → X11 x3_29 x2_30) → X11 ix3_29 ix2_30
def wp_X7_feeOf (jth jrm jwy jhi jmf jmt jla jre jwr jga jlo jmo jli jta jpt jen jbg jfa jwt jac jng jnl jnm jnv jwm : Int32) (mW mG : Nat → Int32) (v : Int32) (Q : Int32 → Prop) : Prop :=
  vp_in (4 + v) 200 ∧ (∀ J53 : Int32 → Prop, (∀ (x2_27 : Int32), (Q x2_27) → J53 x2_27) →
wp_X7_feeOf_L11 jth jrm jwy jhi jmf jmt jla jre jwr jga jlo jmo jli jta jpt jen jbg jfa jwt jac jng jnl jnm jnv jwm mW mG v J53 0 (mW (4 + v).toNatClampNeg))
theorem pf_X7_feeOf (N : NetM) (V : Nat) (jth jrm jwy jhi jmf jmt jla jre jwr jga jlo jmo jli jta jpt jen jbg jfa jwt jac jng jnl jnm jnv jwm : Int32) (mW mG : Nat → Int32) (v : Int32) (hp : pr_X7_feeOf N V jth jrm jwy jhi jmf jmt jla jre jwr jga jlo jmo jli jta jpt jen jbg jfa jwt jac jng jnl jnm jnv jwm mW mG v) : wp_X7_feeOf jth jrm jwy jhi jmf jmt jla jre jwr jga jlo jmo jli jta jpt jen jbg jfa jwt jac jng jnl jnm jnv jwm mW mG v (ps_X7_feeOf N V jth jrm jwy jhi jmf jmt jla jre jwr jga jlo jmo jli jta jpt jen jbg jfa jwt jac jng jnl jnm jnv jwm mW mG v) := by
  unfold wp_X7_feeOf
  obtain ⟨hN, hr, hG, rfl, hV, hRd⟩ := hp
  have h16 := hN.1.2.1
  rw [show (4 : Int32) + nI V = nI (4 + V) from nI_add 4 V, clN (by omega), hN.2.2.2.2.2.1 V (by omega)]
  refine ⟨vp_in_nI (by omega) (by decide), fun J hJ X hX => ?_⟩
  refine up1 N.n (fun k x => x = nI (N.tl V + smP k (fun g => Pd N.E N.root g V) N.tl)) (fun k x hk hI hh => hX _ _ (fun r1 h1 => ?_)) (fun x hI => hX _ _ (fun r1 h1 => ?_)) 0 (nI (N.tl V)) (Nat.zero_le _) rfl
  · rw [ndW hN h1, leN (by omega) (by omega)]
    refine ⟨fun z => absurd z (by omega), fun _ => ⟨vp_in_nI (by omega) (by decide), fun r2 h2 => ?_⟩⟩
    rw [clN (by omega)] at h2
    rw [show (4 : Int32) + nI k = nI (4 + k) from nI_add 4 k, clN (by omega), hN.2.2.2.2.2.1 k (by omega)]
    refine ⟨fun y => hh _ ?_, fun y => ⟨vp_in_nI (by omega) (by decide), hh _ ?_⟩⟩
    · rw [hI, smP_n (hold_z h2 (hG V (by omega)) (by omega) y), nI_z]
    · rw [hI, smP_s (hold_p h2 (hG V (by omega)) (by omega) y), nI_add, Nat.add_assoc]
  · rw [ndW hN h1]
    refine ⟨fun _ => hJ _ ?_, fun z => absurd (Int32.le_refl _) z⟩
    show _ = nI _
    rw [hI, smP_in (P := fun g => Dm N.E N.root g V) (Q := fun g => Pd N.E N.root g V) (g := V) (fun x => by rw [Dm.split hRd]) (fun q => q.1 rfl) N.n, if_pos hV, Nat.add_comm]
def pr_X7_fareOf (N : NetM) (V : Nat) (jth jrm jwy jhi jmf jmt jla jre jwr jga jlo jmo jli jta jpt jen jbg jfa jwt jac jng jnl jnm jnv jwm : Int32) (mW mS : Nat → Int32) (v : Int32) : Prop := NetW N mW ∧ v = nI V ∧ V < N.n
def ps_X7_fareOf (N : NetM) (V : Nat) (jth jrm jwy jhi jmf jmt jla jre jwr jga jlo jmo jli jta jpt jen jbg jfa jwt jac jng jnl jnm jnv jwm : Int32) (mW mS : Nat → Int32) (v : Int32) (r : Int32) (mS' : Nat → Int32) : Prop := FareIs N V r
def wp_X7_fareOf_L52 (jth jrm jwy jhi jmf jmt jla jre jwr jga jlo jmo jli jta jpt jen jbg jfa jwt jac jng jnl jnm jnv jwm : Int32) (mW : Nat → Int32) (J162 : Int32 → (Nat → Int32) → Prop) (ix3_485 ix2_486 : Int32) (ia_487 : Nat → Int32) : Prop :=
  ∀ X52 : Int32 → Int32 → (Nat → Int32) → Prop, (∀ (x3_485 : Int32) (x2_486 : Int32) (a_487 : Nat → Int32), (∀ (r_489 : Int32), ps_X7_arcs jth jrm jwy jhi jmf jmt jla jre jwr jga jlo jmo jli jta jpt jen jbg jfa jwt jac jng jnl jnm jnv jwm mW r_489 → (((r_489 ≤ x3_485 → (J162 x2_486 a_487)) ∧
 (¬ (r_489 ≤ x3_485) → (∃ (N_491 : NetM) (K_491 : Nat), (pr_X7_isOpen N_491 K_491 jth jrm jwy jhi jmf jmt jla jre jwr jga jlo jmo jli jta jpt jen jbg jfa jwt jac jng jnl jnm jnv jwm mW x3_485 ∧ (∀ (r_491 : Int32), ps_X7_isOpen N_491 K_491 jth jrm jwy jhi jmf jmt jla jre jwr jga jlo jmo jli jta jpt jen jbg jfa jwt jac jng jnl jnm jnv jwm mW x3_485 r_491 → (((r_491 = 0 → (X52 (x3_485 + 1) x2_486 a_487)) ∧
 (¬ (r_491 = 0) → (∃ (N_493 : NetM) (K_493 : Nat), (pr_X7_fromOf N_493 K_493 jth jrm jwy jhi jmf jmt jla jre jwr jga jlo jmo jli jta jpt jen jbg jfa jwt jac jng jnl jnm jnv jwm mW x3_485 ∧ (∀ (r_493 : Int32), ps_X7_fromOf N_493 K_493 jth jrm jwy jhi jmf jmt jla jre jwr jga jlo jmo jli jta jpt jen jbg jfa jwt jac jng jnl jnm jnv jwm mW x3_485 r_493 → (vp_in r_493 16 ∧ (((¬ (a_487 r_493.toNatClampNeg) = (-1) → (∃ (N_496 : NetM) (K_496 : Nat), (pr_X7_fromOf N_496 K_496 jth jrm jwy jhi jmf jmt jla jre jwr jga jlo jmo jli jta jpt jen jbg jfa jwt jac jng jnl jnm jnv jwm mW x3_485 ∧ (∀ (r_496 : Int32), ps_X7_fromOf N_496 K_496 jth jrm jwy jhi jmf jmt jla jre jwr jga jlo jmo jli jta jpt jen jbg jfa jwt jac jng jnl jnm jnv jwm mW x3_485 r_496 → (vp_in r_496 16 ∧ (∃ (N_498 : NetM) (K_498 : Nat), (pr_X7_toOf N_498 K_498 jth jrm jwy jhi jmf jmt jla jre jwr jga jlo jmo jli jta jpt jen jbg jfa jwt jac jng jnl jnm jnv jwm mW x3_485 ∧ (∀ (r_498 : Int32), ps_X7_toOf N_498 K_498 jth jrm jwy jhi jmf jmt jla jre jwr jga jlo jmo jli jta jpt jen jbg jfa jwt jac jng jnl jnm jnv jwm mW x3_485 r_498 → (vp_in (4 + r_498) 200 ∧ (∃ (N_500 : NetM) (K_500 : Nat), (pr_X7_toOf N_500 K_500 jth jrm jwy jhi jmf jmt jla jre jwr jga jlo jmo jli jta jpt jen jbg jfa jwt jac jng jnl jnm jnv jwm mW x3_485 ∧ (∀ (r_500 : Int32), ps_X7_toOf N_500 K_500 jth jrm jwy jhi jmf jmt jla jre jwr jga jlo jmo jli jta jpt jen jbg jfa jwt jac jng jnl jnm jnv jwm mW x3_485 r_500 → (vp_in r_500 16 ∧ (∀ J142 : Prop, ((∃ (N_506 : NetM) (K_506 : Nat), (pr_X7_toOf N_506 K_506 jth jrm jwy jhi jmf jmt jla jre jwr jga jlo jmo jli jta jpt jen jbg jfa jwt jac jng jnl jnm jnv jwm mW x3_485 ∧ (∀ (r_506 : Int32), ps_X7_toOf N_506 K_506 jth jrm jwy jhi jmf jmt jla jre jwr jga jlo jmo jli jta jpt jen jbg jfa jwt jac jng jnl jnm jnv jwm mW x3_485 r_506 → (vp_in r_506 16 ∧ (∀ u_508 : Nat → Int32, u_508 = upd a_487 r_506.toNatClampNeg ((a_487 r_496.toNatClampNeg) + (mW (4 + r_498).toNatClampNeg)) → (X52 (x3_485 + 1) 1 u_508)))))) → J142) →
(((a_487 r_500.toNatClampNeg) = (-1) → (J142)) ∧
 (¬ ((a_487 r_500.toNatClampNeg) = (-1)) → (∃ (N_511 : NetM) (K_511 : Nat), (pr_X7_toOf N_511 K_511 jth jrm jwy jhi jmf jmt jla jre jwr jga jlo jmo jli jta jpt jen jbg jfa jwt jac jng jnl jnm jnv jwm mW x3_485 ∧ (∀ (r_511 : Int32), ps_X7_toOf N_511 K_511 jth jrm jwy jhi jmf jmt jla jre jwr jga jlo jmo jli jta jpt jen jbg jfa jwt jac jng jnl jnm jnv jwm mW x3_485 r_511 → (vp_in r_511 16 ∧ (((((a_487 r_496.toNatClampNeg) + (mW (4 + r_498).toNatClampNeg)) < (a_487 r_511.toNatClampNeg) → (J142)) ∧
 (¬ (((a_487 r_496.toNatClampNeg) + (mW (4 + r_498).toNatClampNeg)) < (a_487 r_511.toNatClampNeg)) → (X52 (x3_485 + 1) x2_486 a_487)))))))))))))))))))))))) ∧
 ((a_487 r_493.toNatClampNeg) = (-1) → (X52 (x3_485 + 1) x2_486 a_487)))))))))))))))))) → X52 x3_485 x2_486 a_487) → X52 ix3_485 ix2_486 ia_487
def wp_X7_fareOf_L44 (jth jrm jwy jhi jmf jmt jla jre jwr jga jlo jmo jli jta jpt jen jbg jfa jwt jac jng jnl jnm jnv jwm : Int32) (mW : Nat → Int32) (J165 : (Nat → Int32) → Prop) (ix2_394 : Int32) (ia_395 : Nat → Int32) : Prop :=
  ∀ X44 : Int32 → (Nat → Int32) → Prop, (∀ (x2_394 : Int32) (a_395 : Nat → Int32), (((x2_394 = 0 → (J165 a_395)) ∧
 (¬ (x2_394 = 0) → (∀ J162 : Int32 → (Nat → Int32) → Prop, (∀ (x2_482 : Int32) (a_483 : Nat → Int32), (X44 x2_482 a_483) → J162 x2_482 a_483) →
wp_X7_fareOf_L52 jth jrm jwy jhi jmf jmt jla jre jwr jga jlo jmo jli jta jpt jen jbg jfa jwt jac jng jnl jnm jnv jwm mW J162 0 0 a_395)))) → X44 x2_394 a_395) → X44 ix2_394 ia_395
def wp_X7_fareOf_L2 (jth jrm jwy jhi jmf jmt jla jre jwr jga jlo jmo jli jta jpt jen jbg jfa jwt jac jng jnl jnm jnv jwm : Int32) (mW : Nat → Int32) (J42 : (Nat → Int32) → Prop) (ix2_515 : Int32) (ia_516 : Nat → Int32) : Prop :=
  ∀ X2 : Int32 → (Nat → Int32) → Prop, (∀ (x2_515 : Int32) (a_516 : Nat → Int32), (∀ (r_518 : Int32), ps_X7_nodes jth jrm jwy jhi jmf jmt jla jre jwr jga jlo jmo jli jta jpt jen jbg jfa jwt jac jng jnl jnm jnv jwm mW r_518 → (((r_518 ≤ x2_515 → (J42 a_516)) ∧
 (¬ (r_518 ≤ x2_515) → (∀ (r_520 : Int32), ps_X7_root jth jrm jwy jhi jmf jmt jla jre jwr jga jlo jmo jli jta jpt jen jbg jfa jwt jac jng jnl jnm jnv jwm mW r_520 → (((¬ x2_515 = r_520 → (vp_in x2_515 16 ∧ (∀ u_523 : Nat → Int32, u_523 = upd a_516 x2_515.toNatClampNeg (-1) → (X2 (x2_515 + 1) u_523)))) ∧
 (x2_515 = r_520 → (vp_in (4 + x2_515) 200 ∧ (vp_in x2_515 16 ∧ (∀ u_526 : Nat → Int32, u_526 = upd a_516 x2_515.toNatClampNeg (mW (4 + x2_515).toNatClampNeg) → (X2 (x2_515 + 1) u_526)))))))))))) → X2 x2_515 a_516) → X2 ix2_515 ia_516
def wp_X7_fareOf (jth jrm jwy jhi jmf jmt jla jre jwr jga jlo jmo jli jta jpt jen jbg jfa jwt jac jng jnl jnm jnv jwm : Int32) (mW mS : Nat → Int32) (v : Int32) (Q : Int32 → (Nat → Int32) → Prop) : Prop :=
  ∀ J42 : (Nat → Int32) → Prop, (∀ (a_33 : Nat → Int32), (∀ J165 : (Nat → Int32) → Prop, (∀ (a_391 : Nat → Int32), (vp_in v 16 ∧ (Q (a_391 v.toNatClampNeg) a_391)) → J165 a_391) →
wp_X7_fareOf_L44 jth jrm jwy jhi jmf jmt jla jre jwr jga jlo jmo jli jta jpt jen jbg jfa jwt jac jng jnl jnm jnv jwm mW J165 1 a_33) → J42 a_33) →
wp_X7_fareOf_L2 jth jrm jwy jhi jmf jmt jla jre jwr jga jlo jmo jli jta jpt jen jbg jfa jwt jac jng jnl jnm jnv jwm mW J42 0 mS
theorem pf_X7_fareOf (N : NetM) (V : Nat) (jth jrm jwy jhi jmf jmt jla jre jwr jga jlo jmo jli jta jpt jen jbg jfa jwt jac jng jnl jnm jnv jwm : Int32) (mW mS : Nat → Int32) (v : Int32) (hp : pr_X7_fareOf N V jth jrm jwy jhi jmf jmt jla jre jwr jga jlo jmo jli jta jpt jen jbg jfa jwt jac jng jnl jnm jnv jwm mW mS v) : wp_X7_fareOf jth jrm jwy jhi jmf jmt jla jre jwr jga jlo jmo jli jta jpt jen jbg jfa jwt jac jng jnl jnm jnv jwm mW mS v (ps_X7_fareOf N V jth jrm jwy jhi jmf jmt jla jre jwr jga jlo jmo jli jta jpt jen jbg jfa jwt jac jng jnl jnm jnv jwm mW mS v) := by
  unfold wp_X7_fareOf
  obtain ⟨hN, rfl, hV⟩ := hp
  have h16 := hN.1.2.1
  have h60 := hN.1.2.2.2.2.1
  have hro := hN.1.2.2.1
  have htl := hN.1.2.2.2.2.2.2
  intro J42 hJ42 X hX
  refine up1 N.n (fun k (a : Nat → Int32) => ∀ x, x < k → a x = if x = N.root then nI (N.tl N.root) else -1) (fun k a hk hI hh => hX _ _ (fun r1 h1 => ?_)) (fun a hI => hX _ _ (fun r1 h1 => ?_)) 0 mS (Nat.zero_le _) (fun x hx => absurd hx (by omega))
  · rw [ndW hN h1, leN (by omega) (by omega)]
    have put : ∀ t u, u = upd a k t → t = (if k = N.root then nI (N.tl N.root) else -1) → X (nI k + 1) u := fun t u hu ht => hh u (fun x hx => by
      rw [hu]
      by_cases e : x = k
      · subst e; rw [upd_s]; exact ht
      · rw [upd_n e]; exact hI x (by omega))
    refine ⟨fun z => absurd z (by omega), fun _ r2 h2 => ?_⟩
    rw [rtW hN h2, show (4 : Int32) + nI k = nI (4 + k) from nI_add 4 k, clN (by omega), clN (by omega), hN.2.2.2.2.2.1 k (by omega), eqN (by omega) (by omega)]
    refine ⟨fun ne => ⟨vp_in_nI (by omega) (by decide), fun u hu => put _ u hu (if_neg ne).symm⟩, fun e => ⟨vp_in_nI (by omega) (by decide), vp_in_nI (by omega) (by decide), fun u hu => put _ u hu (by rw [if_pos e, e])⟩⟩
  · rw [ndW hN h1]
    refine ⟨fun _ => hJ42 a ?_, fun z => absurd (Int32.le_refl _) z⟩
    clear hX hJ42
    intro J165 hJ165 X44 hX44
    -- nodes at n and beyond are never looked at: a copy that has -1 there
    have hroot : a N.root = nI (N.tl N.root) := by rw [hI _ hro, if_pos rfl]
    -- what holds ahead of each round
    have key : ∀ (fa : Nat → Int32) (more : Int32), FsW N fa → (more = 0 → FcW N fa) → X44 more fa := by
      intro fa more hF hC
      refine dn1 (X := fun p : Int32 × (Nat → Int32) => X44 p.1 p.2) (fun p => FsW N p.2 ∧ (p.1 = 0 → FcW N p.2)) (fun p => smF N.n p.2 + if p.1 = 0 then 0 else 1) (fun p hp hh => ?_) (more, fa) ⟨hF, hC⟩
      obtain ⟨more, fa⟩ := p
      obtain ⟨hF, hC⟩ := hp
      refine hX44 _ _ ⟨fun z => hJ165 _ ⟨vp_in_nI (by omega) (by decide), by rw [clN (by omega)]; exact (hC z).fin hN.1 hF hV⟩, fun z J162 hJ162 X52 hX52 => ?_⟩
      have hm1 : (if more = 0 then 0 else 1) = 1 := if_neg z
      refine up2 N.m (fun k (mo : Int32) (fb : Nat → Int32) => FsW N fb ∧ (mo = 0 ∨ mo = 1) ∧ (mo = 0 → fb = fa ∧ ∀ j, j < k → RelW N fa j) ∧ (mo = 1 → smF N.n fb < smF N.n fa)) (fun k mo fb hk hI2 hh2 => hX52 _ _ _ (fun r2 h2 => ?_)) (fun mo fb hI2 => hX52 _ _ _ (fun r2 h2 => ?_)) 0 0 fa (Nat.zero_le _) ⟨hF, Or.inl rfl, fun _ => ⟨rfl, fun j hj => absurd hj (by omega)⟩, fun q => absurd q (by decide)⟩
      · rw [mnW hN h2, leN (by omega) (by omega)]
        obtain ⟨iF, i01, i0, i1'⟩ := hI2
        have harc := hN.1.2.2.2.2.2.1 k hk
        have hfr : pr_X7_fromOf N k jth jrm jwy jhi jmf jmt jla jre jwr jga jlo jmo jli jta jpt jen jbg jfa jwt jac jng jnl jnm jnv jwm mW (nI k) := ⟨hN, rfl, hk⟩
        have hto : pr_X7_toOf N k jth jrm jwy jhi jmf jmt jla jre jwr jga jlo jmo jli jta jpt jen jbg jfa jwt jac jng jnl jnm jnv jwm mW (nI k) := ⟨hN, rfl, hk⟩
        have no : RelW N fb k → X52 (nI k + 1) mo fb := fun q => hh2 _ _ ⟨iF, i01, fun e => ⟨(i0 e).1, fun j hj => by
          by_cases e2 : j = k
          · subst e2; rw [← (i0 e).1]; exact q
          · exact (i0 e).2 j (by omega)⟩, i1'⟩
        refine ⟨fun y => absurd y (by omega), fun _ => ⟨N, k, ⟨hN, rfl, hk⟩, fun r3 h3 => ⟨fun y => no (fun w => absurd w (no_i1 h3 y)), fun y => ⟨N, k, hfr, fun r4 h4 => ?_⟩⟩⟩⟩
        have hop := of_i1 h3 y
        have h4 : r4 = nI (N.fr k) := h4
        rw [h4, clN (by omega)]
        refine ⟨vp_in_nI (by omega) (by decide), fun z1 => ⟨N, k, hfr, fun r5 h5 => ?_⟩, fun z1 => no (fun _ w => absurd z1 w)⟩
        have h5 : r5 = nI (N.fr k) := h5
        rw [h5, clN (by omega)]
        refine ⟨vp_in_nI (by omega) (by decide), N, k, hto, fun r6 h6 => ?_⟩
        have h6 : r6 = nI (N.to k) := h6
        rw [h6, show (4 : Int32) + nI (N.to k) = nI (4 + N.to k) from nI_add 4 _, clN (by omega), hN.2.2.2.2.2.1 _ (by omega)]
        refine ⟨vp_in_nI (by omega) (by decide), N, k, hto, fun r7 h7 => ?_⟩
        have h7 : r7 = nI (N.to k) := h7
        rw [h7, clN (by omega)]
        obtain ⟨ca, la, v1, v2, v3⟩ := (iF.1 _ harc.1).resolve_left z1
        have ht99 := htl (N.to k) (by omega)
        have hca := v1.2
        rw [v1.1, nI_add]
        refine ⟨vp_in_nI (by omega) (by decide), fun J142 hJ142 => ?_⟩
        have put : (fb (N.to k) = -1 ∨ ∃ cb, Vl fb (N.to k) cb ∧ ca + N.tl (N.to k) < cb) → J142 := fun q => hJ142 ⟨N, k, hto, fun r8 h8 => by
          have h8 : r8 = nI (N.to k) := h8
          rw [h8, clN (by omega)]
          refine ⟨vp_in_nI (by omega) (by decide), fun u hu => hh2 _ _ ?_⟩
          have hr := FsW.relax hN.1 iF v1 v2 v3 ⟨k, hk, hop, rfl, rfl⟩ q
          rw [← hu] at hr
          refine ⟨hr.1, Or.inr rfl, fun e => absurd e (by decide), fun _ => ?_⟩
          rcases i01 with e | e
          · rw [← (i0 e).1]; exact hr.2
          · exact Nat.lt_trans hr.2 (i1' e)⟩
        refine ⟨fun z2 => put (Or.inl z2), fun z2 => ⟨N, k, hto, fun r9 h9 => ?_⟩⟩
        have h9 : r9 = nI (N.to k) := h9
        rw [h9, clN (by omega)]
        obtain ⟨cb, lb, w1, w2, w3⟩ := (iF.1 _ harc.2).resolve_left z2
        have hcb := w1.2
        rw [w1.1, ltN (by omega) (by omega)]
        exact ⟨vp_in_nI (by omega) (by decide), fun q => put (Or.inr ⟨cb, w1, q⟩), fun q => no (fun _ _ c hc => ⟨cb, w1, by have := hc.uniq v1; omega⟩)⟩
      · rw [mnW hN h2]
        refine ⟨fun _ => hJ162 _ _ (hh (_, _) ⟨hI2.1, fun e => ?_⟩ ?_), fun q => absurd (Int32.le_refl _) q⟩
        · have e0 : mo = 0 := e
          have := hI2.2.2.1 e0
          show FcW N fb
          rw [this.1]
          exact this.2
        · show smF N.n fb + (if mo = 0 then 0 else 1) < smF N.n fa + if more = 0 then 0 else 1
          rw [hm1]
          rcases hI2.2.1 with e | e
          · rw [if_pos e, (hI2.2.2.1 e).1]; omega
          · have := hI2.2.2.2 e
            rw [if_neg (by rw [e]; decide)]; omega
    refine key a 1 ⟨fun x hx => ?_, by rw [hroot]; exact nI_m1 (by have := htl N.root (by omega); omega), fun c q => ?_⟩ (fun q => absurd q (by decide))
    rotate_left 1
    · have := htl N.root (by omega)
      have q2 := q.2
      have := (eqN (by omega) (by omega)).mp (q.1.symm.trans hroot)
      omega
    rw [hI x hx]
    by_cases e : x = N.root
    · have := htl N.root (by omega)
      exact Or.inr ⟨N.tl N.root, 0, ⟨by rw [hI x hx, if_pos e], by omega⟩, ⟨e, rfl⟩, by
        have : 1 ≤ cnt N.n (fun z => ¬ a z = -1) := cnt_pos (k := N.root) hro (by rw [hroot]; exact nI_m1 (by omega))
        omega⟩
    · exact Or.inl (if_neg e)
def pr_X7_controls (N : NetM) (V : Nat) (jth jrm jwy jhi jmf jmt jla jre jwr jga jlo jmo jli jta jpt jen jbg jfa jwt jac jng jnl jnm jnv jwm : Int32) (mW : Nat → Int32) (v : Int32) : Prop := NetW N mW ∧ IsSet jre (Rd N.E N.root) ∧ v = nI V ∧ V < N.n
def ps_X7_controls (N : NetM) (V : Nat) (jth jrm jwy jhi jmf jmt jla jre jwr jga jlo jmo jli jta jpt jen jbg jfa jwt jac jng jnl jnm jnv jwm : Int32) (mW : Nat → Int32) (v : Int32) (r : Int32)  : Prop := IsSet r (Ctl N V)
def wp_X7_controls_L14 (jth jrm jwy jhi jmf jmt jla jre jwr jga jlo jmo jli jta jpt jen jbg jfa jwt jac jng jnl jnm jnv jwm : Int32) (mW : Nat → Int32) (v : Int32) (J77 : Int32 → Prop) (ix3_49 ix2_50 : Int32) : Prop :=
  ∀ X14 : Int32 → Int32 → Prop, (∀ (x3_49 : Int32) (x2_50 : Int32), (∀ (r_52 : Int32), ps_X7_arcs jth jrm jwy jhi jmf jmt jla jre jwr jga jlo jmo jli jta jpt jen jbg jfa jwt jac jng jnl jnm jnv jwm mW r_52 → (((r_52 ≤ x3_49 → (J77 x2_50)) ∧
 (¬ (r_52 ≤ x3_49) → (∃ (N_54 : NetM) (K_54 : Nat), (pr_X7_isOpen N_54 K_54 jth jrm jwy jhi jmf jmt jla jre jwr jga jlo jmo jli jta jpt jen jbg jfa jwt jac jng jnl jnm jnv jwm mW x3_49 ∧ (∀ (r_54 : Int32), ps_X7_isOpen N_54 K_54 jth jrm jwy jhi jmf jmt jla jre jwr jga jlo jmo jli jta jpt jen jbg jfa jwt jac jng jnl jnm jnv jwm mW x3_49 r_54 → (((r_54 = 0 → (X14 (x3_49 + 1) x2_50)) ∧
 (¬ (r_54 = 0) → (∃ (N_56 : NetM) (K_56 : Nat), (pr_X7_fromOf N_56 K_56 jth jrm jwy jhi jmf jmt jla jre jwr jga jlo jmo jli jta jpt jen jbg jfa jwt jac jng jnl jnm jnv jwm mW x3_49 ∧ (∀ (r_56 : Int32), ps_X7_fromOf N_56 K_56 jth jrm jwy jhi jmf jmt jla jre jwr jga jlo jmo jli jta jpt jen jbg jfa jwt jac jng jnl jnm jnv jwm mW x3_49 r_56 → (((¬ r_56 = v → (X14 (x3_49 + 1) x2_50)) ∧
 (r_56 = v → (∃ (N_58 : NetM) (K_58 : Nat), (pr_X7_toOf N_58 K_58 jth jrm jwy jhi jmf jmt jla jre jwr jga jlo jmo jli jta jpt jen jbg jfa jwt jac jng jnl jnm jnv jwm mW x3_49 ∧ (∀ (r_58 : Int32), ps_X7_toOf N_58 K_58 jth jrm jwy jhi jmf jmt jla jre jwr jga jlo jmo jli jta jpt jen jbg jfa jwt jac jng jnl jnm jnv jwm mW x3_49 r_58 → (∃ (N_59 : NetM) (V_59 : Nat), (pr_X7_hasWayOut N_59 V_59 jth jrm jwy jhi jmf jmt jla jre jwr jga jlo jmo jli jta jpt jen jbg jfa jwt jac jng jnl jnm jnv jwm mW r_58 ∧ (∀ (r_59 : Int32), ps_X7_hasWayOut N_59 V_59 jth jrm jwy jhi jmf jmt jla jre jwr jga jlo jmo jli jta jpt jen jbg jfa jwt jac jng jnl jnm jnv jwm mW r_58 r_59 → (((r_59 = 0 → (X14 (x3_49 + 1) x2_50)) ∧
 (¬ (r_59 = 0) → (∃ (N_61 : NetM) (K_61 : Nat), (pr_X7_toOf N_61 K_61 jth jrm jwy jhi jmf jmt jla jre jwr jga jlo jmo jli jta jpt jen jbg jfa jwt jac jng jnl jnm jnv jwm mW x3_49 ∧ (∀ (r_61 : Int32), ps_X7_toOf N_61 K_61 jth jrm jwy jhi jmf jmt jla jre jwr jga jlo jmo jli jta jpt jen jbg jfa jwt jac jng jnl jnm jnv jwm mW x3_49 r_61 → (∃ (N_62 : NetM) (K_62 : Nat), (pr_X7_toOf N_62 K_62 jth jrm jwy jhi jmf jmt jla jre jwr jga jlo jmo jli jta jpt jen jbg jfa jwt jac jng jnl jnm jnv jwm mW x3_49 ∧ (∀ (r_62 : Int32), ps_X7_toOf N_62 K_62 jth jrm jwy jhi jmf jmt jla jre jwr jga jlo jmo jli jta jpt jen jbg jfa jwt jac jng jnl jnm jnv jwm mW x3_49 r_62 → (∃ (N_63 : NetM) (V_63 : Nat), (pr_X7_outGatesOf N_63 V_63 jth jrm jwy jhi jmf jmt jla jre jwr jga jlo jmo jli jta jpt jen jbg jfa jwt jac jng jnl jnm jnv jwm mW r_62 ∧ (∀ (r_63 : Int32), ps_X7_outGatesOf N_63 V_63 jth jrm jwy jhi jmf jmt jla jre jwr jga jlo jmo jli jta jpt jen jbg jfa jwt jac jng jnl jnm jnv jwm mW r_62 r_63 → (X14 (x3_49 + 1) (x2_50 ||| ((1 <<< (r_61 &&& 31)) ||| r_63))))))))))))))))))))))))))))))))))))) → X14 x3_49 x2_50) → X14 ix3_49 ix2_50
def wp_X7_controls (jth jrm jwy jhi jmf jmt jla jre jwr jga jlo jmo jli jta jpt jen jbg jfa jwt jac jng jnl jnm jnv jwm : Int32) (mW : Nat → Int32) (v : Int32) (Q : Int32 → Prop) : Prop :=
  ∃ (N_1 : NetM) (V_1 : Nat), (pr_X7_hasWayOut N_1 V_1 jth jrm jwy jhi jmf jmt jla jre jwr jga jlo jmo jli jta jpt jen jbg jfa jwt jac jng jnl jnm jnv jwm mW v ∧ (∀ (r_1 : Int32), ps_X7_hasWayOut N_1 V_1 jth jrm jwy jhi jmf jmt jla jre jwr jga jlo jmo jli jta jpt jen jbg jfa jwt jac jng jnl jnm jnv jwm mW v r_1 → (((¬ r_1 = 0 → (∀ J77 : Int32 → Prop, (∀ (x2_46 : Int32), (∃ (N_47 : NetM) (V_47 : Nat), (pr_X7_outGatesOf N_47 V_47 jth jrm jwy jhi jmf jmt jla jre jwr jga jlo jmo jli jta jpt jen jbg jfa jwt jac jng jnl jnm jnv jwm mW v ∧ (∀ (r_47 : Int32), ps_X7_outGatesOf N_47 V_47 jth jrm jwy jhi jmf jmt jla jre jwr jga jlo jmo jli jta jpt jen jbg jfa jwt jac jng jnl jnm jnv jwm mW v r_47 → (Q (x2_46 &&& (r_47 ^^^ (-1))))))) → J77 x2_46) →
wp_X7_controls_L14 jth jrm jwy jhi jmf jmt jla jre jwr jga jlo jmo jli jta jpt jen jbg jfa jwt jac jng jnl jnm jnv jwm mW v J77 0 0)) ∧
 (r_1 = 0 → (Q 0))))))
theorem pf_X7_controls (N : NetM) (V : Nat) (jth jrm jwy jhi jmf jmt jla jre jwr jga jlo jmo jli jta jpt jen jbg jfa jwt jac jng jnl jnm jnv jwm : Int32) (mW : Nat → Int32) (v : Int32) (hp : pr_X7_controls N V jth jrm jwy jhi jmf jmt jla jre jwr jga jlo jmo jli jta jpt jen jbg jfa jwt jac jng jnl jnm jnv jwm mW v) : wp_X7_controls jth jrm jwy jhi jmf jmt jla jre jwr jga jlo jmo jli jta jpt jen jbg jfa jwt jac jng jnl jnm jnv jwm mW v (ps_X7_controls N V jth jrm jwy jhi jmf jmt jla jre jwr jga jlo jmo jli jta jpt jen jbg jfa jwt jac jng jnl jnm jnv jwm mW v) := by
  unfold wp_X7_controls
  obtain ⟨hN, hr, rfl, hV⟩ := hp
  have h16 := hN.1.2.1
  have h60 := hN.1.2.2.2.2.1
  refine ⟨N, V, ⟨hN, hr, rfl, hV⟩, fun r1 h1 => ⟨fun y J hJ X hX => ?_, fun y => IsSet.zero.congr (fun x _ => ⟨False.elim, fun w => IsB.neg h1 y ⟨w.1, w.2.1⟩⟩)⟩⟩
  have hw := IsB.pos h1 y
  refine up1 N.m (fun k s => Acc (fun _ => False) k (fun j x => N.op j = true ∧ N.fr j = V ∧ Dm N.X N.exit x (N.to j)) s) (fun k s hk hI hh => hX _ _ (fun r1 h1 => ?_)) (fun s hI => hX _ _ (fun r1 h1 => ?_)) 0 0 (Nat.zero_le _) Acc.z
  · rw [mnW hN h1, leN (by omega) (by omega)]
    have harc := hN.1.2.2.2.2.2.1 k hk
    refine ⟨fun z => absurd z (by omega), fun _ => ⟨N, k, ⟨hN, rfl, hk⟩, fun r4 h4 => ⟨fun y => hh _ (hI.no (fun x _ w => no_i1 h4 y w.1)), fun y4 => ⟨N, k, ⟨hN, rfl, hk⟩, fun r5 h5 => ?_⟩⟩⟩⟩
    have h5 : r5 = nI (N.fr k) := h5
    subst h5
    rw [eqN (by omega) (by omega)]
    refine ⟨fun ne => hh _ (hI.no (fun x _ w => ne w.2.1)), fun e => ⟨N, k, ⟨hN, rfl, hk⟩, fun r6 h6 => ?_⟩⟩
    have h6 : r6 = nI (N.to k) := h6
    subst h6
    have hop := of_i1 h4 y4
    refine ⟨N, N.to k, ⟨hN, hr, rfl, harc.2⟩, fun r7 h7 => ⟨fun y5 => hh _ (hI.no (fun x _ w => IsB.neg h7 y5 ⟨Rs.step hw.1 ⟨k, hk, hop, e, rfl⟩ id, w.2.2.R⟩)), fun y5 => ⟨N, k, ⟨hN, rfl, hk⟩, fun r8 h8 => ⟨N, k, ⟨hN, rfl, hk⟩, fun r9 h9 => ?_⟩⟩⟩⟩
    have h8 : r8 = nI (N.to k) := h8
    subst h8
    have h9 : r9 = nI (N.to k) := h9
    subst h9
    have hw2 := IsB.pos h7 y5
    refine ⟨N, N.to k, ⟨hN, hr, rfl, harc.2⟩, fun ra ha => hh _ (hI.or ((IsSet.or (IsSet.bit (k := N.to k) (by omega)) ha).congr (fun x _ => ⟨fun w => ⟨hop, e, w.elim (fun w => by subst w; exact Dm.refl hw2.2) (fun w => w.2.2)⟩, fun w => ((Dm.split hw2.2).1 w.2.2).elim Or.inl (fun w => Or.inr ⟨hw2.1, w⟩)⟩)))⟩
  · rw [mnW hN h1]
    refine ⟨fun _ => hJ _ ⟨N, V, ⟨hN, hr, rfl, hV⟩, fun r5 h5 => (hI.get.andNot h5).congr (fun x _ => ⟨?_, ?_⟩)⟩, fun z => absurd (Int32.le_refl _) z⟩
    · rintro ⟨⟨j, a, b, c, d⟩, ng⟩
      exact ⟨hw.1, hw.2, ⟨N.to j, ⟨j, a, b, c, rfl⟩, d⟩, ng⟩
    · rintro ⟨-, -, ⟨n, ⟨j, a, b, c, rfl⟩, d⟩, ng⟩
      exact ⟨⟨j, a, b, c, d⟩, ng⟩
def pr_X7_ringOf (N : NetM) (V : Nat) (jth jrm jwy jhi jmf jmt jla jre jwr jga jlo jmo jli jta jpt jen jbg jfa jwt jac jng jnl jnm jnv jwm : Int32) (mW : Nat → Int32) (v : Int32) : Prop := NetW N mW ∧ IsSet jre (Rd N.E N.root) ∧ jmf = -1 ∧ jla = -1 ∧ v = nI V ∧ V < N.n
def ps_X7_ringOf (N : NetM) (V : Nat) (jth jrm jwy jhi jmf jmt jla jre jwr jga jlo jmo jli jta jpt jen jbg jfa jwt jac jng jnl jnm jnv jwm : Int32) (mW : Nat → Int32) (v : Int32) (r : Int32)  : Prop := IsSet r (fun n => Rd N.E N.root V ∧ Rs N.E (fun z => z = V) (fun _ => False) n ∧ Rs N.E (fun z => z = n) (fun _ => False) V)
def wp_X7_ringOf (jth jrm jwy jhi jmf jmt jla jre jwr jga jlo jmo jli jta jpt jen jbg jfa jwt jac jng jnl jnm jnv jwm : Int32) (mW : Nat → Int32) (v : Int32) (Q : Int32 → Prop) : Prop :=
  ∀ (r_1 : Int32), ps_X7_holds jre v r_1 → (((r_1 = 0 → (Q 0)) ∧
 (¬ (r_1 = 0) → (∃ (N_3 : NetM) (E_3 : Nat → Nat → Prop) (A_3 B_3 : Nat → Prop), (pr_X7_reach N_3 E_3 A_3 B_3 jth jrm jwy jhi jmf jmt jla jre jwr jga jlo jmo jli jta jpt jen jbg jfa jwt jac jng jnl jnm jnv jwm mW (1 <<< (v &&& 31)) 0 (-1) ∧ (∀ (r_3 : Int32), ps_X7_reach N_3 E_3 A_3 B_3 jth jrm jwy jhi jmf jmt jla jre jwr jga jlo jmo jli jta jpt jen jbg jfa jwt jac jng jnl jnm jnv jwm mW (1 <<< (v &&& 31)) 0 (-1) r_3 → (∃ (N_4 : NetM) (A_4 B_4 : Nat → Prop), (pr_X7_comers N_4 A_4 B_4 jth jrm jwy jhi jmf jmt jla jre jwr jga jlo jmo jli jta jpt jen jbg jfa jwt jac jng jnl jnm jnv jwm mW (1 <<< (v &&& 31)) 0 ∧ (∀ (r_4 : Int32), ps_X7_comers N_4 A_4 B_4 jth jrm jwy jhi jmf jmt jla jre jwr jga jlo jmo jli jta jpt jen jbg jfa jwt jac jng jnl jnm jnv jwm mW (1 <<< (v &&& 31)) 0 r_4 → (Q (r_3 &&& r_4)))))))))))
theorem pf_X7_ringOf (N : NetM) (V : Nat) (jth jrm jwy jhi jmf jmt jla jre jwr jga jlo jmo jli jta jpt jen jbg jfa jwt jac jng jnl jnm jnv jwm : Int32) (mW : Nat → Int32) (v : Int32) (hp : pr_X7_ringOf N V jth jrm jwy jhi jmf jmt jla jre jwr jga jlo jmo jli jta jpt jen jbg jfa jwt jac jng jnl jnm jnv jwm mW v) : wp_X7_ringOf jth jrm jwy jhi jmf jmt jla jre jwr jga jlo jmo jli jta jpt jen jbg jfa jwt jac jng jnl jnm jnv jwm mW v (ps_X7_ringOf N V jth jrm jwy jhi jmf jmt jla jre jwr jga jlo jmo jli jta jpt jen jbg jfa jwt jac jng jnl jnm jnv jwm mW v) := by
  unfold wp_X7_ringOf
  obtain ⟨hN, hr, rfl, rfl, rfl, hV⟩ := hp
  have h16 := hN.1.2.1
  refine fun r1 h1 => ⟨fun y => IsSet.zero.congr (fun x _ => ⟨False.elim, fun w => hold_z h1 hr (by omega) y w.1⟩), fun y => ⟨N, N.E, fun z => z = V, fun _ => False, ⟨hN, EGa.base hN.1 _, IsSet.bit (by omega), IsSet.zero, fun x q => by rw [q]; exact hV⟩, fun r3 h3 => ⟨N, fun z => z = V, fun _ => False, ⟨hN, IsSet.bit (by omega), IsSet.zero, fun x q => by rw [q]; exact hV⟩, fun r4 h4 => (IsSet.and h3 h4).congr (fun x _ => ⟨fun w => ⟨hold_p h1 hr (by omega) y, w.1, Rs.flip_iff.2 w.2⟩, fun w => ⟨w.2.1, Rs.flip_iff.1 w.2.2⟩⟩)⟩⟩⟩
def pr_X7_tiedTo (N : NetM) (V : Nat) (jth jrm jwy jhi jmf jmt jla jre jwr jga jlo jmo jli jta jpt jen jbg jfa jwt jac jng jnl jnm jnv jwm : Int32) (mW : Nat → Int32) (v : Int32) : Prop := NetW N mW ∧ IsSet jre (Rd N.E N.root) ∧ jmf = -1 ∧ jla = -1 ∧ v = nI V ∧ V < N.n
def ps_X7_tiedTo (N : NetM) (V : Nat) (jth jrm jwy jhi jmf jmt jla jre jwr jga jlo jmo jli jta jpt jen jbg jfa jwt jac jng jnl jnm jnv jwm : Int32) (mW : Nat → Int32) (v : Int32) (r : Int32)  : Prop := IsSet r (fun x => Rd N.E N.root V ∧ TiedTo N V x)
def wp_X7_tiedTo_L20 (jth jrm jwy jhi jmf jmt jla jre jwr jga jlo jmo jli jta jpt jen jbg jfa jwt jac jng jnl jnm jnv jwm : Int32) (mW : Nat → Int32) (v : Int32) (J78 : Int32 → Prop) (ix3_45 ix2_46 : Int32) : Prop :=
  ∀ X20 : Int32 → Int32 → Prop, (∀ (x3_45 : Int32) (x2_46 : Int32), (∀ (r_48 : Int32), ps_X7_arcs jth jrm jwy jhi jmf jmt jla jre jwr jga jlo jmo jli jta jpt jen jbg jfa jwt jac jng jnl jnm jnv jwm mW r_48 → (((r_48 ≤ x3_45 → (J78 x2_46)) ∧
 (¬ (r_48 ≤ x3_45) → (∃ (N_50 : NetM) (K_50 : Nat), (pr_X7_isOpen N_50 K_50 jth jrm jwy jhi jmf jmt jla jre jwr jga jlo jmo jli jta jpt jen jbg jfa jwt jac jng jnl jnm jnv jwm mW x3_45 ∧ (∀ (r_50 : Int32), ps_X7_isOpen N_50 K_50 jth jrm jwy jhi jmf jmt jla jre jwr jga jlo jmo jli jta jpt jen jbg jfa jwt jac jng jnl jnm jnv jwm mW x3_45 r_50 → (∀ J49 : Int32 → Prop, (∀ (t_53 : Int32), (∀ (r_54 : Int32), ps_X7_holds t_53 v r_54 → (((r_54 = 0 → (X20 (x3_45 + 1) (x2_46 &&& (t_53 ^^^ (-1))))) ∧
 (¬ (r_54 = 0) → (X20 (x3_45 + 1) (x2_46 &&& t_53)))))) → J49 t_53) →
((r_50 = 0 → (J49 jre)) ∧
 (¬ (r_50 = 0) → (∃ (N_58 : NetM) (E_58 : Nat → Nat → Prop) (B_58 : Nat → Prop), (pr_X7_reachedBut N_58 E_58 B_58 jth jrm jwy jhi jmf jmt jla jre jwr jga jlo jmo jli jta jpt jen jbg jfa jwt jac jng jnl jnm jnv jwm mW 0 x3_45 ∧ (∀ (r_58 : Int32), ps_X7_reachedBut N_58 E_58 B_58 jth jrm jwy jhi jmf jmt jla jre jwr jga jlo jmo jli jta jpt jen jbg jfa jwt jac jng jnl jnm jnv jwm mW 0 x3_45 r_58 → (J49 r_58)))))))))))))) → X20 x3_45 x2_46) → X20 ix3_45 ix2_46
def wp_X7_tiedTo (jth jrm jwy jhi jmf jmt jla jre jwr jga jlo jmo jli jta jpt jen jbg jfa jwt jac jng jnl jnm jnv jwm : Int32) (mW : Nat → Int32) (v : Int32) (Q : Int32 → Prop) : Prop :=
  ∀ (r_1 : Int32), ps_X7_holds jre v r_1 → (((¬ r_1 = 0 → (∀ J78 : Int32 → Prop, (∀ (x2_43 : Int32), (Q x2_43) → J78 x2_43) →
wp_X7_tiedTo_L20 jth jrm jwy jhi jmf jmt jla jre jwr jga jlo jmo jli jta jpt jen jbg jfa jwt jac jng jnl jnm jnv jwm mW v J78 0 jre)) ∧
 (r_1 = 0 → (Q 0))))
theorem pf_X7_tiedTo (N : NetM) (V : Nat) (jth jrm jwy jhi jmf jmt jla jre jwr jga jlo jmo jli jta jpt jen jbg jfa jwt jac jng jnl jnm jnv jwm : Int32) (mW : Nat → Int32) (v : Int32) (hp : pr_X7_tiedTo N V jth jrm jwy jhi jmf jmt jla jre jwr jga jlo jmo jli jta jpt jen jbg jfa jwt jac jng jnl jnm jnv jwm mW v) : wp_X7_tiedTo jth jrm jwy jhi jmf jmt jla jre jwr jga jlo jmo jli jta jpt jen jbg jfa jwt jac jng jnl jnm jnv jwm mW v (ps_X7_tiedTo N V jth jrm jwy jhi jmf jmt jla jre jwr jga jlo jmo jli jta jpt jen jbg jfa jwt jac jng jnl jnm jnv jwm mW v) := by
  unfold wp_X7_tiedTo
  obtain ⟨hN, hr, rfl, rfl, rfl, hV⟩ := hp
  have h16 := hN.1.2.1
  have h60 := hN.1.2.2.2.2.1
  refine fun r1 h1 => ⟨fun y J hJ X hX => ?_, fun y => IsSet.zero.congr (fun x _ => ⟨False.elim, fun w => hold_z h1 hr (by omega) y w.1⟩)⟩
  have hRd := hold_p h1 hr (by omega) y
  refine up1 N.m (fun k s => IsSet s (fun x => Rd N.E N.root x ∧ ∀ j, j < k → N.op j = true → (Rd (N.Eb j) N.root V ↔ Rd (N.Eb j) N.root x))) (fun k s hk hI hh => hX _ _ (fun r1 h1 => ?_)) (fun s hI => hX _ _ (fun r1 h1 => ?_)) 0 jre (Nat.zero_le _) (hr.congr (fun x _ => ⟨fun w => ⟨w, fun j hj => absurd hj (by omega)⟩, fun w => w.1⟩))
  · rw [mnW hN h1, leN (by omega) (by omega)]
    refine ⟨fun z => absurd z (by omega), fun _ => ⟨N, k, ⟨hN, rfl, hk⟩, fun r4 h4 J49 hJ49 => ⟨fun y4 => hJ49 _ (fun r5 h5 => ⟨fun y5 => absurd hRd (hold_z h5 hr (by omega) y5), fun _ => hh _ ((hI.and hr).congr (fun x _ => ⟨fun w => ⟨w.2, fun j hj ho => ?_⟩, fun w => ⟨⟨w.1, fun j hj => w.2 j (by omega)⟩, w.1⟩⟩))⟩), fun y4 => ⟨N, N.Eb k, fun _ => False, ⟨hN, EGa.but hN.1 hk _, IsSet.zero⟩, fun r5 h5 => hJ49 _ (fun r6 h6 => ⟨fun y6 => hh _ ((hI.andNot h5).congr (fun x _ => ⟨fun w => ⟨w.1.1, fun j hj ho => ?_⟩, fun w => ⟨⟨w.1, fun j hj => w.2 j (by omega)⟩, fun q => ?_⟩⟩)), fun y6 => hh _ ((hI.and h5).congr (fun x _ => ⟨fun w => ⟨w.1.1, fun j hj ho => ?_⟩, fun w => ⟨⟨w.1, fun j hj => w.2 j (by omega)⟩, ?_⟩⟩))⟩)⟩⟩⟩⟩
    · by_cases e : j = k
      · subst e; exact absurd ho (no_i1 h4 y4)
      · exact w.1.2 j (by omega) ho
    · by_cases e : j = k
      · subst e; exact ⟨fun q => absurd q (hold_z h6 h5 (by omega) y6), fun q => absurd q w.2⟩
      · exact w.1.2 j (by omega) ho
    · exact hold_z h6 h5 (by omega) y6 ((w.2 k (by omega) (of_i1 h4 y4)).2 q)
    · by_cases e : j = k
      · subst e; exact ⟨fun _ => w.2, fun _ => hold_p h6 h5 (by omega) y6⟩
      · exact w.1.2 j (by omega) ho
    · exact (w.2 k (by omega) (of_i1 h4 y4)).1 (hold_p h6 h5 (by omega) y6)
  · rw [mnW hN h1]
    exact ⟨fun _ => hJ _ (hI.congr (fun x _ => ⟨fun w => ⟨hRd, w.1, w.2⟩, fun w => w.2⟩)), fun z => absurd (Int32.le_refl _) z⟩
def pr_X7_laysPass (N : NetM) (V : Nat) (jth jrm jwy jhi jmf jmt jla jre jwr jga jlo jmo jli jta jpt jen jbg jfa jwt jac jng jnl jnm jnv jwm : Int32) (mW mZ : Nat → Int32) (v : Int32) : Prop := NetW N mW ∧ IsSet jre (Rd N.E N.root) ∧ jmf = -1 ∧ jla = -1 ∧ v = nI V ∧ V < N.n
def ps_X7_laysPass (N : NetM) (V : Nat) (jth jrm jwy jhi jmf jmt jla jre jwr jga jlo jmo jli jta jpt jen jbg jfa jwt jac jng jnl jnm jnv jwm : Int32) (mW mZ : Nat → Int32) (v : Int32) (r : Int32) (mZ' : Nat → Int32) : Prop := r = nI (cnt N.m (fun a => PassW N a V)) ∧ ∀ a, a < N.m → IsB (mZ' a) (PassW N a V)
def wp_X7_laysPass_L4 (jth jrm jwy jhi jmf jmt jla jre jwr jga jlo jmo jli jta jpt jen jbg jfa jwt jac jng jnl jnm jnv jwm : Int32) (mW : Nat → Int32) (v : Int32) (J78 : Int32 → (Nat → Int32) → Prop) (ix3_72 ix2_73 : Int32) (ia_74 : Nat → Int32) : Prop :=
  ∀ X4 : Int32 → Int32 → (Nat → Int32) → Prop, (∀ (x3_72 : Int32) (x2_73 : Int32) (a_74 : Nat → Int32), (∀ (r_76 : Int32), ps_X7_arcs jth jrm jwy jhi jmf jmt jla jre jwr jga jlo jmo jli jta jpt jen jbg jfa jwt jac jng jnl jnm jnv jwm mW r_76 → (((r_76 ≤ x3_72 → (J78 x2_73 a_74)) ∧
 (¬ (r_76 ≤ x3_72) → (∃ (N_78 : NetM) (K_78 : Nat), (pr_X7_isOpen N_78 K_78 jth jrm jwy jhi jmf jmt jla jre jwr jga jlo jmo jli jta jpt jen jbg jfa jwt jac jng jnl jnm jnv jwm mW x3_72 ∧ (∀ (r_78 : Int32), ps_X7_isOpen N_78 K_78 jth jrm jwy jhi jmf jmt jla jre jwr jga jlo jmo jli jta jpt jen jbg jfa jwt jac jng jnl jnm jnv jwm mW x3_72 r_78 → (∀ J54 : Int32 → Prop, (∀ (t_85 : Int32), (vp_in x3_72 60 ∧ (∀ u_87 : Nat → Int32, u_87 = upd a_74 x3_72.toNatClampNeg (vp_nar .boolean t_85) → ((((u_87 x3_72.toNatClampNeg) = 0 → (X4 (x3_72 + 1) (x2_73 + 0) u_87)) ∧
 (¬ ((u_87 x3_72.toNatClampNeg) = 0) → (X4 (x3_72 + 1) (x2_73 + 1) u_87)))))) → J54 t_85) →
((r_78 = 0 → (J54 0)) ∧
 (¬ (r_78 = 0) → (∀ (r_91 : Int32), ps_X7_holds jre v r_91 → (((r_91 = 0 → (J54 0)) ∧
 (¬ (r_91 = 0) → (∃ (N_93 : NetM) (E_93 : Nat → Nat → Prop) (B_93 : Nat → Prop), (pr_X7_reachedBut N_93 E_93 B_93 jth jrm jwy jhi jmf jmt jla jre jwr jga jlo jmo jli jta jpt jen jbg jfa jwt jac jng jnl jnm jnv jwm mW 0 x3_72 ∧ (∀ (r_93 : Int32), ps_X7_reachedBut N_93 E_93 B_93 jth jrm jwy jhi jmf jmt jla jre jwr jga jlo jmo jli jta jpt jen jbg jfa jwt jac jng jnl jnm jnv jwm mW 0 x3_72 r_93 → (∀ (r_94 : Int32), ps_X7_holds r_93 v r_94 → (((¬ r_94 = 0 → (J54 0)) ∧
 (r_94 = 0 → (J54 1)))))))))))))))))))))) → X4 x3_72 x2_73 a_74) → X4 ix3_72 ix2_73 ia_74
def wp_X7_laysPass (jth jrm jwy jhi jmf jmt jla jre jwr jga jlo jmo jli jta jpt jen jbg jfa jwt jac jng jnl jnm jnv jwm : Int32) (mW mZ : Nat → Int32) (v : Int32) (Q : Int32 → (Nat → Int32) → Prop) : Prop :=
  ∀ J78 : Int32 → (Nat → Int32) → Prop, (∀ (x2_69 : Int32) (a_70 : Nat → Int32), (Q x2_69 a_70) → J78 x2_69 a_70) →
wp_X7_laysPass_L4 jth jrm jwy jhi jmf jmt jla jre jwr jga jlo jmo jli jta jpt jen jbg jfa jwt jac jng jnl jnm jnv jwm mW v J78 0 0 mZ
theorem pf_X7_laysPass (N : NetM) (V : Nat) (jth jrm jwy jhi jmf jmt jla jre jwr jga jlo jmo jli jta jpt jen jbg jfa jwt jac jng jnl jnm jnv jwm : Int32) (mW mZ : Nat → Int32) (v : Int32) (hp : pr_X7_laysPass N V jth jrm jwy jhi jmf jmt jla jre jwr jga jlo jmo jli jta jpt jen jbg jfa jwt jac jng jnl jnm jnv jwm mW mZ v) : wp_X7_laysPass jth jrm jwy jhi jmf jmt jla jre jwr jga jlo jmo jli jta jpt jen jbg jfa jwt jac jng jnl jnm jnv jwm mW mZ v (ps_X7_laysPass N V jth jrm jwy jhi jmf jmt jla jre jwr jga jlo jmo jli jta jpt jen jbg jfa jwt jac jng jnl jnm jnv jwm mW mZ v) := by
  unfold wp_X7_laysPass
  obtain ⟨hN, hr, rfl, rfl, rfl, hV⟩ := hp
  have h16 := hN.1.2.1
  have h60 := hN.1.2.2.2.2.1
  intro J hJ X hX
  refine up2 N.m (fun k x (a : Nat → Int32) => x = nI (cnt k (fun j => PassW N j V)) ∧ ∀ j, j < k → IsB (a j) (PassW N j V)) (fun k x a hk hI hh => hX _ _ _ (fun r1 h1 => ?_)) (fun x a hI => hX _ _ _ (fun r1 h1 => ?_)) 0 0 mZ (Nat.zero_le _) ⟨rfl, fun j hj => absurd hj (by omega)⟩
  · rw [mnW hN h1, leN (by omega) (by omega)]
    refine ⟨fun z => absurd z (by omega), fun _ => ⟨N, k, ⟨hN, rfl, hk⟩, fun r4 h4 J54 hJ54 => ?_⟩⟩
    have put : ∀ t, IsB t (PassW N k V) → J54 t := by
      intro t ht
      refine hJ54 t ⟨vp_in_nI (by omega) (by decide), fun u hu => ?_⟩
      have e0 : vp_nar .boolean (0 : Int32) = 0 := by decide
      have e1 : vp_nar .boolean (1 : Int32) = 1 := by decide
      have et : vp_nar .boolean t = t := by rcases ht with ⟨rfl, _⟩ | ⟨rfl, _⟩ <;> assumption
      rw [hu, clN (by omega), upd_s, et]
      have hj : ∀ j, j < k + 1 → IsB (upd a k t j) (PassW N j V) := fun j hj => by
        by_cases e : j = k
        · subst e; rw [upd_s]; exact ht
        · rw [upd_n e]; exact hI.2 j (by omega)
      exact ⟨fun z => hh _ _ ⟨by rw [hI.1, cnt_n (n := k) (P := fun j => PassW N j V) (IsB.neg ht z), nI_z], hj⟩, fun z => hh _ _ ⟨by rw [hI.1, cnt_s (n := k) (P := fun j => PassW N j V) (IsB.pos ht z), nI_1], hj⟩⟩
    refine ⟨fun y => put 0 (Or.inr ⟨rfl, fun w => no_i1 h4 y w.1⟩), fun y r5 h5 => ⟨fun y2 => put 0 (Or.inr ⟨rfl, fun w => hold_z h5 hr (by omega) y2 w.2.1⟩), fun y2 => ⟨N, N.Eb k, fun _ => False, ⟨hN, EGa.but hN.1 hk _, IsSet.zero⟩, fun r6 h6 r7 h7 => ⟨fun y3 => put 0 (Or.inr ⟨rfl, fun w => w.2.2 (hold_p h7 h6 (by omega) y3)⟩), fun y3 => put 1 (Or.inl ⟨rfl, of_i1 h4 y, hold_p h5 hr (by omega) y2, hold_z h7 h6 (by omega) y3⟩)⟩⟩⟩⟩
  · rw [mnW hN h1]
    exact ⟨fun _ => hJ _ _ hI, fun z => absurd (Int32.le_refl _) z⟩
