/-! nets as relations: ways that pass none of some (own work) -/
/-- reached from some, by steps, none of W among them -/
def Rs (E : Nat → Nat → Prop) (S W : Nat → Prop) (x : Nat) : Prop := ∀ X : Nat → Prop, (∀ a, S a → ¬ W a → X a) → (∀ a b, X a → E a b → ¬ W b → X b) → X x
theorem Rs.base {E : Nat → Nat → Prop} {S W : Nat → Prop} {a : Nat} (h : S a) (hw : ¬ W a) : Rs E S W a := fun _ h1 _ => h1 a h hw
theorem Rs.step {E : Nat → Nat → Prop} {S W : Nat → Prop} {a b : Nat} (h : Rs E S W a) (he : E a b) (hw : ¬ W b) : Rs E S W b := fun X h1 h2 => h2 a b (h X h1 h2) he hw
theorem Rs.ind {E : Nat → Nat → Prop} {S W : Nat → Prop} {X : Nat → Prop} (h1 : ∀ a, S a → ¬ W a → X a) (h2 : ∀ a b, Rs E S W a → X a → E a b → ¬ W b → X b) {x : Nat} (h : Rs E S W x) : X x :=
  (h (fun x => Rs E S W x ∧ X x) (fun a s w => ⟨Rs.base s w, h1 a s w⟩) (fun a b ha he hw => ⟨ha.1.step he hw, h2 a b ha.1 ha.2 he hw⟩)).2
theorem Rs.notW {E : Nat → Nat → Prop} {S W : Nat → Prop} {x : Nat} (h : Rs E S W x) : ¬ W x := Rs.ind (X := fun x => ¬ W x) (fun _ _ w => w) (fun _ _ _ _ _ w => w) h
theorem Rs.mono {E E' : Nat → Nat → Prop} {S S' W W' : Nat → Prop} (hE : ∀ a b, E a b → E' a b) (hS : ∀ a, S a → S' a) (hW : ∀ a, W' a → W a) {x : Nat} (h : Rs E S W x) : Rs E' S' W' x :=
  Rs.ind (fun a s w => Rs.base (hS a s) (fun z => w (hW a z))) (fun a b _ ih he w => ih.step (hE a b he) (fun z => w (hW b z))) h
theorem Rs.congr {E E' : Nat → Nat → Prop} {S S' W W' : Nat → Prop} (hE : ∀ a b, E a b ↔ E' a b) (hS : ∀ a, S a ↔ S' a) (hW : ∀ a, W' a ↔ W a) {x : Nat} : Rs E S W x ↔ Rs E' S' W' x :=
  ⟨Rs.mono (fun a b => (hE a b).1) (fun a => (hS a).1) (fun a => (hW a).1), Rs.mono (fun a b => (hE a b).2) (fun a => (hS a).2) (fun a => (hW a).2)⟩
/-- one way behind another -/
theorem Rs.trans {E : Nat → Nat → Prop} {S W : Nat → Prop} {a x : Nat} (h : Rs E S W a) (h2 : Rs E (fun z => z = a) W x) : Rs E S W x :=
  Rs.ind (X := fun x => Rs E S W x) (fun z e _ => by rw [e]; exact h) (fun a b _ ih he w => ih.step he w) h2
theorem Rs.from {E : Nat → Nat → Prop} {S W : Nat → Prop} {x : Nat} (h : Rs E S W x) : ∃ a, S a ∧ ¬ W a ∧ Rs E (fun z => z = a) W x :=
  Rs.ind (X := fun x => ∃ a, S a ∧ ¬ W a ∧ Rs E (fun z => z = a) W x) (fun a s w => ⟨a, s, w, Rs.base rfl w⟩) (fun _ _ _ ih he w => by obtain ⟨a, s, w1, h⟩ := ih; exact ⟨a, s, w1, h.step he w⟩) h
/-- the first step of a way -/
theorem Rs.head {E : Nat → Nat → Prop} {W : Nat → Prop} {a x : Nat} (h : Rs E (fun z => z = a) W x) : x = a ∨ ∃ b, E a b ∧ ¬ W b ∧ Rs E (fun z => z = b) W x :=
  Rs.ind (X := fun x => x = a ∨ ∃ b, E a b ∧ ¬ W b ∧ Rs E (fun z => z = b) W x) (fun z e _ => Or.inl e) (fun u v _ ih he w => by
    rcases ih with e | ⟨b, h1, h2, h3⟩
    · subst e; exact Or.inr ⟨v, he, w, Rs.base rfl w⟩
    · exact Or.inr ⟨b, h1, h2, h3.step he w⟩) h
theorem Rs.cons {E : Nat → Nat → Prop} {W : Nat → Prop} {a b x : Nat} (he : E a b) (ha : ¬ W a) (h : Rs E (fun z => z = b) W x) : Rs E (fun z => z = a) W x := by
  have hb : ¬ W b := by
    obtain ⟨c, e, w, -⟩ := h.from
    rw [← e]; exact w
  exact Rs.trans ((Rs.base (S := fun z => z = a) rfl ha).step he hb) h
/-- turned round -/
theorem Rs.flip {E : Nat → Nat → Prop} {W : Nat → Prop} {a x : Nat} (h : Rs E (fun z => z = a) W x) : Rs (fun u v => E v u) (fun z => z = x) W a :=
  Rs.ind (X := fun x => Rs (fun u v => E v u) (fun z => z = x) W a) (fun z e w => by subst e; exact Rs.base rfl w) (fun _ _ _ ih he w => Rs.cons he w ih) h
theorem Rs.flip_iff {E : Nat → Nat → Prop} {W : Nat → Prop} {a x : Nat} : Rs E (fun z => z = a) W x ↔ Rs (fun u v => E v u) (fun z => z = x) W a := ⟨Rs.flip, Rs.flip⟩
/-- a set that holds the start and every step from it holds all -/
theorem Rs.sub {E : Nat → Nat → Prop} {S W C : Nat → Prop} (h1 : ∀ a, S a → ¬ W a → C a) (h2 : ∀ a b, C a → E a b → ¬ W b → C b) {x : Nat} (h : Rs E S W x) : C x := h C h1 h2
/-- who goes to whom, by rows of bits -/
def Er (nd : Int32) (ρ : Nat → Int32) (a b : Nat) : Prop := a < nd.toNatClampNeg ∧ bt (ρ a) b = true
/-- rows whose bits are nodes alone -/
def RowsW (n : Nat) (ρ : Nat → Int32) : Prop := ∀ a, a < n → ∀ b, b < 32 → bt (ρ a) b = true → b < n
def RPre (nd : Int32) (ρ : Nat → Int32) (fr bu : Int32) : Prop := ∃ n a : Nat, nd = nI n ∧ n ≤ 16 ∧ fr = nI a ∧ a < n ∧ bt bu a = false ∧ RowsW n ρ
theorem tn_or (x y : Int32) : x.toBitVec.toNat ≤ (x ||| y).toBitVec.toNat := by
  rw [Int32.toBitVec_or, BitVec.toNat_or]; exact Nat.left_le_or
theorem tn_inj {x y : Int32} (h : x.toBitVec.toNat = y.toBitVec.toNat) : x = y := Int32.toBitVec_inj.1 (BitVec.eq_of_toNat_eq h)
theorem tn_lt (x : Int32) : x.toBitVec.toNat < 2 ^ 32 := x.toBitVec.isLt
/-- a loop that adds to a set until nothing comes: I holds of the set, C of one that stays as it is -/
theorem sat {X : Int32 → Int32 → Prop} (I C : Int32 → Prop) (hs : ∀ w s, I s → (w = s → C s) → (¬ w = s → ∀ s', I s' → s.toBitVec.toNat ≤ s'.toBitVec.toNat → (s = s' → C s') → X s s') → X w s) : ∀ w s, I s → (w = s → C s) → X w s := by
  have key := dn1 (X := fun (p : Int32 × Int32) => X p.1 p.2) (fun p => I p.2 ∧ (p.1 = p.2 → C p.2)) (fun p => 2 * (2 ^ 32 - p.2.toBitVec.toNat) + (if p.1 = p.2 then 0 else 1)) (fun p hp hh => hs p.1 p.2 hp.1 hp.2 (fun hne s' h1 h2 h3 => hh (p.2, s') ⟨h1, h3⟩ (by
    have l1 := tn_lt s'
    have l2 := tn_lt p.2
    dsimp only
    rw [if_neg hne]
    split
    · rename_i e; rw [← e]; omega
    · rename_i e
      have : p.2.toBitVec.toNat ≠ s'.toBitVec.toNat := fun z => e (tn_inj z)
      omega)))
  exact fun w s h1 h2 => key (w, s) ⟨h1, h2⟩
/-- the core of 'all to which a way goes' -/
theorem reach_core {n a : Nat} {ρ : Nat → Int32} {bu : Int32} (hn : n ≤ 16) (ha : a < n) (hb : bt bu a = false) (hρ : RowsW n ρ) {J : Int32 → Prop} (hJ : ∀ s, IsSet s (Rs (Er (nI n) ρ) (fun x => x = a) (fun x => bt bu x = true)) → J s) {X : Int32 → Int32 → Prop}
    (hX : ∀ w s, ((w = s → J s) ∧ (¬ w = s → ∀ J2 : Int32 → Prop, (∀ s', X s s' → J2 s') → ∀ Y : Int32 → Int32 → Prop, (∀ i s', ((nI n ≤ i → J2 s') ∧ (¬ nI n ≤ i → (hs s' i → vp_in i 16 ∧ Y (i + 1) (s' ||| (ρ i.toNatClampNeg &&& (bu ^^^ (-1))))) ∧ (¬ hs s' i → Y (i + 1) s'))) → Y i s') → Y 0 s)) → X w s) : X 0 ((1 : Int32) <<< (nI a &&& 31)) := by
  have hP : ∀ x, Rs (Er (nI n) ρ) (fun x => x = a) (fun x => bt bu x = true) x → x < n := fun x hx => Rs.ind (X := fun x => x < n) (fun z e w => by omega) (fun u v _ _ he w => by
      rcases Nat.lt_or_ge v 32 with q | q
      · exact hρ u (by have := he.1; rw [clN (by omega)] at this; exact this) v q he.2
      · have := he.2; rw [b_big q] at this; exact absurd this (by simp)) hx
  generalize hPe : Rs (Er (nI n) ρ) (fun x => x = a) (fun x => bt bu x = true) = P at hP hJ
  have hst : ∀ u v, P u → Er (nI n) ρ u v → ¬ bt bu v = true → P v := by subst hPe; exact fun u v h he w => h.step he w
  have hsub : ∀ C : Nat → Prop, C a → (∀ u v, C u → Er (nI n) ρ u v → ¬ bt bu v = true → C v) → ∀ x, P x → C x := by subst hPe; exact fun C h1 h2 x hx => hx C (fun z e _ => by rw [e]; exact h1) h2
  have hPa : P a := by subst hPe; exact Rs.base rfl (by rw [hb]; simp)
  refine sat (fun s => bt s a = true ∧ ∀ k, bt s k = true → P k) (fun s => ∀ u v, bt s u = true → Er (nI n) ρ u v → ¬ bt bu v = true → bt s v = true) (fun w s hI hC hh => hX w s ⟨fun e => hJ s ?_, fun hne J2 hJ2 Y hY => ?_⟩) 0 _ ?_ ?_
  · intro k hk
    exact ⟨fun h => ⟨by have := hP k (hI.2 k h); omega, hI.2 k h⟩, fun h => hsub (fun x => bt s x = true) hI.1 (hC e) k h.2⟩
  · refine up1 n (fun i s' => (bt s' a = true ∧ ∀ k, bt s' k = true → P k) ∧ s.toBitVec.toNat ≤ s'.toBitVec.toNat ∧ (s = s' → ∀ u v, u < i → bt s u = true → Er (nI n) ρ u v → ¬ bt bu v = true → bt s v = true)) (fun i s' hi hI' hn' => hY _ _ ⟨fun c => ?_, fun c => ⟨fun c2 => ⟨vp_in_nI (by omega) (by decide), hn' _ ?_⟩, fun c2 => hn' _ ?_⟩⟩) (fun s' hI' => hY _ _ ⟨fun _ => hJ2 _ (hh hne s' hI'.1 hI'.2.1 ?_), fun c => absurd (Int32.le_refl _) c⟩) 0 s (by omega) ⟨hI, Nat.le_refl _, fun _ u v hu => absurd hu (by omega)⟩
    · rw [leN (by omega) (by omega)] at c; omega
    · rw [hs_bt (by omega)] at c2
      rw [clN (by omega)]
      have hle := tn_or s' (ρ i &&& (bu ^^^ (-1)))
      refine ⟨⟨by rw [b_or, hI'.1.1]; rfl, fun k hk => ?_⟩, by omega, fun e u v hu hbu he hw => ?_⟩
      · rw [b_or, Bool.or_eq_true] at hk
        rcases hk with hk | hk
        · exact hI'.1.2 k hk
        · rcases Nat.lt_or_ge k 32 with q | q
          · rw [b_and, Bool.and_eq_true, b_not bu q] at hk
            exact hst i k (hI'.1.2 i c2) ⟨by rw [clN (by omega)]; exact hi, hk.1⟩ (by have := hk.2; simpa using this)
          · rw [b_big q] at hk; exact absurd hk (by simp)
      · have hv := he.2
        have e1 : s = s' := tn_inj (by have := congrArg (fun z => z.toBitVec.toNat) e; omega)
        rcases Nat.lt_or_ge u i with q | q
        · exact hI'.2.2 e1 u v q hbu he hw
        · have eu : u = i := by omega
          subst eu
          rcases Nat.lt_or_ge v 32 with q2 | q2
          · rw [e, b_or, b_and, b_not bu q2, hv]
            simp at hw; simp [hw]
          · rw [b_big q2] at hv; exact absurd hv (by simp)
    · rw [hs_bt (by omega)] at c2
      refine ⟨hI'.1, hI'.2.1, fun e u v hu hbu he hw => ?_⟩
      rcases Nat.lt_or_ge u i with q | q
      · exact hI'.2.2 e u v q hbu he hw
      · have eu : u = i := by omega
        subst eu; rw [e] at hbu; exact absurd hbu c2
    · intro e u v hbu he hw
      have h3 : u < n := by have := he.1; rw [clN (by omega)] at this; exact this
      rw [← e]; exact hI'.2.2 e u v h3 (by rw [e]; exact hbu) he hw
  · refine ⟨by rw [b_bit (by omega) (by omega)]; simp, fun k hk => ?_⟩
    rcases Nat.lt_or_ge k 32 with q | q
    · rw [b_bit (by omega) q, decide_eq_true_iff] at hk; rw [hk]; exact hPa
    · rw [b_big q] at hk; exact absurd hk (by simp)
  · intro e
    have h1 := congrArg (fun z => bt z a) e
    rw [b_0, b_bit (by omega) (by omega)] at h1
    simp at h1
