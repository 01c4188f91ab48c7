/-! the tree's nodes, each ahead of those it keeps (own work) -/
noncomputable def kids (N : NetM) (v k : Nat) : List Nat := (List.range k).filter (fun n => @decide (Rd N.E N.root n ∧ Id N.E N.root v n) (Classical.propDecidable _))
noncomputable def PreO (N : NetM) : Nat → Nat → List Nat
  | 0, v => [v]
  | k + 1, v => v :: (kids N v N.n).flatMap (PreO N k)
theorem kids_s {N : NetM} {v k : Nat} (h : Rd N.E N.root k ∧ Id N.E N.root v k) : kids N v (k + 1) = kids N v k ++ [k] := by
  unfold kids
  rw [List.range_succ, List.filter_append, List.filter_cons_of_pos (by simpa using h)]
  rfl
theorem kids_n {N : NetM} {v k : Nat} (h : ¬ (Rd N.E N.root k ∧ Id N.E N.root v k)) : kids N v (k + 1) = kids N v k := by
  unfold kids
  rw [List.range_succ, List.filter_append, List.filter_cons_of_neg (by simpa using h)]
  simp
theorem kids_pre {N : NetM} {v k : Nat} : ∀ m, ∃ C, kids N v (k + m) = kids N v k ++ C
  | 0 => ⟨[], by simp⟩
  | m + 1 => by
    obtain ⟨C, hC⟩ := kids_pre (N := N) (v := v) (k := k) m
    by_cases q : Rd N.E N.root (k + m) ∧ Id N.E N.root v (k + m)
    · exact ⟨C ++ [k + m], by rw [← Nat.add_assoc, kids_s q, hC, List.append_assoc]⟩
    · exact ⟨C, by rw [← Nat.add_assoc, kids_n q, hC]⟩
theorem pre_at {A B C : List Nat} {v x i : Nat} (h : B[i]? = some x) : (v :: (A ++ (B ++ C)))[1 + A.length + i]? = some x := by
  have hi := (List.getElem?_eq_some_iff.mp h).1
  rw [show 1 + A.length + i = (A.length + i) + 1 by omega, List.getElem?_cons_succ, List.getElem?_append_right (by omega), List.getElem?_append_left (by omega), show A.length + i - A.length = i by omega]
  exact h
theorem PreO.lt {N : NetM} : ∀ k v x, v < N.n → x ∈ PreO N k v → x < N.n
  | 0, v, x, hv, h => by
    have h : x ∈ [v] := h
    rw [List.mem_singleton] at h
    omega
  | k + 1, v, x, hv, h => by
    have h : x ∈ v :: (kids N v N.n).flatMap (PreO N k) := h
    rcases List.mem_cons.1 h with e | h
    · omega
    · obtain ⟨y, hy, hx⟩ := List.mem_flatMap.1 h
      have hy2 : y < N.n := List.mem_range.1 (List.mem_filter.1 hy).1
      exact PreO.lt k y x hy2 hx
/-! gl7: contracts, pure predicates (printed by gen.py) -/
def pr_X1_walks (dd : Nat) (N : NetM) (V W D : Nat) (wa wy un ga lo mo li kt wk wd : Int32) (f t w c o : Nat → Int32) (nd rt ex mn : Int32) (kp dp tw wt st : Nat → Int32) (tn tr tre tm ts v : Int32) : Prop := NetR N f t w c o nd rt ex mn ∧ TreR N.E N.root N.n kp dp tw tn tr tre ∧ v = nI V ∧ Rd N.E N.root V ∧ wk = nI W ∧ wd = nI D ∧ W ≤ D ∧ D < 2 ^ 31 ∧ N.n < dd + dep N.E N.root N.n V + 1
def ps_X1_walks (N : NetM) (V W D : Nat) (wa wy un ga lo mo li kt wk wd : Int32) (f t w c o : Nat → Int32) (nd rt ex mn : Int32) (kp dp tw wt st : Nat → Int32) (tn tr tre tm ts v : Int32) (r : Int32) (wk' : Int32) : Prop := (D < W + (PreO N (N.n - dep N.E N.root N.n V) V).length ∧ ∃ x, (PreO N (N.n - dep N.E N.root N.n V) V)[D - W]? = some x ∧ r = nI x ∧ wk' = nI D) ∨ (W + (PreO N (N.n - dep N.E N.root N.n V) V).length ≤ D ∧ r = -1 ∧ wk' = nI (W + (PreO N (N.n - dep N.E N.root N.n V) V).length))
def wp_X1_walks_L25 (dd : Nat) (wa wy un ga lo mo li kt wd : Int32) (f t w c o : Nat → Int32) (nd rt ex mn : Int32) (kp dp tw wt st : Nat → Int32) (tn tr tre tm ts v : Int32) (J77 : Int32 → Int32 → Prop) (J85 : Int32 → Prop) (ix2_34 iwalked_35 : Int32) : Prop :=
  ∀ X25 : Int32 → Int32 → Prop, (∀ (x2_34 : Int32) (walked_35 : Int32), (((nd ≤ x2_34 → (J85 walked_35)) ∧
 (¬ (nd ≤ x2_34) → (∀ (r_38 : Int32), ps_X1_has tre x2_34 r_38 → (((r_38 = 0 → (X25 (x2_34 + 1) walked_35)) ∧
 (¬ (r_38 = 0) → (vp_in x2_34 16 ∧ ((((kp x2_34.toNatClampNeg) = v → (∃ (N_42 : NetM) (V_42 W_42 D_42 : Nat), (pr_X1_walks dd N_42 V_42 W_42 D_42 wa wy un ga lo mo li kt walked_35 wd f t w c o nd rt ex mn kp dp tw wt st tn tr tre tm ts x2_34 ∧ (∀ (r_42 wk_42 : Int32), ps_X1_walks N_42 V_42 W_42 D_42 wa wy un ga lo mo li kt walked_35 wd f t w c o nd rt ex mn kp dp tw wt st tn tr tre tm ts x2_34 r_42 wk_42 → (((r_42 = (-1) → (X25 (x2_34 + 1) wk_42)) ∧
 (¬ (r_42 = (-1)) → (J77 r_42 wk_42)))))))) ∧
 (¬ ((kp x2_34.toNatClampNeg) = v) → (X25 (x2_34 + 1) walked_35)))))))))))) → X25 x2_34 walked_35) → X25 ix2_34 iwalked_35
def wp_X1_walks (dd : Nat) (wa wy un ga lo mo li kt wk wd : Int32) (f t w c o : Nat → Int32) (nd rt ex mn : Int32) (kp dp tw wt st : Nat → Int32) (tn tr tre tm ts v : Int32) (Q : Int32 → Int32 → Prop) : Prop :=
  ((¬ wk = wd → (∀ J77 : Int32 → Int32 → Prop, (∀ (x3_29 : Int32) (walked_30 : Int32), (Q x3_29 walked_30) → J77 x3_29 walked_30) →
∀ J85 : Int32 → Prop, (∀ (walked_31 : Int32), (Q (-1) walked_31) → J85 walked_31) →
wp_X1_walks_L25 dd wa wy un ga lo mo li kt wd f t w c o nd rt ex mn kp dp tw wt st tn tr tre tm ts v J77 J85 0 (wk + 1))) ∧
 (wk = wd → (Q v wk)))
theorem pz_X1_walks (N : NetM) (V W D : Nat) (wa wy un ga lo mo li kt wk wd : Int32) (f t w c o : Nat → Int32) (nd rt ex mn : Int32) (kp dp tw wt st : Nat → Int32) (tn tr tre tm ts v : Int32) : ¬ pr_X1_walks 0 N V W D wa wy un ga lo mo li kt wk wd f t w c o nd rt ex mn kp dp tw wt st tn tr tre tm ts v := by
  rintro ⟨hN, hT, -, hR, -, -, -, -, h⟩
  have := dep_n (fun x hx => hT.1.lt hx) hR
  omega
theorem pf_X1_walks (dd : Nat) (N : NetM) (V W D : Nat) (wa wy un ga lo mo li kt wk wd : Int32) (f t w c o : Nat → Int32) (nd rt ex mn : Int32) (kp dp tw wt st : Nat → Int32) (tn tr tre tm ts v : Int32) (hp : pr_X1_walks (dd + 1) N V W D wa wy un ga lo mo li kt wk wd f t w c o nd rt ex mn kp dp tw wt st tn tr tre tm ts v) : wp_X1_walks dd wa wy un ga lo mo li kt wk wd f t w c o nd rt ex mn kp dp tw wt st tn tr tre tm ts v (ps_X1_walks N V W D wa wy un ga lo mo li kt wk wd f t w c o nd rt ex mn kp dp tw wt st tn tr tre tm ts v) := by
  obtain ⟨hN, hT, rfl, hR, rfl, rfl, hW, hD, hdd⟩ := hp
  have h16 := hN.n16
  have hlt : ∀ x, Rd N.E N.root x → x < N.n := fun x hx => hT.1.lt hx
  have hdn := dep_n hlt hR
  have hV := hlt V hR
  obtain ⟨m, hm⟩ : ∃ m, N.n - dep N.E N.root N.n V = m + 1 := ⟨N.n - dep N.E N.root N.n V - 1, by omega⟩
  have hL : PreO N (m + 1) V = V :: (kids N V N.n).flatMap (PreO N m) := rfl
  unfold ps_X1_walks
  rw [hm, hL]
  have hnd := hN.nd
  subst hnd
  unfold wp_X1_walks
  rw [eqN (a := W) (b := D) (by omega) (by omega)]
  refine ⟨fun z J77 hJ77 J85 hJ85 X hX => ?_, fun z => Or.inl ⟨by rw [List.length_cons]; omega, V, by rw [z, Nat.sub_self]; rfl, rfl, by rw [z]⟩⟩
  refine up1 N.n (fun k wk => wk = nI (W + 1 + ((kids N V k).flatMap (PreO N m)).length) ∧ W + 1 + ((kids N V k).flatMap (PreO N m)).length ≤ D) (fun k wk hk hI hh => hX _ _ ⟨fun q => absurd q (by rw [leN (by omega) (by omega)]; omega), fun _ r1 h1 => ⟨fun y => hh _ ?_, fun y => ⟨vp_in_nI (by omega) (by decide), ?_⟩⟩⟩) (fun wk hI => hX _ _ ⟨fun _ => hJ85 _ (Or.inr ⟨by rw [List.length_cons]; have := hI.2; omega, rfl, by rw [hI.1, List.length_cons]; congr 1; omega⟩), fun q => absurd (Int32.le_refl _) q⟩) 0 _ (Nat.zero_le _) ⟨by rw [nI_1]; rfl, by show W + 1 + 0 ≤ D; omega⟩
  · rw [kids_n (fun q => has_z h1 hT.2.2.2.2 (by omega) y q.1)]
    exact hI
  · have hRk := has_p h1 hT.2.2.2.2 (by omega) y
    rw [clN (by omega)]
    have hK := hT.1.kp_iff hRk (V := V) (by omega)
    obtain ⟨i1', i2'⟩ := hI
    subst i1'
    refine ⟨fun y2 => ?_, fun y2 => hh _ (by rw [kids_n (fun q => y2 (hK.2 q.2))]; exact ⟨rfl, i2'⟩)⟩
    have hId := hK.1 y2
    have hdk := dep_id hlt hId
    have hs : kids N V (k + 1) = kids N V k ++ [k] := kids_s ⟨hRk, hId⟩
    have hfl : (kids N V (k + 1)).flatMap (PreO N m) = (kids N V k).flatMap (PreO N m) ++ PreO N m k := by rw [hs, List.flatMap_append]; simp
    refine ⟨N, k, _, D, ⟨hN, hT, rfl, hRk, rfl, rfl, i2', hD, by omega⟩, fun r2 wk2 h2 => ?_⟩
    have hmk : N.n - dep N.E N.root N.n k = m := by omega
    unfold ps_X1_walks at h2
    rw [hmk] at h2
    rcases h2 with ⟨g1, x, g2, g3, g4⟩ | ⟨g1, g3, g4⟩
    · have hx16 : x < 2 ^ 31 := by have := PreO.lt m k x hk (List.mem_of_getElem? g2); omega
      refine ⟨fun q => absurd (g3.symm.trans q) (nI_m1 hx16), fun _ => hJ77 _ _ (Or.inl ?_)⟩
      obtain ⟨C, hC⟩ := kids_pre (N := N) (v := V) (k := k + 1) (N.n - (k + 1))
      have hC : kids N V N.n = kids N V (k + 1) ++ C := by rw [← hC]; congr 1; omega
      have hall : (kids N V N.n).flatMap (PreO N m) = (kids N V k).flatMap (PreO N m) ++ (PreO N m k ++ C.flatMap (PreO N m)) := by rw [hC, List.flatMap_append, hfl, List.append_assoc]
      rw [hall]
      have hi := (List.getElem?_eq_some_iff.mp g2).1
      refine ⟨by rw [List.length_cons, List.length_append, List.length_append]; omega, x, ?_, g3, g4⟩
      have := pre_at (A := (kids N V k).flatMap (PreO N m)) (C := C.flatMap (PreO N m)) (v := V) g2
      rwa [show 1 + ((kids N V k).flatMap (PreO N m)).length + (D - (W + 1 + ((kids N V k).flatMap (PreO N m)).length)) = D - W by omega] at this
    · refine ⟨fun _ => hh _ ⟨by rw [g4, hfl, List.length_append, Nat.add_assoc], by rw [hfl, List.length_append]; omega⟩, fun q => absurd g3 q⟩
