/-! GRID: an array of int arrays (own work) -/
set_option maxRecDepth 100000
theorem n32 : (32 : Int32) = nI 32 := rfl
theorem vp_in_cl {x : Int32} {n : Nat} (h : vp_in x n) : x.toNatClampNeg < n := Nat.not_le.mp fun q => h (Or.inr q)
abbrev gIx : List Nat := [0, 1, 2, 3, 4, 5, 6, 7, 8, 9, 10, 11, 12, 13, 14, 15, 16, 17, 18, 19, 20, 21, 22, 23, 24, 25, 26, 27, 28, 29, 30, 31]
abbrev gRows (G : GE) (ra : Nat → Nat) (M : Nat → Nat → Int32) : va_W := gIx.map (fun i => (ra i, .inl (G.2 0, 32, .inl (M i))))
def upd2 (M : Nat → Nat → Int32) (i : Nat) (g : Nat → Int32) : Nat → Nat → Int32 := fun k => if k = i then g else M k
theorem gIx_at : ∀ i, i < 32 → gIx[i]? = some i := by decide +kernel
theorem gRows_at {G : GE} {ra : Nat → Nat} {M : Nat → Nat → Int32} {i : Nat} (hi : i < 32) : (gRows G ra M)[i]? = some (ra i, .inl (G.2 0, 32, .inl (M i))) := by
  rw [List.getElem?_map, gIx_at i hi]; rfl
theorem gRows_out {G : GE} {ra : Nat → Nat} {M : Nat → Nat → Int32} {i : Nat} (hi : 32 ≤ i) : (gRows G ra M)[i]? = none := List.getElem?_eq_none hi
theorem gRows_get {G : GE} {pre : va_W} {ra : Nat → Nat} {M : Nat → Nat → Int32} {i : Nat} (hi : i < 32) : (pre ++ gRows G ra M)[pre.length + i]? = some (ra i, .inl (G.2 0, 32, .inl (M i))) := by
  rw [List.getElem?_append_right (by omega), show pre.length + i - pre.length = i by omega]
  exact gRows_at hi
theorem gRows_set {G : GE} {pre : va_W} {ra : Nat → Nat} {M : Nat → Nat → Int32} {i : Nat} {g : Nat → Int32} (hi : i < 32) : (pre ++ gRows G ra M).set (pre.length + i) (ra i, .inl (G.2 0, 32, .inl g)) = pre ++ gRows G ra (upd2 M i g) := by
  rw [List.set_append_right _ _ (by omega), show pre.length + i - pre.length = i by omega]
  congr 1
  refine List.ext_getElem? (fun k => ?_)
  rw [List.getElem?_set]
  rcases Nat.lt_or_ge k 32 with hk | hk
  · rw [gRows_at hk]
    by_cases e : i = k
    · subst e
      rw [if_pos rfl, if_pos (show i < (gRows G ra M).length from hi), gRows_at hi]
      show some _ = (some (ra i, .inl (G.2 0, 32, .inl (if i = i then g else M i))) : Option (Nat × va_E))
      rw [if_pos rfl]
    · rw [if_neg e, gRows_at hk]
      have : ¬ k = i := fun q => e q.symm
      simp [upd2, this]
  · rw [gRows_out hk, gRows_out hk]
    have : ¬ i = k := by omega
    rw [if_neg this]
section GRD
variable {p : Program} {l : Launch} {e : Env} {R : Room} {s : State} {m : MethodId} {args : Array Value} {below : List Frame} {meth : Method} {c : Code} {H : Heap} {locs : List Loc} {cells slots : Nat} {Q : State → Prop}
variable {cc : ByteArray} {pc : Nat} {ls : Array Slot} {rest : List Value} {D : va_G} {cl : List vw_C} {A : Nat → Prop} {a : Nat} {tys : List (ClassId × FieldType)} {ws : va_W} {H0 : Heap} {G : GE}
theorem gx_aldg (hexec : p.tables.exec = Jvm.exec) (hb : c.code = cc) (hK : va_K D cl tys s) (hP : va_P D cl ws H) (q0 t0 : Nat) {cA : ClassId} {n : Nat} {f : Nat → Option Nat} (ha : ws[q0]? = some (a, .inl (cA, n, .inr (.inr (.inr (.inr f)))))) (ht : tys[t0]? = some (cA, .array .int)) {i : Int32} (hin : vp_in i n) (hdg : decode cc pc = .ok (.aaload, 1))
    (kk : W p l e R s m args below meth c H locs cells slots Q (F0 m (pc + 1) ls (va_rf (f i.toNatClampNeg) :: rest))) : W p l e R s m args below meth c H locs cells slots Q (F0 m pc ls (.int i :: .ref a :: rest)) := by
  have hlt : i.toNatClampNeg < n := Nat.not_le.mp fun q => hin (Or.inr q)
  exact W.aald (v := va_rf (f i.toNatClampNeg)) (ty := .array .int) hexec hb (hP q0 _ ha) ((hK.2 t0 _ ht).1 n (fun j => va_rf (f j))) rfl (fun q => by cases q) (by show ¬ (i < 0 ∨ (arrV _ _ _).slots.size ≤ _); rw [arrV_size]; exact hin) (by show (arrV _ _ _).slots[_]? = _; rw [arrV_read _ _ hlt]) rfl rfl hdg kk
theorem gx_oc (cA : ClassId) (h0 N : Nat) : ∀ i, (Jvm.Free.Multi.outerC cA N h0 i).monitor = {} ∧ (Jvm.Free.Multi.outerC cA N h0 i).hash = none
  | 0 => ⟨rfl, rfl⟩
  | i + 1 => gx_oc cA h0 N i
theorem gx_outerN (cA : ClassId) (h0 N : Nat) : Jvm.Free.Multi.outerC cA N h0 N = arrV cA N (fun k => va_rf (some (h0 + 1 + k))) := by
  obtain ⟨f1, f2, f3⟩ := Jvm.Free.Multi.outerC_facts cA N h0 N
  have f4 := Jvm.Free.Multi.outerC_slot cA N h0 N
  obtain ⟨f5, f6⟩ := gx_oc cA h0 N N
  generalize Jvm.Free.Multi.outerC cA N h0 N = C at f1 f2 f3 f4 f5 f6 ⊢
  cases C
  dsimp only at f1 f2 f3 f4 f5 f6
  subst f1; subst f2; subst f5; subst f6
  unfold arrV
  congr 1
  refine Array.ext_getElem? (fun i => ?_)
  rcases Nat.lt_or_ge i N with hi | hi
  · rw [f4 i hi, if_pos hi, Array.getElem?_ofFn]
    simp [hi, va_rf]
  · rw [Array.getElem?_eq_none (by omega), Array.getElem?_eq_none (by simp; exact hi)]
theorem gx_outer (cA : ClassId) (h0 : Nat) : Jvm.Free.Multi.outerC cA 32 h0 32 = vp_cell cA (32, .inr (.inr (.inr (.inr (fun k => some (h0 + 1 + k)))))) := gx_outerN cA h0 32
theorem gx_mnew (hx : p.tables.exec = Jvm.exec) (hb : c.code = cc) {own : String} {index : Nat} (hown : s.vm.findClass own = some m.cls) (hclink : (Cond.classLink own index "[[I").before args s = true) (hover : (Cond.arrayOver (.array .int)).before args s = true) (harr : (Cond.arrayClass .int).before args s = true)
    (hK : KK G s) (hP : va_P G.1 vwCl ws H) (hD : va_D A ws) (hS : va_S A H0 H locs) (hA : ∀ q, H0.size ≤ q → A q) (hcells : cells + 33 ≤ R.cells) (hslots : slots + 1056 ≤ R.slots) (hdg : decode cc pc = .ok (.multianewarray index 2, 4))
    (kk : ∀ (q : Nat) (H1 : Heap), va_P G.1 vwCl (ws ++ ([(q, .inl (G.2 5, 32, .inr (.inr (.inr (.inr (fun k => some (q + 1 + k)))))))] ++ gRows G (fun i => q + 1 + i) (fun _ _ => 0))) H1 → va_D A (ws ++ ([(q, .inl (G.2 5, 32, .inr (.inr (.inr (.inr (fun k => some (q + 1 + k)))))))] ++ gRows G (fun i => q + 1 + i) (fun _ _ => 0))) → va_S A H0 H1 locs →
      W p l e R s m args below meth c H1 locs (cells + 33) (slots + 1056) Q (F0 m (pc + 4) ls (.ref q :: rest))) : W p l e R s m args below meth c H locs cells slots Q (F0 m pc ls (.int 32 :: .int 32 :: rest)) := by
  intro T hT X
  have hc32 : (32 : Int32).toNatClampNeg = 32 := by decide
  obtain ⟨vm₁, cA, comp, hW, hfA, hfC, -, -, X1, step⟩ := X.multianewarray2F hx (own := own) (index := index) (ty := .int) hown hclink hover harr (g := F0 m pc ls (.int 32 :: .int 32 :: rest)) rfl (by rw [hb]; exact hdg) (n := 32) (k := 32) rfl (by decide) (by decide) (by decide) (by decide) (by decide) rfl rfl (by rw [hc32]; exact hcells) (by rw [hc32]; exact hslots)
  rw [hc32] at X1 step
  have e5 : cA = G.2 5 := Option.some.inj (hfA.symm.trans (hK.1.2 5 _ rfl).2)
  have e0 : comp = G.2 0 := Option.some.inj (hfC.symm.trans (hK.1.2 0 _ rfl).2)
  subst e5; subst e0
  have hq : (T.setVm vm₁).heap.size = H.size := by rw [← hT]; rfl
  have hh : (T.setVm vm₁).heap = H := by rw [← hT]; rfl
  obtain ⟨z1, z2, -, -⟩ := Jvm.Free.Multi.fill_facts (T.setVm vm₁) (G.2 5) (G.2 0) 32 32 (defaultValue .int) 32
  have z3 := Jvm.Free.Multi.fill_inner (T.setVm vm₁) (G.2 5) (G.2 0) 32 32 (defaultValue .int) 32
  have z4 : ∀ a, a < H.size → (Jvm.Free.Multi.fill (T.setVm vm₁) (G.2 5) (G.2 0) 32 32 (defaultValue .int) 32).heap[a]? = H[a]? := fun a ha => by
    rw [Jvm.Free.Multi.fill_old (T.setVm vm₁) (G.2 5) (G.2 0) 32 32 (defaultValue .int) (by rw [hq]; exact ha) 32, hh]
  rw [hq] at z1 z2 z3
  have hnew : ∀ (k : Nat) (x : Nat × va_E), ([(H.size, .inl (G.2 5, 32, .inr (.inr (.inr (.inr (fun k => some (H.size + 1 + k)))))))] ++ gRows G (fun i => H.size + 1 + i) (fun _ _ => 0) : va_W)[k]? = some x → x.1 = H.size + k ∧ va_at G.1 vwCl x (Jvm.Free.Multi.fill (T.setVm vm₁) (G.2 5) (G.2 0) 32 32 (defaultValue .int) 32).heap := by
    intro k x hk
    cases k with
    | zero =>
      cases hk
      exact ⟨rfl, by show _ = some (vp_cell _ _); rw [← gx_outer]; exact z2⟩
    | succ k =>
      have hk : (gRows G (fun i => H.size + 1 + i) (fun _ _ => 0))[k]? = some x := hk
      rcases Nat.lt_or_ge k 32 with q | q
      · rw [gRows_at q] at hk
        cases hk
        refine ⟨by show H.size + 1 + k = H.size + (k + 1); omega, ?_⟩
        show _ = some (vp_cell _ _)
        rw [vp_cell_i, ← arrV_new]
        exact z3 k q
      · rw [gRows_out q] at hk
        cases hk
  have hk : ∀ (k : Nat) (x : Nat × va_E), ws[k]? = some x → (Jvm.Free.Multi.fill (T.setVm vm₁) (G.2 5) (G.2 0) 32 32 (defaultValue .int) 32).heap[x.1]? = H[x.1]? := fun k x hx => z4 x.1 ((hP k x hx).lt)
  have hP1 := (hP.kept hk).app (fun k x hx => (hnew k x hx).2)
  have hD1 : va_D A (ws ++ ([(H.size, .inl (G.2 5, 32, .inr (.inr (.inr (.inr (fun k => some (H.size + 1 + k)))))))] ++ gRows G (fun i => H.size + 1 + i) (fun _ _ => 0))) := by
    have key : ∀ (i : Nat) (x : Nat × va_E), (ws ++ ([(H.size, .inl (G.2 5, 32, .inr (.inr (.inr (.inr (fun k => some (H.size + 1 + k)))))))] ++ gRows G (fun i => H.size + 1 + i) (fun _ _ => 0)))[i]? = some x → (i < ws.length ∧ ws[i]? = some x ∧ x.1 < H.size) ∨ (ws.length ≤ i ∧ x.1 = H.size + (i - ws.length)) := fun i x hx => by
      rcases Nat.lt_or_ge i ws.length with q | q
      · rw [List.getElem?_append_left q] at hx
        exact Or.inl ⟨q, hx, (hP i x hx).lt⟩
      · rw [List.getElem?_append_right q] at hx
        exact Or.inr ⟨q, (hnew _ x hx).1⟩
    refine ⟨fun i j x y hi hj e => ?_, fun i x hi => ?_⟩
    · rcases key i x hi with ⟨a1, a2, a3⟩ | ⟨a1, a2⟩ <;> rcases key j y hj with ⟨b1, b2, b3⟩ | ⟨b1, b2⟩
      · exact hD.1 i j x y a2 b2 e
      · omega
      · omega
      · omega
    · rcases key i x hi with ⟨a1, a2, a3⟩ | ⟨a1, a2⟩
      · exact hD.2 i x a2
      · exact hA _ (by have := hS.1; omega)
  have hS1 : va_S A H0 (Jvm.Free.Multi.fill (T.setVm vm₁) (G.2 5) (G.2 0) 32 32 (defaultValue .int) 32).heap locs := ⟨Nat.le_trans hS.1 (by omega), fun x h1 h2 => (z4 x (Nat.lt_of_lt_of_le h1 hS.1)).trans (hS.2.1 x h1 h2), hS.2.2⟩
  obtain ⟨t, a1, b1⟩ := kk H.size _ hP1 hD1 hS1 _ rfl X1
  refine ⟨t, step t ?_, b1⟩
  rw [hT]
  exact a1
end GRD
