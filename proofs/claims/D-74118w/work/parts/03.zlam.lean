/-! LAM: what the tables say of a lambda's site, whose captured values are 'this' and some ints (own work) -/
theorem lm_arr {α : Type} {x : Array Nat} {f : Nat → Nat → Nat → Option α} {r : α} (h : Lambda.shapeOf?.match_15 (fun _ => Option α) x f (fun _ => none) = some r) : ∃ a0 a1 a2, f a0 a1 a2 = some r := by
  obtain ⟨L⟩ := x
  rcases L with _ | ⟨a0, _ | ⟨a1, _ | ⟨a2, _ | ⟨a3, L⟩⟩⟩⟩
  · cases h
  · cases h
  · cases h
  · exact ⟨a0, a1, a2, h⟩
  · cases h
/-- a site's own descriptor -/
theorem lm_site {cf : ClassFile} {index : Nat} {σ : Lambda.Shape} (h : Lambda.shapeOf? cf index = some σ) : ∃ (b nt : Nat) (desc : String) (sg : MethodDescriptor), cf.constantPool[index]? = some (.invokeDynamic b nt) ∧ cf.constantPool.nameAndType? nt = some (σ.name, desc) ∧ parseMethodDescriptor desc = some sg ∧ sg.parameters = σ.captured := by
  unfold Lambda.shapeOf? at h
  split at h
  · rename_i b nt hc
    obtain ⟨es, -, h⟩ := Option.bind_eq_some_iff.mp h
    obtain ⟨bm, -, h⟩ := Option.bind_eq_some_iff.mp h
    split at h
    · obtain ⟨_, -, h⟩ := Option.bind_eq_some_iff.mp h
      obtain ⟨a0, a1, a2, h⟩ := lm_arr h
      split at h
      · split at h
        · split at h
          · obtain ⟨⟨nm, ds⟩, hnt, h⟩ := Option.bind_eq_some_iff.mp h
            obtain ⟨sg, hsg, h⟩ := Option.bind_eq_some_iff.mp h
            dsimp only at h hsg
            split at h
            · obtain ⟨⟨q1, q2, q3, q4⟩, -, h⟩ := Option.bind_eq_some_iff.mp h
              obtain ⟨_, -, h⟩ := Option.bind_eq_some_iff.mp h
              obtain ⟨_, -, h⟩ := Option.bind_eq_some_iff.mp h
              obtain ⟨_, -, h⟩ := Option.bind_eq_some_iff.mp h
              obtain ⟨_, -, h⟩ := Option.bind_eq_some_iff.mp h
              obtain ⟨_, -, h⟩ := Option.bind_eq_some_iff.mp h
              cases h
              exact ⟨b, nt, ds, sg, hc, hnt, hsg, rfl⟩
            · cases h
          · cases h
        · cases h
      · cases h
    · cases h
  · cases h
/-- the forwarder's numbers, by how many values are captured -/
def lm_fi (k j : Nat) : Nat := (if k = 1 then 15 else if k = 2 then 17 else 18) + 2 * j
def lm_mi (k : Nat) : Nat := if k = 1 then 22 else if k = 2 then 27 else 30
def lm_ci (k : Nat) : Nat := if k = 1 then 19 else if k = 2 then 23 else 26
def lm_nt (k : Nat) : Nat := if k = 1 then 21 else if k = 2 then 26 else 29
def lm_fw (k : Nat) : ByteArray := if k = 1 then ⟨#[42, 180, 0, 15, 27, 182, 0, 22, 172]⟩ else if k = 2 then ⟨#[42, 180, 0, 17, 42, 180, 0, 19, 27, 182, 0, 27, 172]⟩ else ⟨#[42, 180, 0, 18, 42, 180, 0, 20, 42, 180, 0, 22, 27, 182, 0, 30, 172]⟩
theorem lm_dec : ∀ k, k = 1 ∨ k = 2 ∨ k = 3 → (∀ j, j < k → decode (lm_fw k) (4 * j) = .ok (.aload_n 0, 1) ∧ decode (lm_fw k) (4 * j + 1) = .ok (.getfield (lm_fi k j), 3)) ∧ decode (lm_fw k) (4 * k) = .ok (.iload_n 1, 1) ∧ decode (lm_fw k) (4 * k + 1) = .ok (.invokevirtual (lm_mi k), 3) ∧ decode (lm_fw k) (4 * k + 4) = .ok (.ireturn, 1) := by
  intro k hk
  rcases hk with h | h | h <;> subst h
  · refine ⟨fun j hj => ?_, by decide +kernel, by decide +kernel, by decide +kernel⟩
    match j, hj with
    | 0, _ => exact ⟨by decide +kernel, by decide +kernel⟩
  · refine ⟨fun j hj => ?_, by decide +kernel, by decide +kernel, by decide +kernel⟩
    match j, hj with
    | 0, _ => exact ⟨by decide +kernel, by decide +kernel⟩
    | 1, _ => exact ⟨by decide +kernel, by decide +kernel⟩
  · refine ⟨fun j hj => ?_, by decide +kernel, by decide +kernel, by decide +kernel⟩
    match j, hj with
    | 0, _ => exact ⟨by decide +kernel, by decide +kernel⟩
    | 1, _ => exact ⟨by decide +kernel, by decide +kernel⟩
    | 2, _ => exact ⟨by decide +kernel, by decide +kernel⟩
/-- a test of a shape's class file -/
def lm_fld (D : ClassFile) (lay : Array Field × Array FieldType × Array FieldType) (i j : Nat) : Bool := match D.constantPool[i]? with
  | some (.fieldref _ nt) => match D.constantPool.nameAndType? nt with
    | some (nm, _) => decide (lay.1.findIdx? (·.name == nm) = some j) && (lay.1[j]?).any fun f => !f.isStatic && decide (f.slot = j)
    | none => false
  | _ => false
def lm_cls (D : ClassFile) (ci : Nat) : Bool := match D.constantPool[ci]? with
  | some (.class_ n) => decide (D.constantPool.string? n = some "GateLifter") && decide (ci ≠ D.thisClass)
  | _ => false
def lm_in (σ : Lambda.Shape) (k : Nat) (D : ClassFile) (lay : Array Field × Array FieldType × Array FieldType) (f : Method) : Bool :=
  decide (f.code.map (fun c => (c.code.data, c.maxLocals)) = some ((lm_fw k).data, 2)) && decide (f.accessFlags = 0x0001) && decide (f.sig.returnType = some .boolean) &&
  decide (D.constantPool[lm_mi k]? = some (.methodref (lm_ci k) (lm_nt k))) && decide (D.constantPool.className? (lm_ci k) = some "GateLifter") && decide (D.constantPool.nameAndType? (lm_nt k) = some (σ.implName, σ.implDesc.toString)) &&
  lm_cls D (lm_ci k) && (List.range k).all (fun j => lm_fld D lay (lm_fi k j) j) && decide (lay.2.1 = σ.captured.toArray)
def lm_chk (σ : Lambda.Shape) (k : Nat) : Bool := decide (σ.implClass = "GateLifter") && !σ.implItf && decide (σ.captured.length = k) && match σ.file "GateLifter" with
  | none => false
  | some D => match layoutFields D 0, layoutMethods D with
    | some lay, some ms => match ms[1]? with
      | some f => lm_in σ k D lay f
      | none => false
    | _, _ => false
theorem lm_made {e : Setting} {vm : Vm} {d c : ClassId} {dk : Class} {σ : Lambda.Shape} {k : Nat} (hchk : lm_chk σ k = true) (hd : vm.classes[d]? = some dk) (hname : dk.name = "GateLifter") (h : Lambda.isMade e vm d σ c = true)
    (hO : ∀ o ok, vm.findClass "java/lang/Object" = some o → vm.classes[o]? = some ok → ok.instanceTypes.size = 0) :
    ∃ (kk tk : Class) (file : ClassFile) (methk : Method) (ck : Code) (toy : ClassId) (t : MethodId),
      vm.classes[c]? = some kk ∧ kk.name = "GateLifter$$Lambda" ∧ kk.cf = some file ∧ file.constantPool[lm_mi k]? = some (.methodref (lm_ci k) (lm_nt k)) ∧
      vm.method? ⟨c, 1⟩ = some methk ∧ methk.code = some ck ∧ ck.code = lm_fw k ∧ ck.maxLocals = 2 ∧ methk.locks = false ∧ methk.accessFlags = 0x0001 ∧ methk.sig.returnType = some .boolean ∧
      vm.findClass "GateLifter" = some toy ∧ vm.classes[toy]? = some tk ∧ tk.isInterface = false ∧ ((methodIn toy σ.implName σ.implDesc.toString tk.isInterface none).ask e vm).1 = .ok t ∧
      vm.methodReady c (lm_mi k) t ∧ vm.classReady c (lm_ci k) toy ∧ (∀ j, j < k → ∃ g : Field, vm.fieldReady c (lm_fi k j) c g ∧ g.isStatic = false ∧ g.slot = j) ∧ kk.instanceTypes = σ.captured.toArray ∧ kk.kind = .ordinary := by
  obtain ⟨dk', kk, ok, tk, file, cf, object, iface, toy, lay, methods, target, found, hd', hk, hfile, hcf, hobj, -, hok, hlay, hms, ht, htk, hg, -, hrec, -, -, -, hitf, hpool, hmeth, hfields, hty, hres, -⟩ := Lambda.isMade_spec h
  cases hd.symm.trans hd'
  unfold lm_chk at hchk
  simp only [Bool.and_eq_true, decide_eq_true_eq, Bool.not_eq_true'] at hchk
  obtain ⟨⟨⟨hic, hii⟩, hcl⟩, hchk⟩ := hchk
  rw [hname] at hcf
  have hok0 : ok.instanceTypes = #[] := Array.eq_empty_of_size_eq_zero (hO object ok hobj hok)
  rw [hO object ok hobj hok] at hlay
  simp only [hcf, hlay, hms] at hchk
  rw [hic] at ht
  cases hf1 : methods[1]? with
  | none => simp only [hf1] at hchk; cases hchk
  | some fw =>
    simp only [hf1] at hchk
    unfold lm_in at hchk
    simp only [Bool.and_eq_true, decide_eq_true_eq] at hchk
    obtain ⟨⟨⟨⟨⟨⟨⟨⟨c1, c2⟩, c3⟩, c4⟩, c5⟩, c6⟩, c7⟩, c8⟩, c9⟩ := hchk
    obtain ⟨b, hb, hsame⟩ := hmeth 1 fw hf1
    obtain ⟨-, -, s3, s4, x, y, s5, s6, -, s7, s8, -⟩ := Lambda.sameMethod_spec hsame
    rw [s5] at c1
    simp only [Option.map_some, Option.some.injEq, Prod.mk.injEq] at c1
    refine ⟨kk, tk, file, b, y, toy, target, hk, by rw [hrec.1, hname]; rfl, hfile, by rw [hpool.2.1]; exact c4, by simp [Vm.method?, hk, hb], s6, ?_, by rw [s7]; exact c1.2, ?_, by rw [s4]; exact c2, by rw [s3]; exact c3, ht, htk, by rw [hitf]; exact hii, hg,
      ⟨kk, hk, hres _ _ (Lambda.resolvedOf_method c4 c5 ht htk c6 hg)⟩, ?_, ?_, by rw [hty.1, hok0, c9]; simp, hrec.2.1⟩
    · rw [s8]
      exact ByteArray.ext c1.1
    · simp [Method.locks, Method.isSynchronized, s4, c2, hasFlag, Acc.synchronized]
    · unfold lm_cls at c7
      split at c7
      · rename_i n hn
        simp only [Bool.and_eq_true, decide_eq_true_eq] at c7
        exact ⟨kk, hk, hres _ _ (Lambda.resolvedOf_class hn c7.2 c7.1 ht)⟩
      · cases c7
    · intro j hj
      have c8 := List.all_eq_true.1 c8 j (List.mem_range.2 hj)
      unfold lm_fld at c8
      split at c8
      · rename_i x1 nt hn
        split at c8
        · rename_i nm ds hnm
          simp only [Bool.and_eq_true, decide_eq_true_eq] at c8
          obtain ⟨i1, i2⟩ := c8
          cases hl : lay.1[j]? with
          | none => rw [hl] at i2; simp at i2
          | some g =>
            rw [hl] at i2
            simp only [Option.any_some, Bool.and_eq_true, Bool.not_eq_true', decide_eq_true_eq] at i2
            exact ⟨g, ⟨kk, j, kk, hk, hres _ _ (Lambda.resolvedOf_field hn hnm i1), hk, hfields j _ hl⟩, i2.1, i2.2⟩
        · cases c8
      · cases c8
/-- the site is linked: it makes objects of the class c -/
def LmAt (x : MethodName) (pc index : Nat) (σ : Lambda.Shape) (c : ClassId) (U : State) : Prop :=
  ∃ (m : MethodId) (k : Class) (cf : ClassFile) (i0 p0 : Nat), U.methodNamed? x = some m ∧ U.vm.classes[m.cls]? = some k ∧ k.cf = some cf ∧ Lambda.shapeOf? cf index = some σ ∧
    (k.callSites.find? fun y => y.1 == m.idx && y.2.1 == pc) = some (i0, p0, .makes c) ∧ Lambda.isMade { classPath := fun _ => none } U.vm m.cls σ c = true ∧ U.lambdaCallable σ c = true
theorem LmAt.of {args : Array Value} {x : MethodName} {pc index : Nat} {σ : Lambda.Shape} {U : State} (hc : σ.captured ≠ []) (h : (Cond.lambdaSite x pc index σ).before args U = true) : ∃ c, LmAt x pc index σ c U := by
  obtain ⟨c, one, hat⟩ := Cond.lambdaSite_spec h
  obtain ⟨m, k, cf, i0, p0, l, h1, h2, h3, h4, h5, h6, h7, h8, h9⟩ := State.lambdaAt?_spec hat
  rcases h9 with ⟨a, cell, -, -, h, -⟩ | ⟨e, -, -⟩
  · exact absurd h hc
  · subst e
    exact ⟨c, m, k, cf, i0, p0, h1, h2, h3, h4, h6, h7, h8⟩
theorem LmAt.warm {x : MethodName} {pc index : Nat} {σ : Lambda.Shape} {c : ClassId} {s U : State} (hW : s.WarmedH U.vm) (h : LmAt x pc index σ c s) : LmAt x pc index σ c U := by
  obtain ⟨m, k, cf, i0, p0, h1, h2, h3, h4, h5, h6, h7⟩ := h
  obtain ⟨k', hk', he⟩ := hW.alike.2.2 _ _ h2
  have hm' : (s.setVm U.vm).methodNamed? x = some m := by rw [State.methodNamed?_setVm hW.alike]; exact h1
  have hcall' : U.lambdaCallable σ c = true := by
    have hA := hW.alike
    simp only [State.lambdaCallable, hA.findClass, hA.assignable, hA.superclasses, hA.declaredIn] at h7 ⊢
    exact h7
  exact ⟨m, k', cf, i0, p0, hm', hk', by rw [he]; exact h3, h4, by rw [he]; exact h5, Lambda.isMade_warmer hW h6, hcall'⟩
theorem LmAt.same {x : MethodName} {pc index : Nat} {σ : Lambda.Shape} {c : ClassId} {u U : State} (hv : u.vm = U.vm) (h : LmAt x pc index σ c u) : LmAt x pc index σ c U := by
  obtain ⟨m, k, cf, i0, p0, h1, h2, h3, h4, h5, h6, h7⟩ := h
  have hm' : (u.setVm U.vm).methodNamed? x = some m := by rw [← hv]; exact h1
  have hcall' : (u.setVm U.vm).lambdaCallable σ c = true := by rw [← hv]; exact h7
  exact ⟨m, k, cf, i0, p0, hm', by rw [← hv]; exact h2, h3, h4, h5, by rw [← hv]; exact h6, hcall'⟩
abbrev lm_S (cap : List FieldType) (nm : String) (ps : List FieldType) : Lambda.Shape := { iface := "GateLifter$Is", name := "of", sam := { parameters := [.int], returnType := some .boolean }, captured := cap, kind := 5, implClass := "GateLifter", implName := nm, implDesc := { parameters := ps, returnType := some .boolean }, implItf := false, inst := { parameters := [.int], returnType := some .boolean } }
def lm_sites : List (MethodName × Nat × Nat × Lambda.Shape) := [
  (⟨"GateLifter", "level", "(I)I"⟩, 3, 409, lm_S [.object "GateLifter", .int] "lambda$level$8" [.int, .int]),
  (⟨"GateLifter", "heads", "()I"⟩, 2, 279, lm_S [.object "GateLifter"] "lambda$heads$3" [.int]),
  (⟨"GateLifter", "tailsOf", "(I)I"⟩, 3, 278, lm_S [.object "GateLifter", .int] "lambda$tailsOf$2" [.int, .int]),
  (⟨"GateLifter", "isSound", "()Z"⟩, 23, 447, lm_S [.object "GateLifter", .int] "lambda$isSound$10" [.int, .int]),
  (⟨"GateLifter", "backFrom", "(I)I"⟩, 3, 448, lm_S [.object "GateLifter", .int] "lambda$backFrom$11" [.int, .int]),
  (⟨"GateLifter", "count", "(I)I"⟩, 204, 477, lm_S [.object "GateLifter"] "lambda$count$12" [.int]),
  (⟨"GateLifter", "keptBy", "(I)I"⟩, 3, 271, lm_S [.object "GateLifter", .int] "lambda$keptBy$1" [.int, .int]),
  (⟨"GateLifter", "nestOf", "(I)I"⟩, 3, 288, lm_S [.object "GateLifter", .int] "lambda$nestOf$5" [.int, .int]),
  (⟨"GateLifter", "bodyOf", "(I)I"⟩, 19, 285, lm_S [.object "GateLifter", .int, .int] "lambda$bodyOf$4" [.int, .int, .int]),
  (⟨"GateLifter", "ringOf", "(I)I"⟩, 14, 378, lm_S [.object "GateLifter", .int, .int] "lambda$ringOf$7" [.int, .int, .int]),
  (⟨"GateLifter", "gatesOf", "(I)I"⟩, 3, 264, lm_S [.object "GateLifter", .int] "lambda$gatesOf$0" [.int, .int]),
  (⟨"GateLifter", "node", "(II)I"⟩, 199, 328, lm_S [.object "GateLifter", .int] "lambda$node$6" [.int, .int]),
  (⟨"GateLifter", "via", "(II)I"⟩, 32, 410, lm_S [.object "GateLifter", .int, .int] "lambda$via$9" [.int, .int, .int])]
def KL (U : State) : Prop := ∀ q ∈ lm_sites, ∃ c, LmAt q.1 q.2.1 q.2.2.1 q.2.2.2 c U
theorem KL.warm {s U : State} (hW : s.WarmedH U.vm) (h : KL s) : KL U := fun q hq => (h q hq).imp fun _ h1 => h1.warm hW
theorem KL.same {u U : State} (hv : u.vm = U.vm) (h : KL u) : KL U := fun q hq => (h q hq).imp fun _ h1 => h1.same hv
theorem lm_k1 : lm_chk (lm_S [.object "GateLifter", .int] "lambda$level$8" [.int, .int]) 2 = true := by decide +kernel
theorem lm_k2 : lm_chk (lm_S [.object "GateLifter"] "lambda$heads$3" [.int]) 1 = true := by decide +kernel
theorem lm_k3 : lm_chk (lm_S [.object "GateLifter", .int] "lambda$tailsOf$2" [.int, .int]) 2 = true := by decide +kernel
theorem lm_k4 : lm_chk (lm_S [.object "GateLifter", .int] "lambda$isSound$10" [.int, .int]) 2 = true := by decide +kernel
theorem lm_k5 : lm_chk (lm_S [.object "GateLifter", .int] "lambda$backFrom$11" [.int, .int]) 2 = true := by decide +kernel
theorem lm_k6 : lm_chk (lm_S [.object "GateLifter"] "lambda$count$12" [.int]) 1 = true := by decide +kernel
theorem lm_k7 : lm_chk (lm_S [.object "GateLifter", .int] "lambda$keptBy$1" [.int, .int]) 2 = true := by decide +kernel
theorem lm_k8 : lm_chk (lm_S [.object "GateLifter", .int] "lambda$nestOf$5" [.int, .int]) 2 = true := by decide +kernel
theorem lm_k9 : lm_chk (lm_S [.object "GateLifter", .int, .int] "lambda$bodyOf$4" [.int, .int, .int]) 3 = true := by decide +kernel
theorem lm_k10 : lm_chk (lm_S [.object "GateLifter", .int, .int] "lambda$ringOf$7" [.int, .int, .int]) 3 = true := by decide +kernel
theorem lm_k11 : lm_chk (lm_S [.object "GateLifter", .int] "lambda$gatesOf$0" [.int, .int]) 2 = true := by decide +kernel
theorem lm_k12 : lm_chk (lm_S [.object "GateLifter", .int] "lambda$node$6" [.int, .int]) 2 = true := by decide +kernel
theorem lm_k13 : lm_chk (lm_S [.object "GateLifter", .int, .int] "lambda$via$9" [.int, .int, .int]) 3 = true := by decide +kernel
