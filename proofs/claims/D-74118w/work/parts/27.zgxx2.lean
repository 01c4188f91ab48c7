/-! GXX2: more starts of methods that throw (own work) -/
theorem gx_ofTN {E : State → Prop} {l : Launch} {y : MethodName} {cc : ByteArray} {maxL : Nat} {ret : Option FieldType} {rm : Room} {G : GE} {av : List Value} {wc : va_W} {Qc : Nat → Array Value → State → Outcome → State → Prop} {XC : Nat → Addr → String → State → State → Prop} (hy : plainName y.cls = true) (hn : (lg_sl av).length ≤ maxL)
    (body : ∀ (p : Program) (e : Env) (s : State) (m : MethodId) (ar : Array Value) (below : List Frame) (meth : Method) (c : Code) (A : Nat → Prop) (ls : Array Slot) (QQ : State → Prop), E s → (∀ x ∈ c.exceptionTable.toList, False) → s.methodNamed? y = some m → p.tables.exec = Jvm.exec → c.code = cc → meth.sig.returnType = ret → c.maxLocals = maxL → (∀ w ∈ lw_all, w.before ar s = true) → s.vm.findClass y.cls = some m.cls → meth.locks = false → meth.name = y.name → KK G s → va_A wc s.heap.size = A → QQ = vx_MQ below (Qc s.heap.size) (XC s.heap.size) ar s rm.cells rm.slots (va_A wc s.heap.size) → va_P G.1 vwCl wc s.heap → va_D A wc → (∀ q : Nat, s.heap.size ≤ q → A q) → va_S A s.heap s.heap [] → lv_has ls maxL (lv_args 0 av) →
      W p l e rm s m ar below meth c s.heap [] 0 0 QQ (F0 m 0 ls [])) :
    ∀ sz : Nat, vx_Met l y (ws_ y cc maxL ret) rm (gPcX E G av wc sz) (Qc sz) (XC sz) rm.cells rm.slots (va_A wc sz) := by
  intro sz
  refine vx_ofW (cc := cc) (maxL := maxL) (ret := ret) hy rfl ?_
  intro p e s m args below meth c s₁ B hml htab hv
  obtain ⟨rfl, ⟨hsz, hP, hK, hD0⟩, hE⟩ := hv
  have hts := atoms_spec (ws := ws_ y cc maxL ret) B.pre
  have hts : ∀ w ∈ lw_all, w.before _ s = true := fun w h => hts w (List.mem_cons_of_mem _ h)
  subst hsz
  rw [lg_entry_eq]
  exact body p e s m _ below meth c _ _ _ hE htab B.named B.exec B.bytes B.returns hml hts (findClass_of_methodNamed B.named) B.notSynchronized (name_of_methodNamed B.named B.method).1 hK rfl rfl hP hD0.self (fun q h => Or.inr h) va_S.rf (lv_entry av hn)
