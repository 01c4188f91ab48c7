/-! LAMROWS: a lambda's making and its call as rows (own work) -/
section LAM
variable {p : Program} {l : Launch} {e : Env} {R : Room} {s : State} {m : MethodId} {args : Array Value} {below : List Frame} {meth : Method} {c : Code} {H : Heap} {locs : List Loc} {cells slots : Nat} {Q : State → Prop}
variable {pc : Nat} {ls : Array Slot} {rest st0 : List Value} {A : Nat → Prop} {H0 : Heap} {G : GE} {ws wc : va_W} {cc : ByteArray}
/-- the cell of a lambda -/
abbrev lmC (cK : ClassId) (vals : List Value) : Cell := { cls := cK, slots := vals.toArray, vm := .none }
theorem lm_obj (hO : (Cond.instantiable "java/lang/Object" 0).before args s = true) : ∀ o ok, s.vm.findClass "java/lang/Object" = some o → s.vm.classes[o]? = some ok → ok.instanceTypes.size = 0 := by
  obtain ⟨cO, kO, hfO, hkO, -, -, -, hsz⟩ := Cond.instantiable_spec hO
  intro o ok h1 h2
  cases hfO.symm.trans h1
  cases hkO.symm.trans h2
  exact hsz
theorem lm_nar : ∀ (ts : List FieldType) (vals : List Value), ts.length = vals.length → (∀ q ∈ ts.zip vals, narrow q.1 q.2 = q.2) → ((ts.zip vals).map fun (t, v) => narrow t v) = vals
  | [], [], _, _ => rfl
  | t :: ts, v :: vals, h, hq => by
    have h1 := lm_nar ts vals (by simpa using h) (fun q hm => hq q (by simp [hm]))
    have h2 := hq (t, v) (by simp)
    simp only [List.zip_cons_cons, List.map_cons, h1] at h2 ⊢
    rw [h2]
/-- 'invokedynamic' at a linked site: a new cell, which no cell of the world is -/
theorem gx_lam {x : MethodName} {index : Nat} {σ : Lambda.Shape} {k : Nat} (hx : p.tables.exec = Jvm.exec) (hb : c.code = cc) (hnl : ls.size = c.maxLocals) (hL : ∃ cK, LmAt x pc index σ cK s) (hchk : lm_chk σ k = true) (hxc : x.cls = "GateLifter") (hmn : s.methodNamed? x = some m) (hO : (Cond.instantiable "java/lang/Object" 0).before args s = true)
    {vals : List Value} (hlen : vals.length = σ.captured.length) (hk : vals.length = k) (hnar : ∀ q ∈ σ.captured.zip vals, narrow q.1 q.2 = q.2 ∧ fits q.1 q.2 = true) (hst : st0 = vals.reverse ++ rest)
    (hP : va_P G.1 vwCl ws H) (hD : va_D A ws) (hS : va_S A H0 H locs) (hA : ∀ q, H0.size ≤ q → A q)
    (hwords : (st0.map fun v => v.category).sum + 3072 ≤ R.locals) (hcells : cells + 1 ≤ R.cells) (hslots : slots + k ≤ R.slots) (hdg : decode cc pc = .ok (.invokedynamic index, 5))
    (kk : ∀ (cK : ClassId) (q : Nat) (H1 : Heap), LmAt x pc index σ cK s → H1[q]? = some (lmC cK vals) → q < H1.size → (∀ (j : Nat) (w : Nat × va_E), ws[j]? = some w → w.1 ≠ q) → va_P G.1 vwCl ws H1 → va_S A H0 H1 locs → W p l e R s m args below meth c H1 locs (cells + 1) (slots + k) Q (F0 m (pc + 5) ls (.ref q :: rest))) :
    W p l e R s m args below meth c H locs cells slots Q (F0 m pc ls st0) := by
  intro T hT X
  obtain ⟨cK, hat⟩ := hL
  obtain ⟨m', kS, cfS, i0, p0, hm', hkS, hcfS, hsh, hfind, hmade, hcan⟩ := id hat
  cases hmn.symm.trans hm'
  obtain ⟨kS', hkS', hnameS⟩ := className_of_methodNamed hmn
  cases hkS.symm.trans hkS'
  obtain ⟨kK, tk, file, methk, ck, toy, t, hkK, -, -, -, -, -, -, -, -, -, -, -, -, -, -, -, -, -, htyK, hkindK⟩ := lm_made hchk hkS (hnameS.trans hxc) hmade (lm_obj hO)
  obtain ⟨bsm, nt, desc, sg, hc1, hc2, hc3, hc4⟩ := lm_site hsh
  have hsl : ((kK.instanceTypes.toList.zip vals).map fun (t, v) => narrow t v) = vals := by
    rw [htyK]
    exact lm_nar _ _ (by simpa using hlen.symm) (fun q hq => (hnar q hq).1)
  obtain ⟨X1, st1⟩ := X.lambdaMakes hx (g := F0 m pc ls st0) rfl hnl (by rw [hb]; exact hdg) (vals := vals) (rest := rest) hkS hfind hcfS hc1 hc2 (parseLong_of_parse hc3) (by rw [hc4]; exact hlen) hst hkK
    (by rw [X.admits.platform]; show 2 * 0 + (st0.map fun v => v.category).sum + 3072 ≤ R.locals; omega) hcells (by rw [hsl]; rw [hk]; exact hslots)
    (fun i v hv => by
      rw [hsl] at hv
      have hv2 : vals[i]? = some v := by simpa using hv
      have hi : i < σ.captured.length := by rw [← hlen]; exact (List.getElem?_eq_some_iff.mp hv2).1
      have hc5 : σ.captured[i]? = some σ.captured[i] := List.getElem?_eq_getElem hi
      have hz : (σ.captured[i], v) ∈ σ.captured.zip vals := List.mem_of_getElem? (i := i) (by rw [List.getElem?_zip_eq_some]; exact ⟨hc5, hv2⟩)
      have hf := (hnar _ hz).2
      simp [State.fitsSlot, State.slotType?, hkK, hkindK, htyK, hc5, hf])
  rw [hsl] at X1 st1
  have hsz : vals.toArray.size = k := by simpa using hk
  rw [hsz] at X1
  have hlt : ∀ (j : Nat) (w : Nat × va_E), ws[j]? = some w → w.1 < T.heap.size := fun j w hw => by rw [hT]; exact (hP j w hw).lt
  have hold : ∀ (a : Addr), a < T.heap.size → (T.pushCell (lmC cK vals)).heap[a]? = T.heap[a]? := fun a ha => State.heap_pushCell_of_lt _ _ ha
  have hnew : (T.pushCell (lmC cK vals)).heap[T.heap.size]? = some (lmC cK vals) := State.heap_pushCell_size _ _
  have hq : T.heap.size < (T.pushCell (lmC cK vals)).heap.size := (Array.getElem?_eq_some_iff.mp hnew).1
  obtain ⟨t2, a1, b1⟩ := kk cK T.heap.size (T.pushCell (lmC cK vals)).heap hat hnew hq (fun j w hw e => by have := hlt j w hw; omega)
    (hP.kept (fun j w hw => by rw [hold _ (hlt j w hw), hT]))
    ⟨Nat.le_trans hS.1 (by rw [← hT]; omega), fun a h1 h2 => by rw [hold a (by rw [hT]; exact Nat.lt_of_lt_of_le h1 hS.1), hT]; exact hS.2.1 a h1 h2, hS.2.2⟩ _ rfl X1
  exact ⟨t2, st1 t2 a1, b1⟩
theorem lm_getf {T : State} (Y : Stand p l e R s m args below meth c T locs cells slots) (hx : p.tables.exec = Jvm.exec) {g : JFrame} (hg : g.method = m) {index cF a : Nat} {field : Field} {cell : Cell} {v : Value}
    (hr : T.vm.fieldReady m.cls index cF field) (hst : field.isStatic = false) (hstack : g.stack = .ref a :: rest) (hcell : T.heap[a]? = some cell) (hknown : cell.vm ≠ .unknown) (hv : cell.slots[field.slot]? = some v)
    (hdg : decode c.code g.pc = .ok (.getfield index, 3)) {s₀ : State} (come : Steps p.tables e below s₀ (T.setTop g)) : Steps p.tables e below s₀ (T.setTop { g with pc := g.pc + 3, stack := v :: rest }) := by
  subst hg
  refine come.trans ?_
  jvm_step Y.here [hx, hdg, getfield.wp_ready (e := e) (s := T) (c := cF) (field := field) (a := a) (rest := rest) (cell := cell) (v := v) (f := g) Y.here.top hr hst hstack hcell hknown hv]
  exact Steps.refl _
theorem lm_virt {T : State} (Y : Stand p l e R s m args below meth c T locs cells slots) (hx : p.tables.exec = Jvm.exec) {g : JFrame} (hg : g.method = m) (hsize : g.locals.size = c.maxLocals) {index a : Nat} {y : MethodName} {t : MethodId} {kt : Class} {metht : Method}
    {cell : Cell} {As : List Value} (hnc : namesAClass T m.cls index) (hr : T.vm.methodReady m.cls index t) (hkt : T.vm.classes[t.cls]? = some kt) (hmt : T.vm.method? t = some metht) (hpoly : signaturePolymorphic kt metht = false)
    (hstatic : metht.isStatic = false) (hlen : As.length = metht.sig.parameters.length) (hstack : g.stack = As.reverse ++ .ref a :: rest) (hcell : T.heap[a]? = some cell) (hobj : ∀ q, cell.vm ≠ .statics q)
    (hsel : selectMethod e.platform T.vm cell.cls t = .method t) (habs : metht.isAbstract = false) (hitf : kt.isInterface = false) (hnamed : T.methodNamed? y = some t)
    {W : Nat} {Pre : Pt → Array Value → Prop} {Post : Pt → Array Value → Option Value → Pt → Prop} (hK : Back l R p e below s args y 3 W Pre Post) (hW : 2 * g.monitorRoom + (rest.map fun v => v.category).sum ≤ W)
    (hpre : Pre ⟨T, locs, cells, slots⟩ (.ref a :: As).toArray) (hdg : decode c.code g.pc = .ok (.invokevirtual index, 3)) {s₀ : State} (come : Steps p.tables e below s₀ (T.setTop g)) :
    ∃ (v : Option Value) (B : Pt), Stand p l e R s m args below meth c B.U B.locs B.cells B.slots ∧ Post ⟨T, locs, cells, slots⟩ (.ref a :: As).toArray v B ∧ Steps p.tables e below s₀ (B.U.setTop { g with pc := g.pc + 3, stack := v.toList ++ rest }) := by
  subst hg
  obtain ⟨v, B, Y', hpost, hsteps⟩ := hK g.method meth c ⟨T, locs, cells, slots⟩ { g with stack := rest } (.invokevirtual index) t (.ref a :: As).toArray Y rfl hsize hdg hW hnamed hpre
  refine ⟨v, B, Y', hpost, (come.trans ?_).trans hsteps⟩
  jvm_step Y.here [hx, hdg, invokevirtual.wp_ready (e := e) (s := T) (r := t) (m := t) (k := kt) (mk := kt) (rmeth := metht) (meth := metht) (a := a) (args := As) (rest := rest) (cell := cell) (f := g) Y.here.top hnc hr hkt hmt hpoly hstatic hlen hstack hcell hobj hsel hmt habs hkt hitf]
  intro acts
  rw [doInvoke_state]
  exact Steps.refl _
theorem lm_iret {T : State} (Y : Stand p l e R s m args below meth c T locs cells slots) (hx : p.tables.exec = Jvm.exec) {w : Int32} {t : FieldType} (hret : meth.sig.returnType = some .boolean) (hn : narrow .boolean (.int w) = .int w)
    (hdg : decode c.code pc = .ok (.ireturn, 1)) {fs : List Frame} (hleave : ∀ (f : JFrame) (acts : List Action), f.method = m → f.locked = none → f.entered = [] → (doReturn e (T.setTop f) acts (some (.int w))).1 = T.setFrames fs) :
    Steps p.tables e below (T.setTop { method := m, pc := pc, locals := ls, stack := [.int w], locked := none }) (T.setFrames fs) := by
  have hm' : T.vm.method? m = some meth := Y.method'
  jvm_step Y.here [Y.here.top, hx, hdg, hm', hret, hn]
  first | (intro acts; rw [hleave _ acts rfl rfl rfl]) | rw [hleave _ _ rfl rfl rfl]
  exact Steps.refl _
abbrev yIs_of : MethodName := ⟨"GateLifter$Is", "of", "(I)Z"⟩
set_option maxHeartbeats 4000000 in
/-- a lambda's call: the forwarder's body, to the method that it names -/
theorem gx_runL {sx : MethodName} {spc sidx : Nat} {σ : Lambda.Shape} {k index count : Nat} {cK : ClassId} {y : MethodName} {bytes : ByteArray} {maxL nL mc ms : Nat} {ret : Option FieldType} {wsM wsM' : List Cond} {rm : Room} {Pc : Array Value → State → Prop} {Qc : Array Value → State → Outcome → State → Prop} {free : Addr → Prop} {own : String} {q th : Addr} {ints : List Int32} {x : Int32} {g : JFrame}
    (hL : LmAt sx spc sidx σ cK s) (hchk : lm_chk σ k = true) (hk : k = 1 ∨ k = 2 ∨ k = 3) (hxc : sx.cls = "GateLifter") (hO : (Cond.instantiable "java/lang/Object" 0).before args s = true)
    (S : CallFix p m c cc nL s args lw_all own) (hM : Met l y wsM rm Pc Qc mc ms free) (hw : wsM = Cond.code y bytes maxL ret :: wsM') (hGI : GoodIn lw_all wsM) (hrc : rm.cells = mc) (hrs : rm.slots = ms)
    (hy : y = ⟨"GateLifter", σ.implName, σ.implDesc.toString⟩) (hσ : σ.iface = "GateLifter$Is" ∧ σ.name = "of" ∧ σ.sam.toString = "(I)Z")
    (hlink : (Cond.methodLink own index yIs_of).before args s = true) (hdecl : (Cond.declares yIs_of).before args s = true) (hface : (Cond.interfaceMethod "GateLifter$Is" "GateLifter$Is" "of" "(I)Z").before args s = true)
    (hinst : (Cond.instanceMethod y).before args s = true) (hsel : (Cond.selects "GateLifter" y y).before args s = true) (hini : (Cond.initialized "GateLifter").before args s = true)
    (hparm : (parseMethodDescriptor y.desc).map (fun d => d.parameters.length) = some k) (hR : rm.frames + 2 ≤ R.frames ∧ 8 + 13 + (maxL + 11 + rm.locals) ≤ R.locals)
    (hblind : FrameBlind Pc) (hth : ∃ cell : Cell, H[th]? = some cell ∧ cell.vm.isStatics = false ∧ s.vm.findClass "GateLifter" = some cell.cls)
    (hPc : ∀ U : State, U.heap = H → s.WarmedH U.vm → Pc (Value.ref th :: (ints.map Value.int ++ [.int x])).toArray U)
    (hq : H[q]? = some (lmC cK (Value.ref th :: ints.map Value.int))) (hlen : ints.length + 1 = k) (hret : ∀ a st v t, Qc a st (.returned v) t → ∃ w : Int32, v = some (.int w) ∧ (w = 0 ∨ w = 1))
    (hg : g.method = m) (hsize : g.locals.size = nL) (hstack : g.stack = .int x :: .ref q :: rest) (hW : 2 * g.monitorRoom + (rest.map fun v => v.category).sum ≤ 8) (hdg : decode cc g.pc = .ok (.invokeinterface index count, 5)) (hf : cells + mc ≤ R.cells ∧ slots + ms ≤ R.slots) :
    va_Run5 p l e R s m args below meth c H locs cells slots mc ms g rest (Qc (Value.ref th :: (ints.map Value.int ++ [.int x])).toArray) free := by
  obtain ⟨hx, hb, hml, ho, hts⟩ := S
  obtain ⟨s1, s2, s3⟩ := hσ
  intro T hT X
  obtain ⟨mS, kS, cfS, i0, p0, hmS, hkS, hcfS, hsh, hfind, hmade, hcan⟩ := id hL
  obtain ⟨kS', hkS', hnameS⟩ := className_of_methodNamed hmS
  cases hkS.symm.trans hkS'
  have hdn := hnameS.trans hxc
  obtain ⟨kK, tk, file, methk, ck, toy, t', hkK, hkn, hfile, hpool, hmk, hck, hbytes, hmlK, hlkK, hfl, hretk, htoy, htk, hitf, hlook, hready, hclsR, hfs, htyK, hkindK⟩ := lm_made hchk hkS hdn hmade (lm_obj hO)
  obtain ⟨r0, r, hn0, hr0, hstR, hsigR⟩ := Cond.declares_spec hdecl
  obtain ⟨cL, kL, r1, hcL, hkL, hiL, hfoundL, hn1⟩ := Cond.interfaceMethod_spec hface
  cases hn0.symm.trans hn1
  have hr0cls : r0.cls = cL := Option.some.inj ((findClass_of_methodNamed hn0).symm.trans hcL)
  obtain ⟨hnameR, hdescR⟩ := name_of_methodNamed hn0 hr0
  obtain ⟨-, -, -, -, -, -, -, iface', -, -, -, -, found, -, -, -, -, -, hi', -, -, -, -, -, -, hfound', -, -, -, -, -, -, -, -, -, -, hselK⟩ := Lambda.isMade_spec hmade
  rw [s1] at hi'
  cases hcL.symm.trans hi'
  have hfr : found = r0 := by
    have h1 : s.methodFound? "GateLifter$Is" "of" "(I)Z" = some r0 := hfoundL
    have hcL' : s.vm.findClass "GateLifter$Is" = some cL := hcL
    simp only [State.methodFound?, hcL', hkL, hiL, Option.bind_eq_bind, Option.bind_some] at h1
    rw [s2, s3] at hfound'
    rw [hfound'] at h1
    exact Option.some.inj h1
  subst hfr
  obtain ⟨i2, hi2, hasg, hway⟩ := State.lambdaCallable_spec hcan
  rw [s1] at hi2
  cases hcL.symm.trans hi2
  rw [s2, s3] at hway
  have hselP : selectMethod e.platform s.vm cK found = .method ⟨cK, 1⟩ := by rw [Launch.admits_selectMethod X.admits]; exact hselK
  obtain ⟨vm1, X1, st1⟩ := X.invokeinterface hx ho hlink hn0 hr0 hstR (hr0cls ▸ hkL) hiL (by decide) (a := q) (cell := lmC cK (Value.ref th :: ints.map Value.int)) (by rw [hT]; exact hq) (fun z h => by cases h) hkK (by rw [hr0cls]; exact hasg) hselP hmk (by rw [hnameR, hdescR]; exact hway)
    (by rw [hfl]; decide) (by simp [Method.isAbstract, hfl, hasFlag, Acc.abstract]) (g := g) hg (argsL := [.int x]) (rest := rest) (by rw [show parseMethodDescriptor yIs_of.desc = some ⟨[.int], some .boolean⟩ from by decide +kernel] at hsigR; rw [← Option.some.inj hsigR]; rfl) hstack (by rw [hb]; exact hdg)
  have hLU := hL.warm (U := T.setVm vm1) X1.warmed
  have hOU : (Cond.instantiable "java/lang/Object" 0).before args (T.setVm vm1) = true := word_at X1.warmed (Or.inl (by first | rfl | simp [Cond.onTables, Cond.keeps, Cond.steady])) hO
  have hinstU : (Cond.instanceMethod y).before args (T.setVm vm1) = true := word_at X1.warmed (Or.inl (by first | rfl | simp [Cond.onTables, Cond.keeps, Cond.steady])) hinst
  have hselU : (Cond.selects "GateLifter" y y).before args (T.setVm vm1) = true := word_at X1.warmed (Or.inl (by first | rfl | simp [Cond.onTables, Cond.keeps, Cond.steady])) hsel
  have hcodeU : (Cond.code y bytes maxL ret).before args (T.setVm vm1) = true := (pay_in hts hGI) _ (by rw [hw]; exact List.mem_cons_self) _ _ X1.warmed
  have hwarm1 := X1.warmed
  have hheap1 : (T.setVm vm1).heap = H := hT
  generalize T.setVm vm1 = U at X1 st1 hLU hOU hinstU hselU hcodeU hwarm1 hheap1
  obtain ⟨mS2, kS2, cfS2, i02, p02, hmS2, hkS2, hcfS2, hsh2, hfind2, hmade2, hcan2⟩ := id hLU
  obtain ⟨kS2', hkS2', hnameS2⟩ := className_of_methodNamed hmS2
  cases hkS2.symm.trans hkS2'
  obtain ⟨kU, tkU, fileU, methU, ckU, toyU, tU, gkU, gkn, gfile, gpool, gmk, gck, gbytes, gml, glk, gfl, gret, gtoy, gtk, gitf, glook, gready, gcls, gfs, -, -⟩ := lm_made hchk hkS2 (hnameS2.trans hxc) hmade2 (lm_obj hOU)
  -- the method that the forwarder names
  obtain ⟨tM, methM, hnM, hmM, hstM, habM⟩ := Cond.instanceMethod_spec hinstU
  obtain ⟨methM', cM, hmM', -, -, -, -, -, -, hsigM⟩ := Cond.code_spec hnM hcodeU
  cases hmM.symm.trans hmM'
  obtain ⟨c2, r2, m2, q1, q2, q3, q4, kP, hkP, hkPi⟩ := Cond.selects_spec hselU
  cases hnM.symm.trans q3
  have hycls : y.cls = "GateLifter" := by rw [hy]
  have hyno : y.cls ≠ "java/lang/invoke/MethodHandle" ∧ y.cls ≠ "java/lang/invoke/VarHandle" := by rw [hycls]; decide
  cases (State.methodFound?_of_named hnM hyno).symm.trans q2
  cases gtoy.symm.trans q1
  have htt : tU = tM := by
    have h1 : U.methodFound? y.cls y.name y.desc = some tM := State.methodFound?_of_named hnM hyno
    rw [hy] at h1
    simp only [State.methodFound?, gtoy, gtk, Option.bind_eq_bind, Option.bind_some] at h1
    rw [glook] at h1
    exact Option.some.inj h1
  subst htt
  have hkMc : tU.cls = toyU := by
    have h1 := findClass_of_methodNamed hnM
    rw [hycls, gtoy] at h1
    exact (Option.some.inj h1).symm
  obtain ⟨kT', hkT', hnameT⟩ := className_of_methodNamed hnM
  have hpoly : signaturePolymorphic kT' methM = false := by simp [signaturePolymorphic, hnameT, hyno.1, hyno.2]
  cases hkT'.symm.trans hkP
  have hdecs := lm_dec k hk
  obtain ⟨Y0, hin⟩ := X1.into (g := { g with stack := rest }) hg (hsize.trans hml.symm) (by rw [hb]; exact hdg) #[Value.ref q, .int x] (R' := { frames := rm.frames + 1, cells := mc, slots := ms, locals := maxL + 11 + rm.locals }) gmk gck glk
    (State.plainMethod.of_name (fun k' hk' => by cases gkU.symm.trans hk'; rw [gkn]; decide)) (by show rm.frames + 1 + 1 ≤ R.frames; omega)
    (by rw [gml]; show 2 * g.monitorRoom + (rest.map fun v => v.category).sum + (2 + 11) + (maxL + 11 + rm.locals) ≤ R.locals; omega) hf.1 hf.2
  rw [gml] at Y0 hin
  have hh0 : ((U.setTop { g with stack := rest }).pushFrame (.java (entryFrame ⟨cK, 1⟩ #[Value.ref q, .int x] 2))).heap = H := hheap1
  have hvm0 : ((U.setTop { g with stack := rest }).pushFrame (.java (entryFrame ⟨cK, 1⟩ #[Value.ref q, .int x] 2))).vm = U.vm := rfl
  have hnM0 : ((U.setTop { g with stack := rest }).pushFrame (.java (entryFrame ⟨cK, 1⟩ #[Value.ref q, .int x] 2))).methodNamed? y = some tU := by
    have h1 : (U.setVm ((U.setTop { g with stack := rest }).pushFrame (.java (entryFrame ⟨cK, 1⟩ #[Value.ref q, .int x] 2))).vm).methodNamed? y = some tU := hnM
    exact h1
  have hnc0 : namesAClass ((U.setTop { g with stack := rest }).pushFrame (.java (entryFrame ⟨cK, 1⟩ #[Value.ref q, .int x] 2))) cK (lm_mi k) := ⟨kU, fileU, _, _, toyU, tkU, gkU, gfile, gpool, gcls, gtk, gitf⟩
  have hwarm0 : s.WarmedH ((U.setTop { g with stack := rest }).pushFrame (.java (entryFrame ⟨cK, 1⟩ #[Value.ref q, .int x] 2))).vm := hwarm1
  generalize hU0 : (U.setTop { g with stack := rest }).pushFrame (.java (entryFrame ⟨cK, 1⟩ #[Value.ref q, .int x] 2)) = U0 at Y0 hin hh0 hvm0 hnM0 hnc0 hwarm0
  have hentry : entryFrame ⟨cK, 1⟩ #[Value.ref q, .int x] 2 = { method := ⟨cK, 1⟩, pc := 0, locals := #[.val (.ref q), .val (.int x)], stack := [], locked := none } := rfl
  rw [hentry] at hin
  have hvl : (Value.ref th :: ints.map Value.int).length = k := by simpa using hlen
  have walk : ∀ j, j ≤ k → Steps p.tables e (.java { g with stack := rest } :: below) (U0.setTop { method := ⟨cK, 1⟩, pc := 0, locals := #[.val (.ref q), .val (.int x)], stack := [], locked := none })
      (U0.setTop { method := ⟨cK, 1⟩, pc := 4 * j, locals := #[.val (.ref q), .val (.int x)], stack := ((Value.ref th :: ints.map Value.int).take j).reverse, locked := none }) := by
    intro j
    induction j with
    | zero => intro _; exact Steps.refl _
    | succ j ih =>
      intro hj
      obtain ⟨hd1, hd2⟩ := hdecs.1 j (by omega)
      obtain ⟨fl, hf1, hf2, hf3⟩ := gfs j (by omega)
      have hjl : j < (Value.ref th :: ints.map Value.int).length := by omega
      have hvj : (lmC cK (Value.ref th :: ints.map Value.int)).slots[fl.slot]? = some (Value.ref th :: ints.map Value.int)[j] := by
        rw [hf3]
        simp only [List.getElem?_toArray]
        exact List.getElem?_eq_getElem hjl
      have hd1' : decode ckU.code (4 * j) = .ok (.aload_n 0, 1) := by rw [gbytes]; exact hd1
      have come : Steps p.tables e (.java { g with stack := rest } :: below) (U0.setTop { method := ⟨cK, 1⟩, pc := 4 * j, locals := #[.val (.ref q), .val (.int x)], stack := ((Value.ref th :: ints.map Value.int).take j).reverse, locked := none })
          (U0.setTop { method := ⟨cK, 1⟩, pc := 4 * j + 1, locals := #[.val (.ref q), .val (.int x)], stack := .ref q :: ((Value.ref th :: ints.map Value.int).take j).reverse, locked := none }) := by
        jvm_step Y0.here [hx, hd1', Value.isRef]
        exact Steps.refl _
      have go := lm_getf Y0 hx (g := { method := ⟨cK, 1⟩, pc := 4 * j + 1, locals := #[.val (.ref q), .val (.int x)], stack := .ref q :: ((Value.ref th :: ints.map Value.int).take j).reverse, locked := none }) rfl (by rw [hvm0]; exact hf1) hf2 rfl (by rw [hh0]; exact hq) (by simp) hvj (by rw [gbytes]; exact hd2) ((ih (by omega)).trans come)
      have e1 : ((Value.ref th :: ints.map Value.int).take (j + 1)).reverse = (Value.ref th :: ints.map Value.int)[j] :: ((Value.ref th :: ints.map Value.int).take j).reverse := by
        rw [List.take_succ_eq_append_getElem hjl, List.reverse_append]; rfl
      rw [e1]
      exact go
  have hd3 : decode ckU.code (4 * k) = .ok (.iload_n 1, 1) := by rw [gbytes]; exact hdecs.2.1
  have walk2 : Steps p.tables e (.java { g with stack := rest } :: below) (U0.setTop { method := ⟨cK, 1⟩, pc := 0, locals := #[.val (.ref q), .val (.int x)], stack := [], locked := none })
      (U0.setTop { method := ⟨cK, 1⟩, pc := 4 * k + 1, locals := #[.val (.ref q), .val (.int x)], stack := (ints.map Value.int ++ [Value.int x]).reverse ++ [.ref th], locked := none }) := by
    refine (walk k (Nat.le_refl _)).trans ?_
    have e2 : ((Value.ref th :: ints.map Value.int).take k).reverse = (ints.map Value.int).reverse ++ [.ref th] := by
      rw [List.take_of_length_le (by omega), List.reverse_cons]
    rw [e2]
    jvm_step Y0.here [hx, hd3]
    exact Steps.refl _
  obtain ⟨cT, hcT, hoT, hclT⟩ := hth
  have hclU : cT.cls = toyU := by
    have h1 : U.vm.findClass "GateLifter" = some cT.cls := by rw [hwarm1.alike.findClass]; exact hclT
    exact (Option.some.inj (gtoy.symm.trans h1)).symm
  have hwsB : ∀ w ∈ wsM, ∀ (a' : Array Value) (V : State), (U.calling { g with stack := rest } ⟨cK, 1⟩ #[Value.ref q, .int x]).WarmedH V.vm → w.before a' V = true := fun w hw a' V hV => (pay_in hts hGI) w hw a' V (State.WarmedH.trans hwarm1 hV)
  have hKB : Back l { frames := rm.frames + 1, cells := mc, slots := ms, locals := maxL + 11 + rm.locals } p e (.java { g with stack := rest } :: below) (U.calling { g with stack := rest } ⟨cK, 1⟩ #[Value.ref q, .int x]) #[Value.ref q, .int x] y 3 0 (PreOf { frames := rm.frames + 1, cells := mc, slots := ms, locals := maxL + 11 + rm.locals } mc ms Pc) (PostOf Qc mc ms free) :=
    back_of (bytes := bytes) (maxL := maxL) (ret := ret) hM hblind hrc hrs (Nat.le_refl _) (by show 0 + (maxL + 11) + rm.locals ≤ maxL + 11 + rm.locals; omega) hwsB (by rw [hw]; exact List.mem_cons_self) (fun a' V hV => by rw [hycls]; exact word_at (State.WarmedH.trans hwarm1 hV) (Or.inl (by first | rfl | simp [Cond.onTables, Cond.keeps, Cond.steady])) hini)
  obtain ⟨v, ⟨U1, L1, c1, n1⟩, Y1, hpost, walk3⟩ := lm_virt Y0 hx (g := { method := ⟨cK, 1⟩, pc := 4 * k + 1, locals := #[.val (.ref q), .val (.int x)], stack := (ints.map Value.int ++ [Value.int x]).reverse ++ [.ref th], locked := none }) rfl (by rw [gml]; rfl) (index := lm_mi k) (a := th) (y := y) (cell := cT) (As := ints.map Value.int ++ [.int x]) (rest := [])
    hnc0 (by rw [hvm0]; exact gready) (by rw [hvm0]; exact hkP) (by rw [hvm0]; exact hmM) hpoly hstM (by
      have h2 := hparm
      rw [hsigM, Option.map_some] at h2
      rw [Option.some.inj h2]
      simpa using hlen) rfl (by rw [hh0]; exact hcT) (fun z h => by rw [h] at hoT; cases hoT) (by rw [hvm0, hclU, Launch.admits_selectMethod X.admits]; exact q4) habM hkPi hnM0 hKB (by show 2 * 0 + 0 ≤ 0; decide) ⟨by show 0 + mc ≤ mc; omega, by show 0 + ms ≤ ms; omega, hPc U0 hh0 hwarm0⟩ (by rw [gbytes]; exact hdecs.2.2.1) walk2
  dsimp only [Pt.U, Pt.locs, Pt.cells, Pt.slots] at Y1 walk3
  obtain ⟨g2, mk2, t2, L2, z1, z2, z3, z4, z5, z6, z7⟩ := hpost
  dsimp only [Pt.U, Pt.locs, Pt.cells, Pt.slots] at z1 z2 z3 z4 z6 z7
  obtain ⟨w, rfl, hw01⟩ := hret _ _ _ _ z3
  obtain ⟨fs, hleave, -, hended, hWe, hsame⟩ := Y1.leave (v := some (.int w)) (fun h => by rw [gret] at h; cases h) glk
  obtain ⟨T', X', hW', -, ht⟩ := X1.outOf (g := { g with stack := rest }) hg (by rw [hb]; exact hdg) hended hWe hsame
  have walk4 := lm_iret (pc := 4 * k + 4) (ls := #[.val (.ref q), .val (.int x)]) Y1 hx (t := .boolean) gret (gx_nz hw01) (by rw [gbytes]; exact hdecs.2.2.2) hleave
  refine ⟨some (.int w), U0.calling g2 mk2 (Value.ref th :: (ints.map Value.int ++ [.int x])).toArray, t2, T', L1, hh0, ?_, ?_, ?_, ?_, z3, ?_⟩
  · rw [z6, z7] at X'
    simpa using X'
  · intro a ha
    rw [z4] at ha
    exact z5 a (by simpa using ha)
  · exact (congrArg State.heap ht).symm.trans z1
  · exact (congrArg State.vm ht).symm.trans z2
  · intro target hrest
    refine st1 target (fun acts => ?_)
    rw [hin acts]
    refine Steps.trans (Steps.weaken (mid := [.java { g with stack := rest }]) (walk3.trans walk4)) ?_
    rw [ht]
    exact hrest
end LAM
/-- what a lambda's cell is, at a contract's start -/
def LmF (sx : MethodName) (spc sidx : Nat) (σ : Lambda.Shape) (vals : List Value) (q : Nat) (wc : va_W) (U : State) : Prop := ∃ cK, LmAt sx spc sidx σ cK U ∧ U.heap[q]? = some (lmC cK vals) ∧ q < U.heap.size ∧ ∀ (j : Nat) (w : Nat × va_E), wc[j]? = some w → w.1 ≠ q
theorem LmF.same {sx : MethodName} {spc sidx : Nat} {σ : Lambda.Shape} {vals : List Value} {q : Nat} {wc : va_W} {u U : State} (hv : u.vm = U.vm) (hh : u.heap = U.heap) (h : LmF sx spc sidx σ vals q wc u) : LmF sx spc sidx σ vals q wc U := by
  obtain ⟨cK, h1, h2, h3, h4⟩ := h
  exact ⟨cK, h1.same hv, by rw [← hh]; exact h2, by rw [← hh]; exact h3, h4⟩
/-- a contract's start with more said of the state -/
abbrev gPcX (E : State → Prop) (G : GE) (av : List Value) (wc : va_W) (sz : Nat) : Array Value → State → Prop := va_Pc av (fun U => (U.heap.size = sz ∧ va_P G.1 vwCl wc U.heap ∧ KK G U ∧ va_D (fun _ => True) wc) ∧ E U)
abbrev CtIX (E : State → Prop) (l : Launch) (y : MethodName) (ws : List Cond) (rm : Room) (G : GE) (av : List Value) (wc : va_W) {S : Type} (post : Int32 → S → Prop) (w1 : S → va_W) : Prop := ∀ sz : Nat, Met l y ws rm (gPcX E G av wc sz) (va_Qi post (gB G wc sz w1) (va_A wc sz)) rm.cells rm.slots (va_A wc sz)
theorem gx_blindX {E : State → Prop} (hE : ∀ u U : State, u.vm = U.vm → u.heap = U.heap → E u → E U) {G : GE} {av : List Value} {wc : va_W} {sz : Nat} : FrameBlind (gPcX E G av wc sz) := by
  intro a U g mk q
  obtain ⟨q0, ⟨q1, qP, qK, qD⟩, qE⟩ := q
  exact ⟨q0, ⟨q1, qP, KK.same (u := U) (U := U.calling g mk a) rfl qK, qD⟩, hE U (U.calling g mk a) rfl rfl qE⟩
theorem gx_preVX {E : State → Prop} (hB : ∀ u U : State, u.vm = U.vm → u.heap = U.heap → E u → E U) {s : State} {G : GE} {As : List Value} {b : Nat} {wc : va_W} {H : Heap} (hK : KK G s) (hP : va_P G.1 vwCl wc H) {A : Nat → Prop} (hD : va_D A wc) (ci q0 : Nat) {q : vw_C} {fs : List Value} (hc : vwCl[ci]? = some q) (he : wc[q0]? = some (b, .inr (ci, fs))) (hE : ∀ U : State, U.heap = H → s.WarmedH U.vm → E U) : PreV s H q.1 b (gPcX E G (.ref b :: As) wc H.size) As :=
  ⟨gx_blindX hB, va_recv hK.1 hP hc he, fun U hU hW => ⟨rfl, ⟨by rw [hU], by rw [hU]; exact hP, KK.warm hW hK, hD.weaken (fun _ _ _ _ => trivial)⟩, hE U hU hW⟩⟩
theorem LmF.make {sx : MethodName} {spc sidx : Nat} {σ : Lambda.Shape} {cK : ClassId} {s : State} {vals : List Value} {q : Nat} {ws wc : va_W} {H : Heap} (h1 : LmAt sx spc sidx σ cK s) (h2 : H[q]? = some (lmC cK vals)) (h3 : q < H.size) (h4 : ∀ (j : Nat) (w : Nat × va_E), ws[j]? = some w → w.1 ≠ q) (is : List Nat) (hs : is.map (fun i => ws[i]?) = wc.map some) :
    ∀ U : State, U.heap = H → s.WarmedH U.vm → LmF sx spc sidx σ vals q wc U := fun U hU hW =>
  ⟨cK, h1.warm hW, by rw [hU]; exact h2, by rw [hU]; exact h3, fun j w hj => by
    have e1 : (wc.map some)[j]? = some (some w) := by rw [List.getElem?_map, hj]; rfl
    rw [← hs, List.getElem?_map] at e1
    cases h5 : is[j]? with
    | none => rw [h5] at e1; cases e1
    | some i =>
      rw [h5] at e1
      exact h4 i w (Option.some.inj e1)⟩
/-- the cell is as it was -/
theorem LmF.here {sx : MethodName} {spc sidx : Nat} {σ : Lambda.Shape} {vals : List Value} {q : Nat} {wc : va_W} {s : State} {H : Heap} {locs : List Loc} {A : Nat → Prop} (h : LmF sx spc sidx σ vals q wc s) (hAe : va_A wc s.heap.size = A) (hS : va_S A s.heap H locs) : ∃ cK, LmAt sx spc sidx σ cK s ∧ H[q]? = some (lmC cK vals) := by
  obtain ⟨cK, h1, h2, h3, h4⟩ := h
  refine ⟨cK, h1, ?_⟩
  rw [hS.2.1 q h3 (fun hq => ?_)]
  · exact h2
  · rw [← hAe] at hq
    rcases hq with ⟨j, e, hj⟩ | hq
    · exact h4 j _ hj rfl
    · omega
theorem gx_hret {S : Type} {post : Int32 → S → Prop} {B : S → State → Prop} {A : Nat → Prop} (h : ∀ r u, post r u → r = 0 ∨ r = 1) : ∀ a st v t, va_Qi post B A a st (.returned v) t → ∃ w : Int32, v = some (.int w) ∧ (w = 0 ∨ w = 1) := by
  rintro _ _ v _ ⟨⟨r, u, e, hp, _⟩, _⟩
  cases e
  exact ⟨r, rfl, h r u hp⟩
theorem gx_ofX {E : State → Prop} {l : Launch} {y : MethodName} {cc : ByteArray} {maxL : Nat} {ret : Option FieldType} {rm : Room} {G : GE} {av : List Value} {wc : va_W} {Qc : Nat → Array Value → State → Outcome → State → Prop} (hy : plainName y.cls = true) (hn : (lg_sl av).length ≤ maxL)
    (body : ∀ (p : Program) (e : Env) (s : State) (m : MethodId) (ar : Array Value) (below : List Frame) (meth : Method) (c : Code) (A : Nat → Prop) (ls : Array Slot) (QQ : State → Prop), E s → s.methodNamed? y = some m → p.tables.exec = Jvm.exec → c.code = cc → meth.sig.returnType = ret → c.maxLocals = maxL → (∀ w ∈ lw_all, w.before ar s = true) → s.vm.findClass y.cls = some m.cls → meth.locks = false → meth.name = y.name → KK G s → va_A wc s.heap.size = A → QQ = MQ below (Qc s.heap.size) ar s rm.cells rm.slots (va_A wc s.heap.size) → va_P G.1 vwCl wc s.heap → va_D A wc → (∀ q : Nat, s.heap.size ≤ q → A q) → va_S A s.heap s.heap [] → lv_has ls maxL (lv_args 0 av) →
      W p l e rm s m ar below meth c s.heap [] 0 0 QQ (F0 m 0 ls [])) :
    ∀ sz : Nat, Met l y (ws_ y cc maxL ret) rm (gPcX E G av wc sz) (Qc sz) rm.cells rm.slots (va_A wc sz) := by
  intro sz
  refine Met.ofW (cc := cc) (maxL := maxL) (ret := ret) hy rfl ?_
  intro p e s m args below meth c s₁ B hml hv
  obtain ⟨rfl, ⟨hsz, hP, hK, hD0⟩, hE⟩ := hv
  have hts := atoms_spec (ws := ws_ y cc maxL ret) B.pre
  have hts : ∀ w ∈ lw_all, w.before _ s = true := fun w h => hts w (List.mem_cons_of_mem _ h)
  subst hsz
  rw [lg_entry_eq]
  exact body p e s m _ below meth c _ _ _ hE B.named B.exec B.bytes B.returns hml hts (findClass_of_methodNamed B.named) B.notSynchronized (name_of_methodNamed B.named B.method).1 hK rfl rfl hP hD0.self (fun q h => Or.inr h) va_S.rf (lv_entry av hn)
theorem KL.at {U : State} (h : KL U) {x : MethodName} {pc index : Nat} {σ : Lambda.Shape} (i : Nat) (hi : lm_sites[i]? = some (x, pc, index, σ)) : ∃ cK, LmAt x pc index σ cK U := h _ (List.mem_of_getElem? hi)
theorem gx_ofN {l : Launch} {y : MethodName} {cc : ByteArray} {maxL : Nat} {ret : Option FieldType} {rm : Room} {G : GE} {av : List Value} {wc : va_W} {Qc : Nat → Array Value → State → Outcome → State → Prop} (hy : plainName y.cls = true) (hn : (lg_sl av).length ≤ maxL)
    (body : ∀ (p : Program) (e : Env) (s : State) (m : MethodId) (ar : Array Value) (below : List Frame) (meth : Method) (c : Code) (A : Nat → Prop) (ls : Array Slot) (QQ : State → Prop), s.methodNamed? y = some m → p.tables.exec = Jvm.exec → c.code = cc → meth.sig.returnType = ret → c.maxLocals = maxL → (∀ w ∈ lw_all, w.before ar s = true) → s.vm.findClass y.cls = some m.cls → meth.locks = false → meth.name = y.name → KK G s → va_A wc s.heap.size = A → QQ = MQ below (Qc s.heap.size) ar s rm.cells rm.slots (va_A wc s.heap.size) → va_P G.1 vwCl wc s.heap → va_D A wc → (∀ q : Nat, s.heap.size ≤ q → A q) → va_S A s.heap s.heap [] → lv_has ls maxL (lv_args 0 av) →
      W p l e rm s m ar below meth c s.heap [] 0 0 QQ (F0 m 0 ls [])) :
    ∀ sz : Nat, Met l y (ws_ y cc maxL ret) rm (gPc G av wc sz) (Qc sz) rm.cells rm.slots (va_A wc sz) := by
  intro sz
  refine Met.ofW (cc := cc) (maxL := maxL) (ret := ret) hy rfl ?_
  intro p e s m args below meth c s₁ B hml hv
  obtain ⟨rfl, hsz, hP, hK, hD0⟩ := hv
  have hts := atoms_spec (ws := ws_ y cc maxL ret) B.pre
  have hts : ∀ w ∈ lw_all, w.before _ s = true := fun w h => hts w (List.mem_cons_of_mem _ h)
  subst hsz
  rw [lg_entry_eq]
  exact body p e s m _ below meth c _ _ _ B.named B.exec B.bytes B.returns hml hts (findClass_of_methodNamed B.named) B.notSynchronized (name_of_methodNamed B.named B.method).1 hK rfl rfl hP hD0.self (fun q h => Or.inr h) va_S.rf (lv_entry av hn)
theorem lm_n1 (a : Nat) : ∀ q ∈ ([.object "GateLifter"] : List FieldType).zip [Value.ref a], narrow q.1 q.2 = q.2 ∧ fits q.1 q.2 = true := by
  intro q hq
  simp only [List.zip_cons_cons, List.zip_nil_right, List.mem_cons, List.not_mem_nil, or_false] at hq
  subst hq
  exact ⟨rfl, rfl⟩
theorem lm_n2 (a : Nat) (x : Int32) : ∀ q ∈ ([.object "GateLifter", .int] : List FieldType).zip [Value.ref a, Value.int x], narrow q.1 q.2 = q.2 ∧ fits q.1 q.2 = true := by
  intro q hq
  simp only [List.zip_cons_cons, List.zip_nil_right, List.mem_cons, List.not_mem_nil, or_false] at hq
  rcases hq with h | h <;> subst h <;> exact ⟨rfl, rfl⟩
theorem lm_n3 (a : Nat) (x y : Int32) : ∀ q ∈ ([.object "GateLifter", .int, .int] : List FieldType).zip [Value.ref a, Value.int x, Value.int y], narrow q.1 q.2 = q.2 ∧ fits q.1 q.2 = true := by
  intro q hq
  simp only [List.zip_cons_cons, List.zip_nil_right, List.mem_cons, List.not_mem_nil, or_false] at hq
  rcases hq with h | h | h <;> subst h <;> exact ⟨rfl, rfl⟩
theorem IsB.i01 {r : Int32} {P : Prop} (h : IsB r P) : r = 0 ∨ r = 1 := h.elim (fun z => Or.inr z.1) (fun z => Or.inl z.1)
