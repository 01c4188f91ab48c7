/-! GX: contract forms and call rows over the kit's rows (own work) -/
set_option maxRecDepth 100000
abbrev vwCl : List vw_C := [(RX3, TX3, 9), (RX5, TX5, 10), (RX6, TX6, 3), (RX2, TX2, 10), (RX4, TX4, 7), (RX9, TX9, 1), ("GateLifter", TX1, 22), ("GateLifterModel", TX7, 42), ("java/lang/StringBuilder", TJ4, 4), ("java/lang/String", TJ5, 4), ("java/lang/IllegalArgumentException", TJ13, 6)]
/-- the world's numbers: classes, and array classes (0 int, 1 boolean, 2 byte, 3 long, 4 Net, 5 int[]) -/
abbrev GE : Type := va_G × (Nat → ClassId)
abbrev gtys (G : GE) : List (ClassId × FieldType) := [(G.2 0, .int), (G.2 1, .boolean), (G.2 2, .byte), (G.2 3, .long), (G.2 4, .object "GateLifter$Net"), (G.2 5, .array .int)]
def gx_knd : Cond → Bool
  | .fieldLinkNest .. => true
  | .methodLinkNest .. => true
  | .castable .. => true
  | .declares .. => true
  | .arrayOver _ => true
  | _ => false
/-- words of the tables that do not ride in the lists -/
def KX (U : State) : Prop := ∀ w ∈ lw_tbl, gx_knd w = true → va_Nw w U
theorem gx_AOm {u U : State} {ty : FieldType} (hvm : u.vm.Alike U.vm) (h : va_Nw (.arrayOver ty) u) : va_Nw (.arrayOver ty) U := by
  have h2 : (Cond.arrayOver ty).before #[] (u.setVm U.vm) = true := by rw [Cond.arrayOver_setVmC hvm]; exact h
  exact h2
theorem KX.warm {s U : State} (hW : s.WarmedH U.vm) (h : KX s) : KX U := by
  intro w hw hk
  have h1 := h w hw hk
  cases w <;> first
    | exact absurd hk Bool.false_ne_true
    | exact va_Nw.warmF hW h1
    | exact va_Nw.warmM hW h1
    | exact va_Nw.warmC hW h1
    | exact va_Nw.warmD hW h1
    | skip
  rename_i ty
  exact gx_AOm hW.alike h1
theorem KX.same {u U : State} (hv : u.vm = U.vm) (h : KX u) : KX U := by
  intro w hw hk
  have h1 := h w hw hk
  cases w <;> first
    | exact absurd hk Bool.false_ne_true
    | exact va_Nw.same rfl hv h1
    | skip
  rename_i ty
  exact gx_AOm (by rw [hv]; exact Vm.Alike.refl _) h1
abbrev yF_nodes : MethodName := ⟨"GateLifter$Flow", "nodes", "()I"⟩
abbrev yF_next : MethodName := ⟨"GateLifter$Flow", "next", "(I)I"⟩
def gx_fws : List (String × MethodName × MethodName) := [("GateLifter$Net", yF_nodes, yX3_nodes), ("GateLifter$Net", yF_next, yX3_next), ("GateLifter$Tree", yF_nodes, yX5_nodes), ("GateLifter$Tree", yF_next, yX5_next), ("GateLifter$Turned", yF_nodes, yX9_nodes), ("GateLifter$Turned", yF_next, yX9_next), ("java/lang/StringBuilder", ⟨"java/lang/CharSequence", "length", "()I"⟩, ⟨"java/lang/StringBuilder", "length", "()I"⟩)]
def KF (U : State) : Prop := ∀ q ∈ gx_fws, va_Fw q.1 q.2.1 q.2.2 U
theorem KF.moved {u U : State} (hvm : u.vm.Alike U.vm) (h : KF u) : KF U := by
  intro q hq
  refine va_Fw.moved ?_ hvm (h q hq)
  revert q
  decide
abbrev yF_reach : MethodName := ⟨"GateLifter$Flow", "reach", "(II)I"⟩
/-- an interface's own body, which classes inherit: the words that the start gives beside the tables -/
def gx_dws : List Cond := [.methodLink "GateLifter$Net" 49 ⟨"GateLifter$Net", "reach", "(II)I"⟩, .methodLink "GateLifter$Tree" 48 ⟨"GateLifter$Tree", "reach", "(II)I"⟩, .methodLink "GateLifter" 374 ⟨"GateLifter$Net", "reach", "(II)I"⟩, .sameMethod "GateLifter$Net" "GateLifter$Flow" "reach" "(II)I", .sameMethod "GateLifter$Tree" "GateLifter$Flow" "reach" "(II)I"]
def gx_lands : List (String × MethodName) := [("GateLifter$Net", ⟨"GateLifter$Net", "reach", "(II)I"⟩), ("GateLifter$Tree", ⟨"GateLifter$Tree", "reach", "(II)I"⟩), ("GateLifter$Net", yF_reach), ("GateLifter$Tree", yF_reach), ("GateLifter$Turned", yF_reach)]
def va_Dw (C : String) (x y : MethodName) (U : State) : Prop := (Cond.landsInDefault C x y).before #[] U = true
theorem va_Dw.moved {C : String} {x y : MethodName} (hx : x.cls ≠ "java/lang/invoke/MethodHandle" ∧ x.cls ≠ "java/lang/invoke/VarHandle") {u U : State} (hvm : u.vm.Alike U.vm) (h : va_Dw C x y u) : va_Dw C x y U := by
  obtain ⟨c, r, m, rm, h1, h2, h3, h4, h5, h6, h7, h8⟩ := Cond.landsInDefault_spec h
  have hf : (u.setVm U.vm).methodFound? x.cls x.name x.desc = u.methodFound? x.cls x.name x.desc := State.methodFound?_setVm hvm _ _ _
  have e := Cond.landsInDefault_setVm (args := #[]) (args' := #[]) hvm (cls := C) (x := x) (y := y) hf
  have h9 : (Cond.landsInDefault C x y).before #[] (u.setVm U.vm) = true := by rw [e]; exact h
  have h10 : (Cond.landsInDefault C x y).before #[] (U.setVm U.vm) = true := h9
  exact h10
/-- what is inherited -/
def KD (U : State) : Prop := (∀ w ∈ gx_dws, w.before #[] U = true) ∧ (∀ q ∈ gx_lands, va_Dw q.1 q.2 yF_reach U) ∧ (Cond.interfaceMethod "GateLifter$Flow" "GateLifter$Flow" "reach" "(II)I").before #[] U = true ∧ (Cond.publicMethod yF_reach).before #[] U = true ∧ (Cond.interfaceMethod "GateLifter$Is" "GateLifter$Is" "of" "(I)Z").before #[] U = true
theorem KD.warm {s U : State} (hW : s.WarmedH U.vm) (h : KD s) (hX : KX s) : KD U := by
  refine ⟨fun w hw => ?_, fun q hq => ?_, ?_, ?_, ?_⟩
  · have h1 := h.1 w hw
    exact word_at hW (good_of_word (List.all_eq_true.1 (show gx_dws.all goodWord = true by decide +kernel) w hw)) h1
  · refine va_Dw.moved ?_ hW.alike (h.2.1 q hq)
    revert q; decide
  · have hd : (Cond.declares yF_reach).before #[] s = true := hX _ (lw_at lw_m2 68 rfl) rfl
    obtain ⟨r, meth, hn, -⟩ := Cond.declares_spec hd
    exact va_tabs rfl (rfl : (s.setVm U.vm).vm = U.vm) (by rw [Cond.interfaceMethod_setVm hW.alike (r := r) hn (by decide)]; exact h.2.2.1)
  · exact va_tabs rfl (rfl : (s.setVm U.vm).vm = U.vm) (by rw [Cond.publicMethod_setVm hW.alike]; exact h.2.2.2.1)
  · have hd : (Cond.declares ⟨"GateLifter$Is", "of", "(I)Z"⟩).before #[] s = true := hX _ (lw_at lw_m3 25 rfl) rfl
    obtain ⟨r, meth, hn, -⟩ := Cond.declares_spec hd
    exact va_tabs rfl (rfl : (s.setVm U.vm).vm = U.vm) (by rw [Cond.interfaceMethod_setVm hW.alike (r := r) hn (by decide)]; exact h.2.2.2.2)
def KK (G : GE) (U : State) : Prop := va_K G.1 vwCl (gtys G) U ∧ KX U ∧ KF U ∧ KD U ∧ KL U
theorem KK.warm {G : GE} {s U : State} (hW : s.WarmedH U.vm) (h : KK G s) : KK G U := ⟨va_K.moved hW.alike h.1, KX.warm hW h.2.1, KF.moved hW.alike h.2.2.1, KD.warm hW h.2.2.2.1 h.2.1, KL.warm hW h.2.2.2.2⟩
theorem KD.same {u U : State} (hv : u.vm = U.vm) (h : KD u) : KD U := by
  refine ⟨fun w hw => ?_, fun q hq => ?_, ?_, ?_, ?_⟩
  · have h1 := h.1 w hw
    simp only [gx_dws, List.mem_cons, List.not_mem_nil, or_false] at hw
    rcases hw with e | e | e | e | e <;> subst e <;> exact va_tabs rfl hv h1
  · refine va_Dw.moved ?_ (by rw [hv]; exact Vm.Alike.refl _) (h.2.1 q hq)
    revert q; decide
  · exact va_tabs rfl hv h.2.2.1
  · exact va_tabs rfl hv h.2.2.2.1
  · exact va_tabs rfl hv h.2.2.2.2
theorem KK.same {G : GE} {u U : State} (hv : u.vm = U.vm) (h : KK G u) : KK G U := by
  have ha : u.vm.Alike U.vm := by rw [hv]; exact Vm.Alike.refl _
  exact ⟨va_K.moved ha h.1, KX.same hv h.2.1, KF.moved ha h.2.2.1, KD.same hv h.2.2.2.1, KL.same hv h.2.2.2.2⟩
theorem KK.nw {G : GE} {U : State} (h : KK G U) {w : Cond} (hw : w ∈ lw_tbl) (hk : gx_knd w = true) : va_Nw w U := h.2.1 w hw hk
theorem KK.dw {G : GE} {U : State} (h : KK G U) {w : Cond} {A : Array Value} (i : Nat) (hi : gx_dws[i]? = some w) : w.before A U = true := by
  have h1 := h.2.2.2.1.1 w (List.mem_of_getElem? hi)
  refine va_tabs ?_ rfl h1
  exact List.all_eq_true.1 (show gx_dws.all (fun w => w.onTables) = true by decide +kernel) w (List.mem_of_getElem? hi)
theorem KK.lands {G : GE} {U : State} (h : KK G U) {C : String} {x : MethodName} {A : Array Value} (i : Nat) (hi : gx_lands[i]? = some (C, x)) : (Cond.landsInDefault C x yF_reach).before A U = true := h.2.2.2.1.2.1 (C, x) (List.mem_of_getElem? hi)
/-- a contract's start -/
abbrev gPc (G : GE) (av : List Value) (wc : va_W) (sz : Nat) : Array Value → State → Prop := va_Pc av (fun U => U.heap.size = sz ∧ va_P G.1 vwCl wc U.heap ∧ KK G U ∧ va_D (fun _ => True) wc)
/-- the world behind it -/
abbrev gB {S : Type} (G : GE) (wc : va_W) (sz : Nat) (w1 : S → va_W) : S → State → Prop := fun u t => va_P G.1 vwCl (w1 u) t.heap ∧ va_D (va_A wc sz) (w1 u)
abbrev gBr {S : Type} (G : GE) (wc : va_W) (sz : Nat) (pa : Nat → Prop) (w1 : S → Nat → va_W) : S → Nat → State → Prop := fun u a t => va_P G.1 vwCl (w1 u a) t.heap ∧ va_D (va_A wc sz) (w1 u a) ∧ pa a
/-- contracts: an int's answer, none, a cell's -/
abbrev CtI (l : Launch) (y : MethodName) (ws : List Cond) (rm : Room) (G : GE) (av : List Value) (wc : va_W) {S : Type} (post : Int32 → S → Prop) (w1 : S → va_W) : Prop := ∀ sz : Nat, Met l y ws rm (gPc G av wc sz) (va_Qi post (gB G wc sz w1) (va_A wc sz)) rm.cells rm.slots (va_A wc sz)
abbrev CtV (l : Launch) (y : MethodName) (ws : List Cond) (rm : Room) (G : GE) (av : List Value) (wc : va_W) {S : Type} (post : S → Prop) (w1 : S → va_W) : Prop := ∀ sz : Nat, Met l y ws rm (gPc G av wc sz) (va_Qv post (gB G wc sz w1) (va_A wc sz)) rm.cells rm.slots (va_A wc sz)
abbrev CtR (l : Launch) (y : MethodName) (ws : List Cond) (rm : Room) (G : GE) (av : List Value) (wc : va_W) {S : Type} (pa : Nat → Prop) (post : S → Prop) (w1 : S → Nat → va_W) : Prop := ∀ sz : Nat, Met l y ws rm (gPc G av wc sz) (va_Qr post (gBr G wc sz pa w1) (va_A wc sz)) rm.cells rm.slots (va_A wc sz)
theorem gx_blind {G : GE} {av : List Value} {wc : va_W} {sz : Nat} : FrameBlind (gPc G av wc sz) := by
  intro a U g mk q
  obtain ⟨q0, q1, qP, qK, qD⟩ := q
  exact ⟨q0, q1, qP, KK.same (u := U) (U := U.calling g mk a) rfl qK, qD⟩
theorem gx_preS {s : State} {G : GE} {av : List Value} {wc : va_W} {H : Heap} (hK : KK G s) (hP : va_P G.1 vwCl wc H) {A : Nat → Prop} (hD : va_D A wc) : PreS s H (gPc G av wc H.size) av :=
  ⟨gx_blind, fun U hU hW => ⟨rfl, by rw [hU], by rw [hU]; exact hP, KK.warm hW hK, hD.weaken (fun _ _ _ _ => trivial)⟩⟩
theorem gx_preV {s : State} {G : GE} {As : List Value} {b : Nat} {wc : va_W} {H : Heap} (hK : KK G s) (hP : va_P G.1 vwCl wc H) {A : Nat → Prop} (hD : va_D A wc) (ci q0 : Nat) {q : vw_C} {fs : List Value} (hc : vwCl[ci]? = some q) (he : wc[q0]? = some (b, .inr (ci, fs))) : PreV s H q.1 b (gPc G (.ref b :: As) wc H.size) As :=
  ⟨gx_blind, va_recv hK.1 hP hc he, fun U hU hW => ⟨rfl, by rw [hU], by rw [hU]; exact hP, KK.warm hW hK, hD.weaken (fun _ _ _ _ => trivial)⟩⟩
section GXC
variable {p : Program} {l : Launch} {e : Env} {R : Room} {s : State} {m : MethodId} {args : Array Value} {below : List Frame} {meth : Method} {c : Code} {H : Heap} {locs : List Loc} {cells slots : Nat} {Q : State → Prop}
variable {pc : Nat} {ls : Array Slot} {rest st0 : List Value} {a : Array Value} {A : Nat → Prop} {H0 : Heap} {mc ms : Nat} {G : GE} {ws wc wr : va_W}
/-- behind a call: the callee's cells as it left them, the rest as it was -/
theorem gx_i {S : Type} {post : Int32 → S → Prop} {w1 : S → va_W} (hr : va_Run p l e R s m args below meth c H locs cells slots mc ms (F0 m pc ls st0) rest (va_Qi post (gB G wc H.size w1) (va_A wc H.size) a) (va_A wc H.size)) (hP : va_P G.1 vwCl ws H) (hD : va_D A ws) (hS : va_S A H0 H locs) (hA : ∀ q, H0.size ≤ q → A q) (isC isR : List Nat) (hC : isC.map (fun i => ws[i]?) = wc.map some) (hR : isR.map (fun i => ws[i]?) = wr.map some) (hn : va_nd isR = true) (hdis : ∀ i ∈ isR, i ∉ isC)
    (kk : ∀ (r : Int32) (u : S) (H1 : Heap) (locs1 : List Loc), post r u → va_P G.1 vwCl (wr ++ w1 u) H1 → va_D A (wr ++ w1 u) → va_S A H0 H1 locs1 → W p l e R s m args below meth c H1 locs1 (cells + mc) (slots + ms) Q (F0 m (pc + 3) ls (.int r :: rest))) : W p l e R s m args below meth c H locs cells slots Q (F0 m pc ls st0) := by
  have hF := va_free hD hS hA isC hC
  refine va_calli hr hS (fun q _ h => hF q h) hF (fun r u t H1 locs1 ht hvm hw hB hz hk hS1 => ?_)
  obtain ⟨hP1, hD1⟩ := hB
  rw [ht] at hP1
  obtain ⟨hP2, hD2⟩ := va_join hP hD isC isR hC hR hn hdis hk hF hP1 hD1
  exact kk r u H1 locs1 hw hP2 hD2 hS1
theorem gx_v {S : Type} {post : S → Prop} {w1 : S → va_W} (hr : va_Run p l e R s m args below meth c H locs cells slots mc ms (F0 m pc ls st0) rest (va_Qv post (gB G wc H.size w1) (va_A wc H.size) a) (va_A wc H.size)) (hP : va_P G.1 vwCl ws H) (hD : va_D A ws) (hS : va_S A H0 H locs) (hA : ∀ q, H0.size ≤ q → A q) (isC isR : List Nat) (hC : isC.map (fun i => ws[i]?) = wc.map some) (hR : isR.map (fun i => ws[i]?) = wr.map some) (hn : va_nd isR = true) (hdis : ∀ i ∈ isR, i ∉ isC)
    (kk : ∀ (u : S) (H1 : Heap) (locs1 : List Loc), post u → va_P G.1 vwCl (wr ++ w1 u) H1 → va_D A (wr ++ w1 u) → va_S A H0 H1 locs1 → W p l e R s m args below meth c H1 locs1 (cells + mc) (slots + ms) Q (F0 m (pc + 3) ls rest)) : W p l e R s m args below meth c H locs cells slots Q (F0 m pc ls st0) := by
  have hF := va_free hD hS hA isC hC
  refine va_callv hr hS (fun q _ h => hF q h) hF (fun u t H1 locs1 ht hvm hw hB hz hk hS1 => ?_)
  obtain ⟨hP1, hD1⟩ := hB
  rw [ht] at hP1
  obtain ⟨hP2, hD2⟩ := va_join hP hD isC isR hC hR hn hdis hk hF hP1 hD1
  exact kk u H1 locs1 hw hP2 hD2 hS1
theorem gx_r {S : Type} {pa : Nat → Prop} {post : S → Prop} {w1 : S → Nat → va_W} (hr : va_Run p l e R s m args below meth c H locs cells slots mc ms (F0 m pc ls st0) rest (va_Qr post (gBr G wc H.size pa w1) (va_A wc H.size) a) (va_A wc H.size)) (hP : va_P G.1 vwCl ws H) (hD : va_D A ws) (hS : va_S A H0 H locs) (hA : ∀ q, H0.size ≤ q → A q) (isC isR : List Nat) (hC : isC.map (fun i => ws[i]?) = wc.map some) (hR : isR.map (fun i => ws[i]?) = wr.map some) (hn : va_nd isR = true) (hdis : ∀ i ∈ isR, i ∉ isC)
    (kk : ∀ (u : S) (ra : Nat) (H1 : Heap) (locs1 : List Loc), post u → pa ra → va_P G.1 vwCl (wr ++ w1 u ra) H1 → va_D A (wr ++ w1 u ra) → va_S A H0 H1 locs1 → W p l e R s m args below meth c H1 locs1 (cells + mc) (slots + ms) Q (F0 m (pc + 3) ls (.ref ra :: rest))) : W p l e R s m args below meth c H locs cells slots Q (F0 m pc ls st0) := by
  have hF := va_free hD hS hA isC hC
  refine va_callr hr hS (fun q _ h => hF q h) hF (fun u ra t H1 locs1 ht hvm hw hB hz hk hS1 => ?_)
  obtain ⟨hP1, hD1, hpa⟩ := hB
  rw [ht] at hP1
  obtain ⟨hP2, hD2⟩ := va_join hP hD isC isR hC hR hn hdis hk hF hP1 hD1
  exact kk u ra H1 locs1 hw hpa hP2 hD2 hS1
theorem gx_Fi {S : Type} {post : Int32 → S → Prop} {w1 : S → va_W} (hr : va_Run5 p l e R s m args below meth c H locs cells slots mc ms (F0 m pc ls st0) rest (va_Qi post (gB G wc H.size w1) (va_A wc H.size) a) (va_A wc H.size)) (hP : va_P G.1 vwCl ws H) (hD : va_D A ws) (hS : va_S A H0 H locs) (hA : ∀ q, H0.size ≤ q → A q) (isC isR : List Nat) (hC : isC.map (fun i => ws[i]?) = wc.map some) (hR : isR.map (fun i => ws[i]?) = wr.map some) (hn : va_nd isR = true) (hdis : ∀ i ∈ isR, i ∉ isC)
    (kk : ∀ (r : Int32) (u : S) (H1 : Heap) (locs1 : List Loc), post r u → va_P G.1 vwCl (wr ++ w1 u) H1 → va_D A (wr ++ w1 u) → va_S A H0 H1 locs1 → W p l e R s m args below meth c H1 locs1 (cells + mc) (slots + ms) Q (F0 m (pc + 5) ls (.int r :: rest))) : W p l e R s m args below meth c H locs cells slots Q (F0 m pc ls st0) := by
  have hF := va_free hD hS hA isC hC
  refine va_callFi hr hS (fun q _ h => hF q h) hF (fun r u t H1 locs1 ht hvm hw hB hz hk hS1 => ?_)
  obtain ⟨hP1, hD1⟩ := hB
  rw [ht] at hP1
  obtain ⟨hP2, hD2⟩ := va_join hP hD isC isR hC hR hn hdis hk hF hP1 hD1
  exact kk r u H1 locs1 hw hP2 hD2 hS1
end GXC
/-- a contract out of a walk of its body -/
theorem gx_of {l : Launch} {y : MethodName} {cc : ByteArray} {maxL : Nat} {ret : Option FieldType} {rm : Room} {G : GE} {av : List Value} {wc : va_W} {Qc : Nat → Array Value → State → Outcome → State → Prop} (hy : plainName y.cls = true) (hn : (lg_sl av).length ≤ maxL)
    (body : ∀ (p : Program) (e : Env) (s : State) (m : MethodId) (ar : Array Value) (below : List Frame) (meth : Method) (c : Code) (A : Nat → Prop) (ls : Array Slot) (QQ : State → Prop), p.tables.exec = Jvm.exec → c.code = cc → meth.sig.returnType = ret → c.maxLocals = maxL → (∀ w ∈ lw_all, w.before ar s = true) → s.vm.findClass y.cls = some m.cls → meth.locks = false → meth.name = y.name → KK G s → va_A wc s.heap.size = A → QQ = MQ below (Qc s.heap.size) ar s rm.cells rm.slots (va_A wc s.heap.size) → va_P G.1 vwCl wc s.heap → va_D A wc → (∀ q : Nat, s.heap.size ≤ q → A q) → va_S A s.heap s.heap [] → lv_has ls maxL (lv_args 0 av) →
      W p l e rm s m ar below meth c s.heap [] 0 0 QQ (F0 m 0 ls [])) :
    ∀ sz : Nat, Met l y (ws_ y cc maxL ret) rm (gPc G av wc sz) (Qc sz) rm.cells rm.slots (va_A wc sz) := by
  intro sz
  refine Met.ofW (cc := cc) (maxL := maxL) (ret := ret) hy rfl ?_
  intro p e s m args below meth c s₁ B hml hv
  obtain ⟨rfl, hsz, hP, hK, hD0⟩ := hv
  have hts := atoms_spec (ws := ws_ y cc maxL ret) B.pre
  have hts : ∀ w ∈ lw_all, w.before _ s = true := fun w h => hts w (List.mem_cons_of_mem _ h)
  subst hsz
  rw [lg_entry_eq]
  exact body p e s m _ below meth c _ _ _ B.exec B.bytes B.returns hml hts (findClass_of_methodNamed B.named) B.notSynchronized (name_of_methodNamed B.named B.method).1 hK rfl rfl hP hD0.self (fun q h => Or.inr h) va_S.rf (lv_entry av hn)
section GXE
variable {p : Program} {l : Launch} {e : Env} {R : Room} {s : State} {m : MethodId} {args : Array Value} {below : List Frame} {meth : Method} {c : Code} {H : Heap} {locs : List Loc} {cells slots : Nat} {cc : ByteArray}
variable {pc : Nat} {ls : Array Slot} {A : Nat → Prop} {mc ms : Nat} {G : GE} {wc : va_W}
theorem gx_iret {S : Type} {post : Int32 → S → Prop} {w1 : S → va_W} {v : Int32} (u : S) (hx : p.tables.exec = Jvm.exec) (hb : c.code = cc) (hr : meth.sig.returnType = some .int) (hlocks : meth.locks = false) (hAe : va_A wc s.heap.size = A) (hP : va_P G.1 vwCl (w1 u) H) (hD : va_D A (w1 u)) (hS : va_S A s.heap H locs) (h1 : cells ≤ mc) (h2 : slots ≤ ms) (hq : post v u) (hdg : decode cc pc = .ok (.ireturn, 1)) :
    W p l e R s m args below meth c H locs cells slots (MQ below (va_Qi post (gB G wc s.heap.size w1) (va_A wc s.heap.size)) args s mc ms (va_A wc s.heap.size)) (F0 m pc ls [.int v]) := by
  subst hAe
  exact W.widen h1 h2 (W.iret hx hb hr (fun t ht hW => ⟨⟨v, u, rfl, hq, by rw [ht]; exact hP, hD⟩, hS.F ht⟩) hS.2.2 hdg hlocks)
theorem gx_zret {S : Type} {post : Int32 → S → Prop} {w1 : S → va_W} {v : Int32} {ty : FieldType} (u : S) (hx : p.tables.exec = Jvm.exec) (hb : c.code = cc) (hr : meth.sig.returnType = some ty) (hlocks : meth.locks = false) (hAe : va_A wc s.heap.size = A) (hP : va_P G.1 vwCl (w1 u) H) (hD : va_D A (w1 u)) (hS : va_S A s.heap H locs) (h1 : cells ≤ mc) (h2 : slots ≤ ms) (hn : narrow ty (.int v) = .int v) (hq : post v u) (hdg : decode cc pc = .ok (.ireturn, 1)) :
    W p l e R s m args below meth c H locs cells slots (MQ below (va_Qi post (gB G wc s.heap.size w1) (va_A wc s.heap.size)) args s mc ms (va_A wc s.heap.size)) (F0 m pc ls [.int v]) := by
  subst hAe
  exact W.widen h1 h2 (W.zret hx hb hr hn (fun t ht hW => ⟨⟨v, u, rfl, hq, by rw [ht]; exact hP, hD⟩, hS.F ht⟩) hS.2.2 hdg hlocks)
theorem gx_vret {S : Type} {post : S → Prop} {w1 : S → va_W} (u : S) (hx : p.tables.exec = Jvm.exec) (hb : c.code = cc) (hr : meth.sig.returnType = none) (hlocks : meth.locks = false) (hAe : va_A wc s.heap.size = A) (hP : va_P G.1 vwCl (w1 u) H) (hD : va_D A (w1 u)) (hS : va_S A s.heap H locs) (h1 : cells ≤ mc) (h2 : slots ≤ ms) (hq : post u) (hdg : decode cc pc = .ok (.return_, 1)) :
    W p l e R s m args below meth c H locs cells slots (MQ below (va_Qv post (gB G wc s.heap.size w1) (va_A wc s.heap.size)) args s mc ms (va_A wc s.heap.size)) (F0 m pc ls []) := by
  subst hAe
  exact W.widen h1 h2 (W.vret hx hb hr (fun t ht hW => ⟨⟨u, rfl, hq, by rw [ht]; exact hP, hD⟩, hS.F ht⟩) hS.2.2 hdg hlocks)
theorem gx_aret {S : Type} {pa : Nat → Prop} {post : S → Prop} {w1 : S → Nat → va_W} {v : Nat} {C : String} (u : S) (hx : p.tables.exec = Jvm.exec) (hb : c.code = cc) (hr : meth.sig.returnType = some (.object C)) (hlocks : meth.locks = false) (hAe : va_A wc s.heap.size = A) (hP : va_P G.1 vwCl (w1 u v) H) (hD : va_D A (w1 u v)) (hS : va_S A s.heap H locs) (h1 : cells ≤ mc) (h2 : slots ≤ ms) (hpa : pa v) (hq : post u) (hdg : decode cc pc = .ok (.areturn, 1)) :
    W p l e R s m args below meth c H locs cells slots (MQ below (va_Qr post (gBr G wc s.heap.size pa w1) (va_A wc s.heap.size)) args s mc ms (va_A wc s.heap.size)) (F0 m pc ls [.ref v]) := by
  subst hAe
  exact W.widen h1 h2 (W.aret hx hb hr (Or.inl ⟨C, rfl⟩) (Or.inr ⟨v, rfl⟩) (fun t ht hW => ⟨⟨u, v, rfl, hq, by rw [ht]; exact hP, hD, hpa⟩, hS.F ht⟩) hS.2.2 hdg hlocks)
/-- a new array's class is the one of the tables -/
theorem gx_ra {ty : FieldType} (hty : ∀ C, ty ≠ .object C) {c1 c2 : ClassId} (h1 : va_RA s c1 ty) (h2 : va_RA s c2 ty) : c1 = c2 := by
  cases ty with
  | object C => exact absurd rfl (hty C)
  | _ => exact Option.some.inj (h1.symm.trans h2)
variable {Q : State → Prop} {rest : List Value} {H0 : Heap} {ws : va_W}
theorem gx_newa (hexec : p.tables.exec = Jvm.exec) (hb : c.code = cc) {atype : ArrayType} (harr : (Cond.arrayClass (newarray.typeOf atype)).before args s = true) {ty : FieldType} (hty : newarray.typeOf atype = ty) (hobj : ∀ C, ty ≠ .object C) (hK : KK G s) (t0 : Nat) {cA0 : ClassId} (ht0 : (gtys G)[t0]? = some (cA0, ty)) (hP : va_P G.1 vwCl ws H) (hD : va_D A ws) (hS : va_S A H0 H locs) (hA : ∀ q, H0.size ≤ q → A q)
    {n : Int32} {N' : Nat} {a0 : vp_A} (ha : ∀ cA : ClassId, vp_cell cA a0 = arrV cA N' (fun _ => defaultValue ty)) (hn : ¬ n < 0) (hN : n.toNatClampNeg = N') (hbytes : N' * componentBytes ty ≤ 536870912) (hcells : cells + 1 ≤ R.cells) (hslots : slots + N' ≤ R.slots) (hdg : decode cc pc = .ok (.newarray atype, 2))
    (kk : ∀ (q : Nat) (H1 : Heap), va_P G.1 vwCl (ws ++ [(q, .inl (cA0, a0))]) H1 → va_D A (ws ++ [(q, .inl (cA0, a0))]) → va_S A H0 H1 locs →
      W p l e R s m args below meth c H1 locs (cells + 1) (slots + N') Q (F0 m (pc + 2) ls (.ref q :: rest))) : W p l e R s m args below meth c H locs cells slots Q (F0 m pc ls (.int n :: rest)) := by
  refine va_newa hexec hb harr hty hK.1 hP hD hS hA ha hn hN hbytes hcells hslots hdg (fun q cA H1 hK1 hP1 hD1 hS1 => ?_)
  have e1 := (hK1.2 (gtys G).length (cA, ty) (by simp)).2
  have e0 := (hK.1.2 t0 (cA0, ty) ht0).2
  have e : cA = cA0 := gx_ra hobj e1 e0
  subst e
  exact kk q H1 hP1 hD1 hS1
/-- a call through an object whose class inherits an interface's own body -/
theorem gx_runVD {x y : MethodName} {bytes : ByteArray} {maxL nL n index : Nat} {ret : Option FieldType} {ws' ws : List Cond} {rm : Room} {Pc : Array Value → State → Prop} {Qc : Array Value → State → Outcome → State → Prop} {free : Addr → Prop} {own C owner : String} {cC : ClassId} {b : Addr} {As : List Value} {g : JFrame}
    (hat : ClassAt s C cC) (S : CallFix p m c cc nL s args lw_all own) (hM : Met l y ws rm Pc Qc mc ms free) (hw : ws = Cond.code y bytes maxL ret :: ws') (hT : GoodIn lw_all ws) (hrc : rm.cells = mc) (hrs : rm.slots = ms)
    (hlink : (Cond.methodLink own index x).before args s = true) (hsame : (Cond.sameMethod x.cls owner x.name x.desc).before args s = true) (hdecl : (Cond.declares ⟨owner, x.name, x.desc⟩).before args s = true) (hsel : (Cond.landsInDefault C x y).before args s = true) (hinst : (Cond.instanceMethod y).before args s = true) (hini : (Cond.initialized y.cls).before args s = true)
    (hd : owner ≠ "java/lang/invoke/MethodHandle" ∧ owner ≠ "java/lang/invoke/VarHandle" ∧ (parseMethodDescriptor x.desc).map (fun d => d.parameters.length) = some n) (hR : rm.frames + 1 ≤ R.frames ∧ 8 + (maxL + 11) + rm.locals ≤ R.locals) (hp : PreV s H C b Pc As)
    (hg : g.method = m) (hn : As.length = n) (hsize : g.locals.size = nL) (hstack : g.stack = As.reverse ++ .ref b :: rest) (hW : 2 * g.monitorRoom + (rest.map fun v => v.category).sum ≤ 8) (hdg : decode cc g.pc = .ok (.invokevirtual index, 3)) (hf : cells + mc ≤ R.cells ∧ slots + ms ≤ R.slots) :
    va_Run p l e R s m args below meth c H locs cells slots mc ms g rest (Qc (Value.ref b :: As).toArray) (free) := by
  obtain ⟨hx, hb, hml, ho, hts⟩ := S
  have hK : Back l R p e below s args y 3 8 (PreOf R mc ms Pc) (PostOf Qc mc ms free) := back_of (bytes := bytes) (maxL := maxL) (ret := ret) hM hp.1 hrc hrs hR.1 hR.2 (pay_in hts hT) (by rw [hw]; exact List.mem_cons_self) (fun a' U hW => word_at hW (Or.inl (by first | rfl | simp [Cond.onTables, Cond.keeps, Cond.steady])) hini)
  obtain ⟨-, ⟨cellB, hcB, hoB, hclB⟩, hPc⟩ := hp
  obtain ⟨hfc, kB, hkB, -⟩ := hat
  cases hfc.symm.trans hclB
  intro T hT X
  obtain ⟨v, vm₁, ⟨U', l2, c2, s2⟩, hW₁, X', ⟨g', mk, t, L, e1, e2, hq, h1, hL, h2, h3⟩, st⟩ := X.virtualBackUpD hx ho hlink hsame hdecl ⟨hd.1, hd.2.1⟩ hsel hinst hK hclB (b := b) ⟨cellB, by rw [hT]; exact hcB, rfl, hoB⟩ hg (hsize.trans hml.symm) (Steps.refl _) (argsL := As) (rest := rest) (fun sig h => by have h2 := hd.2.2; rw [h] at h2; exact hn.trans (Option.some.inj h2).symm) hstack hW (by rw [hb]; exact hdg)
    (fun vm₁ hW₁ => ⟨hf.1, hf.2, hPc (T.setVm vm₁) hT hW₁⟩)
  dsimp only [Pt.U, Pt.locs, Pt.cells, Pt.slots] at X' e1 e2 h1 h2 h3 st
  subst h1; subst h2; subst h3
  exact ⟨v, (T.setVm vm₁).calling g' mk (Value.ref b :: As).toArray, t, U', L, hT, X', hL, e1, e2, hq, fun target h => Steps.trans st h⟩
theorem gx_runFD {x y : MethodName} {bytes : ByteArray} {maxL nL n index count : Nat} {ret : Option FieldType} {ws' ws : List Cond} {rm : Room} {Pc : Array Value → State → Prop} {Qc : Array Value → State → Outcome → State → Prop} {free : Addr → Prop} {own C : String} {cC : ClassId} {b : Addr} {As : List Value} {g : JFrame}
    (hat : ClassAt s C cC) (S : CallFix p m c cc nL s args lw_all own) (hM : Met l y ws rm Pc Qc mc ms free) (hw : ws = Cond.code y bytes maxL ret :: ws') (hT : GoodIn lw_all ws) (hrc : rm.cells = mc) (hrs : rm.slots = ms)
    (hlink : (Cond.methodLink own index x).before args s = true) (hdecl : (Cond.declares x).before args s = true) (hface : (Cond.interfaceMethod x.cls x.cls x.name x.desc).before args s = true) (hpub : (Cond.publicMethod y).before args s = true) (hcast : (Cond.castable C x.cls).before args s = true) (hsel : (Cond.landsInDefault C x y).before args s = true) (hinst : (Cond.instanceMethod y).before args s = true) (hini : (Cond.initialized y.cls).before args s = true)
    (hd : x.cls ≠ "java/lang/invoke/MethodHandle" ∧ x.cls ≠ "java/lang/invoke/VarHandle" ∧ (parseMethodDescriptor x.desc).map (fun d => d.parameters.length) = some n) (hR : rm.frames + 1 ≤ R.frames ∧ 8 + (maxL + 11) + rm.locals ≤ R.locals) (hp : PreV s H C b Pc As)
    (hg : g.method = m) (hn : As.length = n) (hsize : g.locals.size = nL) (hstack : g.stack = As.reverse ++ .ref b :: rest) (hW : 2 * g.monitorRoom + (rest.map fun v => v.category).sum ≤ 8) (hdg : decode cc g.pc = .ok (.invokeinterface index count, 5)) (hf : cells + mc ≤ R.cells ∧ slots + ms ≤ R.slots) :
    va_Run5 p l e R s m args below meth c H locs cells slots mc ms g rest (Qc (Value.ref b :: As).toArray) (free) := by
  obtain ⟨hx, hb, hml, ho, hts⟩ := S
  have hK : Back l R p e below s args y 5 8 (PreOf R mc ms Pc) (PostOf Qc mc ms free) := back_of (bytes := bytes) (maxL := maxL) (ret := ret) hM hp.1 hrc hrs hR.1 hR.2 (pay_in hts hT) (by rw [hw]; exact List.mem_cons_self) (fun a' U hW => word_at hW (Or.inl (by first | rfl | simp [Cond.onTables, Cond.keeps, Cond.steady])) hini)
  obtain ⟨-, ⟨cellB, hcB, hoB, hclB⟩, hPc⟩ := hp
  obtain ⟨hfc, kB, hkB, -⟩ := hat
  cases hfc.symm.trans hclB
  intro T hT X
  obtain ⟨v, vm₁, ⟨U', l2, c2, s2⟩, hW₁, X', ⟨g', mk, t, L, e1, e2, hq, h1, hL, h2, h3⟩, st⟩ := X.interfaceBackD hx ho hlink hdecl hface hsel hinst hpub hcast ⟨hd.1, hd.2.1⟩ hK hclB hkB (b := b) ⟨cellB, by rw [hT]; exact hcB, rfl, hoB⟩ hg (hsize.trans hml.symm) (Steps.refl _) (argsL := As) (rest := rest) (fun sig h => by have h2 := hd.2.2; rw [h] at h2; exact hn.trans (Option.some.inj h2).symm) hstack hW (by rw [hb]; exact hdg)
    (fun vm₁ hW₁ => ⟨hf.1, hf.2, hPc (T.setVm vm₁) hT hW₁⟩)
  dsimp only [Pt.U, Pt.locs, Pt.cells, Pt.slots] at X' e1 e2 h1 h2 h3 st
  subst h1; subst h2; subst h3
  exact ⟨v, (T.setVm vm₁).calling g' mk (Value.ref b :: As).toArray, t, U', L, hT, X', hL, e1, e2, hq, fun target h => Steps.trans st h⟩
end GXE
theorem gx_nz {r : Int32} (h : r = 0 ∨ r = 1) : narrow .boolean (.int r) = .int r := by
  rcases h with h | h <;> subst h <;> rfl
theorem gx_fz {r : Int32} (h : r = 0 ∨ r = 1) : fits .boolean (.int r) = true := by
  rcases h with h | h <;> subst h <;> rfl
/-- what a call through an interface asks -/
theorem lw_F {own : String} {idx : Nat} {C : String} {x y : MethodName} {b : ByteArray} {L : Nat} {r : Option FieldType} (h1 : Cond.methodLink own idx x ∈ lw_all) (h2 : Cond.selects C x y ∈ lw_all) (h3 : Cond.instanceMethod y ∈ lw_all) (h4 : Cond.initialized y.cls ∈ lw_all) (h5 : Cond.code y b L r ∈ lw_all) : GoodIn lw_all (va_wsF own idx C x y (ws_ y b L r)) := by
  refine lw_app ?_ (lw_meth h5)
  intro w hw
  simp only [List.mem_cons, List.not_mem_nil, or_false] at hw
  rcases hw with e | e | e | e
  · rw [e]; exact h1
  · rw [e]; exact h2
  · rw [e]; exact h3
  · rw [e]; exact h4
