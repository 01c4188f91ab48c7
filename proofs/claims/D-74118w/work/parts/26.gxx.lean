/-! GXX: contracts of methods that return or throw (own work) -/
/-- what a throw asks of Throwable's statics -/
def ZS (A : Nat → Prop) (U : State) (H : Heap) : Prop := vx_Zq Bundle.tN "UNASSIGNED_STACK" Bundle.steD A U H ∧ vx_Zq Bundle.tN "SUPPRESSED_SENTINEL" Bundle.listD A U H
theorem ZS.moved {A : Nat → Prop} {u U : State} {H : Heap} (hv : u.vm.Alike U.vm) (h : ZS A u H) : ZS A U H := ⟨h.1.moved hv, h.2.moved hv⟩
theorem ZS.kept {A : Nat → Prop} {U : State} {H H1 : Heap} (h : ZS A U H) (hq : ∀ a : Nat, a < H.size → ¬ A a → H1[a]? = H[a]?) : ZS A U H1 := ⟨h.1.kept hq, h.2.kept hq⟩
theorem ZS.narrow {A B : Nat → Prop} {U : State} {H : Heap} (h : ZS A U H) (hAB : ∀ q, B q → A q) : ZS B U H := ⟨h.1.narrow hAB, h.2.narrow hAB⟩
def EZ (wc : va_W) (U : State) : Prop := ZS (va_A wc U.heap.size) U U.heap
theorem EZ.same {wc : va_W} {u U : State} (hv : u.vm = U.vm) (hh : u.heap = U.heap) (h : EZ wc u) : EZ wc U := by
  have h1 : ZS (va_A wc u.heap.size) U u.heap := ZS.moved (by rw [hv]; exact Vm.Alike.refl _) h
  unfold EZ
  rw [← hh]
  exact h1
/-- at a call -/
theorem EZ.at {A : Nat → Prop} {s : State} {H : Heap} {locs : List Loc} {wc ws : va_W} (h : ZS A s s.heap) (hS : va_S A s.heap H locs) (hD : va_D A ws) (hA : ∀ q, s.heap.size ≤ q → A q) (isC : List Nat) (hC : isC.map (fun i => ws[i]?) = wc.map some) : ∀ U : State, U.heap = H → s.WarmedH U.vm → EZ wc U := fun U hU hW => by
  unfold EZ
  rw [hU]
  exact ((h.kept (fun a h1 h2 => hS.2.1 a h1 h2)).narrow (va_free hD hS hA isC hC)).moved hW.alike
abbrev gX {S : Type} (G : GE) (wc : va_W) (sz : Nat) (px : Nat → String → S → Prop) (w1 : S → va_W) : Addr → String → State → State → Prop := vx_X (fun _ : S => True) (fun q E u t => px q E u ∧ va_P G.1 vwCl (w1 u) t.heap ∧ va_D (va_A wc sz) (w1 u)) (va_A wc sz)
abbrev CtIT (l : Launch) (y : MethodName) (ws : List Cond) (rm : Room) (G : GE) (av : List Value) (wc : va_W) {S : Type} (post : Int32 → S → Prop) (px : Nat → String → S → Prop) (w1 : S → va_W) : Prop := ∀ sz : Nat, vx_Met l y ws rm (gPcX (EZ wc) G av wc sz) (va_Qi post (gB G wc sz w1) (va_A wc sz)) (gX G wc sz px w1) rm.cells rm.slots (va_A wc sz)
abbrev CtVT (l : Launch) (y : MethodName) (ws : List Cond) (rm : Room) (G : GE) (av : List Value) (wc : va_W) {S : Type} (post : S → Prop) (px : Nat → String → S → Prop) (w1 : S → va_W) : Prop := ∀ sz : Nat, vx_Met l y ws rm (gPcX (EZ wc) G av wc sz) (va_Qv post (gB G wc sz w1) (va_A wc sz)) (gX G wc sz px w1) rm.cells rm.slots (va_A wc sz)
theorem gx_ofT {E : State → Prop} {l : Launch} {y : MethodName} {cc : ByteArray} {maxL : Nat} {ret : Option FieldType} {rm : Room} {G : GE} {av : List Value} {wc : va_W} {Qc : Nat → Array Value → State → Outcome → State → Prop} {XC : Nat → Addr → String → State → State → Prop} (hy : plainName y.cls = true) (hn : (lg_sl av).length ≤ maxL)
    (body : ∀ (p : Program) (e : Env) (s : State) (m : MethodId) (ar : Array Value) (below : List Frame) (meth : Method) (c : Code) (A : Nat → Prop) (ls : Array Slot) (QQ : State → Prop), E s → (∀ x ∈ c.exceptionTable.toList, False) → p.tables.exec = Jvm.exec → c.code = cc → meth.sig.returnType = ret → c.maxLocals = maxL → (∀ w ∈ lw_all, w.before ar s = true) → s.vm.findClass y.cls = some m.cls → meth.locks = false → meth.name = y.name → KK G s → va_A wc s.heap.size = A → QQ = vx_MQ below (Qc s.heap.size) (XC s.heap.size) ar s rm.cells rm.slots (va_A wc s.heap.size) → va_P G.1 vwCl wc s.heap → va_D A wc → (∀ q : Nat, s.heap.size ≤ q → A q) → va_S A s.heap s.heap [] → lv_has ls maxL (lv_args 0 av) →
      W p l e rm s m ar below meth c s.heap [] 0 0 QQ (F0 m 0 ls [])) :
    ∀ sz : Nat, vx_Met l y (ws_ y cc maxL ret) rm (gPcX E G av wc sz) (Qc sz) (XC sz) rm.cells rm.slots (va_A wc sz) := by
  intro sz
  refine vx_ofW (cc := cc) (maxL := maxL) (ret := ret) hy rfl ?_
  intro p e s m args below meth c s₁ B hml htab hv
  obtain ⟨rfl, ⟨hsz, hP, hK, hD0⟩, hE⟩ := hv
  have hts := atoms_spec (ws := ws_ y cc maxL ret) B.pre
  have hts : ∀ w ∈ lw_all, w.before _ s = true := fun w h => hts w (List.mem_cons_of_mem _ h)
  subst hsz
  rw [lg_entry_eq]
  exact body p e s m _ below meth c _ _ _ hE htab B.exec B.bytes B.returns hml hts (findClass_of_methodNamed B.named) B.notSynchronized (name_of_methodNamed B.named B.method).1 hK rfl rfl hP hD0.self (fun q h => Or.inr h) va_S.rf (lv_entry av hn)
section GXT
variable {p : Program} {l : Launch} {e : Env} {R : Room} {s : State} {m : MethodId} {args : Array Value} {below : List Frame} {meth : Method} {c : Code} {H : Heap} {locs : List Loc} {cells slots : Nat} {Q : State → Prop}
variable {pc : Nat} {ls : Array Slot} {rest st0 : List Value} {a : Array Value} {A : Nat → Prop} {H0 : Heap} {mc ms : Nat} {G : GE} {ws wc wr : va_W}
theorem gx_iT {S : Type} {post : Int32 → S → Prop} {px : Nat → String → S → Prop} {w1 : S → va_W} (hr : vx_Run p l e R s m args below meth c H locs cells slots mc ms (F0 m pc ls st0) rest (va_Qi post (gB G wc H.size w1) (va_A wc H.size) a) (gX G wc H.size px w1) (va_A wc H.size)) (hP : va_P G.1 vwCl ws H) (hD : va_D A ws) (hS : va_S A H0 H locs) (hA : ∀ q, H0.size ≤ q → A q) (isC isR : List Nat) (hC : isC.map (fun i => ws[i]?) = wc.map some) (hR : isR.map (fun i => ws[i]?) = wr.map some) (hn : va_nd isR = true) (hdis : ∀ i ∈ isR, i ∉ isC)
    (kx : ∀ (E : String) (ce : Cell) (q9 : Addr) (u : S) (H1 : Heap) (locs1 : List Loc), px q9 E u → va_P G.1 vwCl (wr ++ w1 u) H1 → va_D A (wr ++ w1 u) → va_S A H0 H1 locs1 → H1[q9]? = some ce → ce.vm = .none → s.vm.findClass E = some ce.cls → vx_W p l e R s m args below meth c H1 locs1 (cells + mc) (slots + ms) Q (F0 m pc ls rest) q9)
    (kk : ∀ (r : Int32) (u : S) (H1 : Heap) (locs1 : List Loc), post r u → va_P G.1 vwCl (wr ++ w1 u) H1 → va_D A (wr ++ w1 u) → va_S A H0 H1 locs1 → W p l e R s m args below meth c H1 locs1 (cells + mc) (slots + ms) Q (F0 m (pc + 3) ls (.int r :: rest))) : W p l e R s m args below meth c H locs cells slots Q (F0 m pc ls st0) := by
  have hF := va_free hD hS hA isC hC
  refine vx_calli hr hS (fun q _ h => hF q h) hF (fun q _ h => hF q h) (fun E ce q9 u t H1 locs1 ht hvm _ hB hz hk hS1 h1 h2 h3 => ?_) (fun r u t H1 locs1 ht hvm hw hB hz hk hS1 => ?_)
  · obtain ⟨hx, hP1, hD1⟩ := hB
    rw [ht] at hP1
    obtain ⟨hP2, hD2⟩ := va_join hP hD isC isR hC hR hn hdis hk hF hP1 hD1
    exact kx E ce q9 u H1 locs1 hx hP2 hD2 hS1 h1 h2 h3
  · obtain ⟨hP1, hD1⟩ := hB
    rw [ht] at hP1
    obtain ⟨hP2, hD2⟩ := va_join hP hD isC isR hC hR hn hdis hk hF hP1 hD1
    exact kk r u H1 locs1 hw hP2 hD2 hS1
theorem gx_vT {S : Type} {post : S → Prop} {px : Nat → String → S → Prop} {w1 : S → va_W} (hr : vx_Run p l e R s m args below meth c H locs cells slots mc ms (F0 m pc ls st0) rest (va_Qv post (gB G wc H.size w1) (va_A wc H.size) a) (gX G wc H.size px w1) (va_A wc H.size)) (hP : va_P G.1 vwCl ws H) (hD : va_D A ws) (hS : va_S A H0 H locs) (hA : ∀ q, H0.size ≤ q → A q) (isC isR : List Nat) (hC : isC.map (fun i => ws[i]?) = wc.map some) (hR : isR.map (fun i => ws[i]?) = wr.map some) (hn : va_nd isR = true) (hdis : ∀ i ∈ isR, i ∉ isC)
    (kx : ∀ (E : String) (ce : Cell) (q9 : Addr) (u : S) (H1 : Heap) (locs1 : List Loc), px q9 E u → va_P G.1 vwCl (wr ++ w1 u) H1 → va_D A (wr ++ w1 u) → va_S A H0 H1 locs1 → H1[q9]? = some ce → ce.vm = .none → s.vm.findClass E = some ce.cls → vx_W p l e R s m args below meth c H1 locs1 (cells + mc) (slots + ms) Q (F0 m pc ls rest) q9)
    (kk : ∀ (u : S) (H1 : Heap) (locs1 : List Loc), post u → va_P G.1 vwCl (wr ++ w1 u) H1 → va_D A (wr ++ w1 u) → va_S A H0 H1 locs1 → W p l e R s m args below meth c H1 locs1 (cells + mc) (slots + ms) Q (F0 m (pc + 3) ls rest)) : W p l e R s m args below meth c H locs cells slots Q (F0 m pc ls st0) := by
  have hF := va_free hD hS hA isC hC
  refine vx_callv hr hS (fun q _ h => hF q h) hF (fun q _ h => hF q h) (fun E ce q9 u t H1 locs1 ht hvm _ hB hz hk hS1 h1 h2 h3 => ?_) (fun u t H1 locs1 ht hvm hw hB hz hk hS1 => ?_)
  · obtain ⟨hx, hP1, hD1⟩ := hB
    rw [ht] at hP1
    obtain ⟨hP2, hD2⟩ := va_join hP hD isC isR hC hR hn hdis hk hF hP1 hD1
    exact kx E ce q9 u H1 locs1 hx hP2 hD2 hS1 h1 h2 h3
  · obtain ⟨hP1, hD1⟩ := hB
    rw [ht] at hP1
    obtain ⟨hP2, hD2⟩ := va_join hP hD isC isR hC hR hn hdis hk hF hP1 hD1
    exact kk u H1 locs1 hw hP2 hD2 hS1
/-- what was thrown leaves this method, too -/
theorem gx_outT {S : Type} {px : Nat → String → S → Prop} {w1 : S → va_W} {Qc : Array Value → State → Outcome → State → Prop} {E : String} {ce : Cell} {q9 : Addr} (u : S) (htab : ∀ x ∈ c.exceptionTable.toList, False) (hlocks : meth.locks = false) (hAe : va_A wc s.heap.size = A) (hP : va_P G.1 vwCl (w1 u) H) (hD : va_D A (w1 u)) (hS : va_S A s.heap H locs) (hx : px q9 E u) (h1 : H[q9]? = some ce) (h2 : ce.vm = .none) (h3 : s.vm.findClass E = some ce.cls) (hc : cells ≤ mc) (hs : slots ≤ ms) :
    vx_W p l e R s m args below meth c H locs cells slots (vx_MQ below Qc (gX G wc s.heap.size px w1) args s mc ms (va_A wc s.heap.size)) (F0 m pc ls rest) q9 := by
  subst hAe
  exact vx_out (fun x hx => (htab x hx).elim) hlocks h1 h2 h3 (fun t ht _ => ⟨u, trivial, ⟨hx, by rw [ht]; exact hP, hD⟩, hS.F ht⟩) hS.2.2 hc hs
end GXT
/-- the words of a throw, out of the tables -/
theorem gx_thw {G : GE} {s : State} {args : Array Value} (hts : ∀ w ∈ lw_all, w.before args s = true) (hK : KK G s) {ws : List Cond} (h : ws.all (fun w => decide (w ∈ lw_tbl) && (goodWord w || (gx_knd w && w.onTables))) = true) : ∀ w ∈ ws, w.before args s = true := by
  intro w hw
  have h1 := List.all_eq_true.1 h w hw
  simp only [Bool.and_eq_true, decide_eq_true_eq, Bool.or_eq_true] at h1
  rcases h1.2 with q | q
  · exact hts w (lw_g h1.1 q)
  · exact va_Nw.use q.2 (hK.nw h1.1 q.1)
section GXN
variable {p : Program} {l : Launch} {e : Env} {R : Room} {s : State} {m : MethodId} {args : Array Value} {below : List Frame} {meth : Method} {c : Code} {H : Heap} {locs : List Loc} {cells slots : Nat}
variable {pc : Nat} {ls : Array Slot} {rest : List Value} {A : Nat → Prop} {mc ms : Nat} {G : GE} {wc : va_W} {cc : ByteArray}
/-- 'new X(); athrow' -/
theorem gx_throw {S : Type} {px : Nat → String → S → Prop} {w1 : S → va_W} {Qc : Array Value → State → Outcome → State → Prop} (u : S) (hl : l.stackTraces = false) (hx : p.tables.exec = Jvm.exec) (hb : c.code = cc) {own cls : String} {names : List String} {ik ic : Nat} (hown : s.vm.findClass own = some m.cls) (hcls : Bundle.fit cls = true) (hnames : ∀ n ∈ names, Bundle.fit n = true)
    (hts : ∀ w ∈ lw_all, w.before args s = true) (hK : KK G s) (hk : Cond.classLink own ik cls ∈ lw_all) (hini : Cond.initialized cls ∈ lw_all) (hat : (vx_at0 own ic cls names).all (fun w => decide (w ∈ lw_tbl) && (goodWord w || (gx_knd w && w.onTables))) = true)
    (hgood : ∀ w ∈ Cond.classLink own ik cls :: Cond.initialized cls :: vx_at0 own ic cls names, vx_ot w = true) (hZ : ZS A s s.heap) (htab : ∀ x ∈ c.exceptionTable.toList, False) (hlocks : meth.locks = false) (hAe : va_A wc s.heap.size = A) (hP : va_P G.1 vwCl (w1 u) H) (hD : va_D A (w1 u)) (hS : va_S A s.heap H locs) (hsize : ls.size = c.maxLocals)
    (d0 : decode cc pc = .ok (.new ik, 3)) (d3 : decode cc (pc + 3) = .ok (.dup, 1)) (d4 : decode cc (pc + 4) = .ok (.invokespecial ic, 3)) (d7 : decode cc (pc + 7) = .ok (.athrow, 1))
    (hRframes : names.length + 3 < R.frames) (hRlocals : (rest.map fun v => v.category).sum + (13 * (names.length + 1) + 42) ≤ R.locals) (hRcells : cells + 1 ≤ R.cells) (hRslots : slots + 6 ≤ R.slots) (hc : cells + 1 ≤ mc) (hs : slots + 6 ≤ ms) (hpx : ∀ q : Nat, px q cls u) :
    W p l e R s m args below meth c H locs cells slots (vx_MQ below Qc (gX G wc s.heap.size px w1) args s mc ms (va_A wc s.heap.size)) (F0 m pc ls rest) := by
  subst hAe
  refine vx_throw0 hx hb hl hown hcls hnames (hts _ hk) (hts _ hini) (gx_thw hts hK hat) hgood hZ.1 hZ.2 hS hsize d0 d3 d4 d7 (fun x hx => (htab x hx).elim) hRframes hRlocals hRcells hRslots hlocks (fun t hal hz hkk q9 => ⟨u, trivial, ⟨hpx q9, hP.kept (fun j w hw => hkk _ ((hP j w hw).lt)), hD⟩, ⟨Nat.le_trans hS.1 hz, fun q h1 h2 => by rw [hkk q (Nat.lt_of_lt_of_le h1 hS.1)]; exact hS.2.1 q h1 h2⟩⟩) hS.2.2 hc hs
end GXN
theorem gx_preSX {E : State → Prop} (hB : ∀ u U : State, u.vm = U.vm → u.heap = U.heap → E u → E U) {s : State} {G : GE} {av : List Value} {wc : va_W} {H : Heap} (hK : KK G s) (hP : va_P G.1 vwCl wc H) {A : Nat → Prop} (hD : va_D A wc) (hE : ∀ U : State, U.heap = H → s.WarmedH U.vm → E U) : PreS s H (gPcX E G av wc H.size) av :=
  ⟨gx_blindX hB, fun U hU hW => ⟨rfl, ⟨by rw [hU], by rw [hU]; exact hP, KK.warm hW hK, hD.weaken (fun _ _ _ _ => trivial)⟩, hE U hU hW⟩⟩
