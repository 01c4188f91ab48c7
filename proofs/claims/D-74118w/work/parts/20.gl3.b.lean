set_option linter.all false
/-! gl3: the walks (printed by gen.py) -/
abbrev RX9_init : Room := ({ frames := 1, cells := 0, slots := 0, locals := 12 } : Room)
set_option maxHeartbeats 4000000 in
set_option maxRecDepth 100000 in
theorem wk_X9_init (lL : Launch) (G : GE) (p q : Nat)  (Q : Prop) (h : wp_X9_init  Q) : CtV lL yX9_init (ws_ yX9_init cX9_init 2 none) RX9_init G [.ref p, .ref q] [(p, .inr (5, [.null]))] (fun (uu_ : Unit) => Q ) (fun (uu_ : Unit) => [(p, .inr (5, [.ref q]))]) := by
  refine gx_of (cc := cX9_init) (maxL := 2) (ret := none) (by decide) (Nat.le_of_ble_eq_true rfl) ?_
  intro pp eE sS mM ar below meth cC AA ls QQ hx hb hr hml hts hown hlocks hnm hK hAe hQQ hP hD hA hS hl
  have hl : lv_has ls 2 [(0, .ref p), (1, .ref q)] := hl
  refine lv_aload_n hx hb dX9_init_0 rfl (lv_at hl 0 rfl) ?_
  refine W.objInit hx hb hown (hts _ q862) (hts _ q199) (hts _ q200) rfl (by rw [hml]; exact hl.1) rfl dX9_init_1 (Nat.le_of_ble_eq_true rfl) (Nat.le_of_ble_eq_true rfl) ?_
  refine W.eq (g2 := F0 mM 4 ls []) rfl ?_
  refine lv_aload_n hx hb dX9_init_4 rfl (lv_at hl 0 rfl) ?_
  refine lv_aload_n hx hb dX9_init_5 rfl (lv_at hl 1 rfl) ?_
  refine va_putF (D := G.1) (ci := 5) (v := .ref q) (ty := (.object "GateLifter$Flow")) (C := RX9) (T := TX9) (N := 1) hx hb hts in_X9 tyX9 tyX9_ok nmX9 hown hK.1 hP hD hS 0 rfl rfl 0 (by decide) (hts _ q863) (fun _ h9 => h9) rfl hnm rfl (by decide +kernel) rfl rfl (Nat.le_of_ble_eq_true rfl) dX9_init_6 (fun H locs hP hD hS => ?_)
  have hP : va_P G.1 vwCl [(p, .inr (5, [.ref q]))] H := hP
  have hD : va_D AA [(p, .inr (5, [.ref q]))] := hD
  subst hQQ; exact gx_vret () hx hb hr hlocks hAe hP hD hS (Nat.le_of_ble_eq_true rfl) (Nat.le_of_ble_eq_true rfl) h dX9_init_9
theorem ct_X9_init (lL : Launch) (G : GE) (p q : Nat)  : CtV lL yX9_init (ws_ yX9_init cX9_init 2 none) RX9_init G [.ref p, .ref q] [(p, .inr (5, [.null]))] (fun (uu_ : Unit) => ps_X9_init ) (fun (uu_ : Unit) => [(p, .inr (5, [.ref q]))]) :=
  wk_X9_init lL G p q  _ (pf_X9_init )
abbrev RX8_turned : Room := ({ frames := 2, cells := 1, slots := 1, locals := 33 } : Room)
set_option maxHeartbeats 4000000 in
set_option maxRecDepth 100000 in
theorem wk_X8_turned (lL : Launch) (G : GE) (q : Nat)  (Q : Prop) (h : wp_X8_turned  Q) : CtR lL yX8_turned (ws_ yX8_turned cX8_turned 1 (some (.object "GateLifter$Flow"))) RX8_turned G [.ref q] [] (fun _ => True) (fun (uu_ : Unit) => Q ) (fun (uu_ : Unit) (ra : Nat) => [(ra, .inr (5, [.ref q]))]) := by
  refine gx_of (cc := cX8_turned) (maxL := 1) (ret := (some (.object "GateLifter$Flow"))) (by decide) (Nat.le_of_ble_eq_true rfl) ?_
  intro pp eE sS mM ar below meth cC AA ls QQ hx hb hr hml hts hown hlocks hnm hK hAe hQQ hP hD hA hS hl
  have hl : lv_has ls 1 [(0, .ref q)] := hl
  refine va_new (D := G.1) (ci := 5) (fs := [.null]) (C := RX9) (T := TX9) (N := 1) hx hb hts in_X9 tyX9 tyX9_ok hown (hts _ q857) (hts _ q858) (hts _ q192) hK.1 hP hD hS hA rfl (fun j hj => by revert j; decide) (Nat.le_of_ble_eq_true rfl) (Nat.le_of_ble_eq_true rfl) dX8_turned_0 (fun q_1 H hP hD hS => ?_)
  have hP : va_P G.1 vwCl [(q_1, .inr (5, [.null]))] H := hP
  have hD : va_D AA [(q_1, .inr (5, [.null]))] := hD
  refine lv_dup hx hb dX8_turned_3 rfl ?_
  refine lv_aload_n hx hb dX8_turned_4 rfl (lv_at hl 0 rfl) ?_
  have hPc := hP.sub (ws' := [(q_1, .inr (5, [.null]))]) [0] rfl
  have hDc := hD.sub (ws' := [(q_1, .inr (5, [.null]))]) [0] (by decide) rfl
  refine gx_v (G := G) (wc := [(q_1, .inr (5, [.null]))]) (wr := []) (va_runI (As := [.ref q]) (rest := [.ref q_1]) ⟨hx, hb, hml, hown, hts⟩ (ct_X9_init lL G q_1 q _) (cwI 1 hts (lw_meth q861) rfl rfl rfl (hts _ q192) (hts _ q859) (hts _ q860) rfl (by decide +kernel) ⟨Nat.le_of_ble_eq_true rfl, Nat.le_of_ble_eq_true rfl⟩) (gx_preS hK hPc hDc) rfl rfl hl.1 rfl (lv_room (Nat.le_of_ble_eq_true rfl)) dX8_turned_5 ⟨Nat.le_of_ble_eq_true rfl, Nat.le_of_ble_eq_true rfl⟩) hP hD hS hA [0] [] rfl rfl (by decide) (by decide) (fun u_2 H locs hw_2 hP hD hS => ?_)
  have hP : va_P G.1 vwCl [(q_1, .inr (5, [.ref q]))] H := hP
  have hD : va_D AA [(q_1, .inr (5, [.ref q]))] := hD
  replace h := h hw_2
  subst hQQ; exact gx_aret () hx hb hr hlocks hAe hP hD hS (Nat.le_of_ble_eq_true rfl) (Nat.le_of_ble_eq_true rfl) trivial h dX8_turned_8
theorem ct_X8_turned (lL : Launch) (G : GE) (q : Nat)  : CtR lL yX8_turned (ws_ yX8_turned cX8_turned 1 (some (.object "GateLifter$Flow"))) RX8_turned G [.ref q] [] (fun _ => True) (fun (uu_ : Unit) => ps_X8_turned ) (fun (uu_ : Unit) (ra : Nat) => [(ra, .inr (5, [.ref q]))]) :=
  wk_X8_turned lL G q  _ (pf_X8_turned )
abbrev RX9_nodes : Room := ({ frames := 2, cells := 0, slots := 0, locals := 32 } : Room)
set_option maxHeartbeats 4000000 in
set_option maxRecDepth 100000 in
theorem wk_X9_nodes (lL : Launch) (G : GE) (p q qf qt qw qc qo : Nat) (f t w c o : Nat → Int32) (nd rt ex mn : Int32) (Q : Int32 → Prop) (h : wp_X9_nodes f t w c o nd rt ex mn Q) : CtI lL yX9_nodes (ws_ yX9_nodes cX9_nodes 1 (some .int)) RX9_nodes G [.ref p] [(p, .inr (5, [.ref q])), (q, .inr (0, [.ref qf, .ref qt, .ref qw, .ref qc, .ref qo, .int nd, .int rt, .int ex, .int mn])), (qf, .inl (G.2 0, 60, .inl f)), (qt, .inl (G.2 0, 60, .inl t)), (qw, .inl (G.2 0, 16, .inl w)), (qc, .inl (G.2 0, 16, .inl c)), (qo, .inl (G.2 1, 60, .inl o))] (fun (rr_ : Int32) (uu_ : Unit) => Q rr_ ) (fun (uu_ : Unit) => [(p, .inr (5, [.ref q])), (q, .inr (0, [.ref qf, .ref qt, .ref qw, .ref qc, .ref qo, .int nd, .int rt, .int ex, .int mn])), (qf, .inl (G.2 0, 60, .inl f)), (qt, .inl (G.2 0, 60, .inl t)), (qw, .inl (G.2 0, 16, .inl w)), (qc, .inl (G.2 0, 16, .inl c)), (qo, .inl (G.2 1, 60, .inl o))]) := by
  refine gx_of (cc := cX9_nodes) (maxL := 1) (ret := (some .int)) (by decide) (Nat.le_of_ble_eq_true rfl) ?_
  intro pp eE sS mM ar below meth cC AA ls QQ hx hb hr hml hts hown hlocks hnm hK hAe hQQ hP hD hA hS hl
  have hl : lv_has ls 1 [(0, .ref p)] := hl
  refine lv_aload_n hx hb dX9_nodes_0 rfl (lv_at hl 0 rfl) ?_
  refine va_get (D := G.1) (ci := 5) (v := .ref q) (C := RX9) (T := TX9) (N := 1) hx hb hts in_X9 hown hK.1 hP 0 rfl rfl 0 (by decide) (hts _ q863) (fun _ h9 => h9) rfl dX9_nodes_1 ?_
  have hPc := hP.sub (ws' := [(q, .inr (0, [.ref qf, .ref qt, .ref qw, .ref qc, .ref qo, .int nd, .int rt, .int ex, .int mn])), (qf, .inl (G.2 0, 60, .inl f)), (qt, .inl (G.2 0, 60, .inl t)), (qw, .inl (G.2 0, 16, .inl w)), (qc, .inl (G.2 0, 16, .inl c)), (qo, .inl (G.2 1, 60, .inl o))]) [1, 2, 3, 4, 5, 6] rfl
  have hDc := hD.sub (ws' := [(q, .inr (0, [.ref qf, .ref qt, .ref qw, .ref qc, .ref qo, .int nd, .int rt, .int ex, .int mn])), (qf, .inl (G.2 0, 60, .inl f)), (qt, .inl (G.2 0, 60, .inl t)), (qw, .inl (G.2 0, 16, .inl w)), (qc, .inl (G.2 0, 16, .inl c)), (qo, .inl (G.2 1, 60, .inl o))]) [1, 2, 3, 4, 5, 6] (by decide) rfl
  refine gx_Fi (G := G) (wc := [(q, .inr (0, [.ref qf, .ref qt, .ref qw, .ref qc, .ref qo, .int nd, .int rt, .int ex, .int mn])), (qf, .inl (G.2 0, 60, .inl f)), (qt, .inl (G.2 0, 60, .inl t)), (qw, .inl (G.2 0, 16, .inl w)), (qc, .inl (G.2 0, 16, .inl c)), (qo, .inl (G.2 1, 60, .inl o))]) (wr := [(p, .inr (5, [.ref q]))]) (va_runF (As := []) (rest := []) (hK.1.1 0 _ rfl).2 ⟨hx, hb, hml, hown, hts⟩ (ct_X3_nodes lL G q qf qt qw qc qo f t w c o nd rt ex mn _) (va_cwF 0 hts (lw_F q499 q481 q483 q166 q485) rfl rfl rfl (hK.2.2.1 ("GateLifter$Net", yF_nodes, yX3_nodes) (by decide)) (by decide +kernel) ⟨Nat.le_of_ble_eq_true rfl, Nat.le_of_ble_eq_true rfl⟩) (gx_preV hK hPc hDc 0 0 rfl rfl) rfl rfl hl.1 rfl (lv_room (Nat.le_of_ble_eq_true rfl)) dX9_nodes_4 ⟨Nat.le_of_ble_eq_true rfl, Nat.le_of_ble_eq_true rfl⟩) hP hD hS hA [1, 2, 3, 4, 5, 6] [0] rfl rfl (by decide) (by decide) (fun r_1 u_1 H locs hw_1 hP hD hS => ?_)
  have hP : va_P G.1 vwCl [(p, .inr (5, [.ref q])), (q, .inr (0, [.ref qf, .ref qt, .ref qw, .ref qc, .ref qo, .int nd, .int rt, .int ex, .int mn])), (qf, .inl (G.2 0, 60, .inl f)), (qt, .inl (G.2 0, 60, .inl t)), (qw, .inl (G.2 0, 16, .inl w)), (qc, .inl (G.2 0, 16, .inl c)), (qo, .inl (G.2 1, 60, .inl o))] H := hP
  have hD : va_D AA [(p, .inr (5, [.ref q])), (q, .inr (0, [.ref qf, .ref qt, .ref qw, .ref qc, .ref qo, .int nd, .int rt, .int ex, .int mn])), (qf, .inl (G.2 0, 60, .inl f)), (qt, .inl (G.2 0, 60, .inl t)), (qw, .inl (G.2 0, 16, .inl w)), (qc, .inl (G.2 0, 16, .inl c)), (qo, .inl (G.2 1, 60, .inl o))] := hD
  replace h := h r_1 hw_1
  subst hQQ; exact gx_iret () hx hb hr hlocks hAe hP hD hS (Nat.le_of_ble_eq_true rfl) (Nat.le_of_ble_eq_true rfl) h dX9_nodes_9
theorem ct_X9_nodes (lL : Launch) (G : GE) (p q qf qt qw qc qo : Nat) (f t w c o : Nat → Int32) (nd rt ex mn : Int32) : CtI lL yX9_nodes (ws_ yX9_nodes cX9_nodes 1 (some .int)) RX9_nodes G [.ref p] [(p, .inr (5, [.ref q])), (q, .inr (0, [.ref qf, .ref qt, .ref qw, .ref qc, .ref qo, .int nd, .int rt, .int ex, .int mn])), (qf, .inl (G.2 0, 60, .inl f)), (qt, .inl (G.2 0, 60, .inl t)), (qw, .inl (G.2 0, 16, .inl w)), (qc, .inl (G.2 0, 16, .inl c)), (qo, .inl (G.2 1, 60, .inl o))] (fun (rr_ : Int32) (uu_ : Unit) => ps_X9_nodes f t w c o nd rt ex mn rr_ ) (fun (uu_ : Unit) => [(p, .inr (5, [.ref q])), (q, .inr (0, [.ref qf, .ref qt, .ref qw, .ref qc, .ref qo, .int nd, .int rt, .int ex, .int mn])), (qf, .inl (G.2 0, 60, .inl f)), (qt, .inl (G.2 0, 60, .inl t)), (qw, .inl (G.2 0, 16, .inl w)), (qc, .inl (G.2 0, 16, .inl c)), (qo, .inl (G.2 1, 60, .inl o))]) :=
  wk_X9_nodes lL G p q qf qt qw qc qo f t w c o nd rt ex mn _ (pf_X9_nodes f t w c o nd rt ex mn)
abbrev RX9_next : Room := ({ frames := 2, cells := 0, slots := 0, locals := 33 } : Room)
set_option maxHeartbeats 4000000 in
set_option maxRecDepth 100000 in
theorem wk_X9_next (lL : Launch) (G : GE) (p q qf qt qw qc qo : Nat) (f t w c o : Nat → Int32) (nd rt ex mn k : Int32) (Q : Int32 → Prop) (h : wp_X9_next f t w c o nd rt ex mn k Q) : CtI lL yX9_next (ws_ yX9_next cX9_next 4 (some .int)) RX9_next G [.ref p, .int k] [(p, .inr (5, [.ref q])), (q, .inr (0, [.ref qf, .ref qt, .ref qw, .ref qc, .ref qo, .int nd, .int rt, .int ex, .int mn])), (qf, .inl (G.2 0, 60, .inl f)), (qt, .inl (G.2 0, 60, .inl t)), (qw, .inl (G.2 0, 16, .inl w)), (qc, .inl (G.2 0, 16, .inl c)), (qo, .inl (G.2 1, 60, .inl o))] (fun (rr_ : Int32) (uu_ : Unit) => Q rr_ ) (fun (uu_ : Unit) => [(p, .inr (5, [.ref q])), (q, .inr (0, [.ref qf, .ref qt, .ref qw, .ref qc, .ref qo, .int nd, .int rt, .int ex, .int mn])), (qf, .inl (G.2 0, 60, .inl f)), (qt, .inl (G.2 0, 60, .inl t)), (qw, .inl (G.2 0, 16, .inl w)), (qc, .inl (G.2 0, 16, .inl c)), (qo, .inl (G.2 1, 60, .inl o))]) := by
  refine gx_of (cc := cX9_next) (maxL := 4) (ret := (some .int)) (by decide) (Nat.le_of_ble_eq_true rfl) ?_
  intro pp eE sS mM ar below meth cC AA ls QQ hx hb hr hml hts hown hlocks hnm hK hAe hQQ hP hD hA hS hl
  have hl : lv_has ls 4 [(0, .ref p), (1, .int k)] := hl
  refine lv_iconst (v := 0) hx hb dX9_next_0 (by decide) ?_
  refine lv_istore_n (lv' := [(2, .int 0), (0, .ref p), (1, .int k)]) hx hb dX9_next_1 rfl hl (by decide) rfl (fun ls hl => ?_)
  refine lv_iconst (v := 0) hx hb dX9_next_2 (by decide) ?_
  refine lv_istore_n (lv' := [(3, .int 0), (2, .int 0), (0, .ref p), (1, .int k)]) hx hb dX9_next_3 rfl hl (by decide) rfl (fun ls hl => ?_)
  replace h := h (fun (x2_23 : Int32) => ∀ (H : Heap) (locs : List Loc) (ls : Array Slot), va_P G.1 vwCl [(p, .inr (5, [.ref q])), (q, .inr (0, [.ref qf, .ref qt, .ref qw, .ref qc, .ref qo, .int nd, .int rt, .int ex, .int mn])), (qf, .inl (G.2 0, 60, .inl f)), (qt, .inl (G.2 0, 60, .inl t)), (qw, .inl (G.2 0, 16, .inl w)), (qc, .inl (G.2 0, 16, .inl c)), (qo, .inl (G.2 1, 60, .inl o))] H → va_D AA [(p, .inr (5, [.ref q])), (q, .inr (0, [.ref qf, .ref qt, .ref qw, .ref qc, .ref qo, .int nd, .int rt, .int ex, .int mn])), (qf, .inl (G.2 0, 60, .inl f)), (qt, .inl (G.2 0, 60, .inl t)), (qw, .inl (G.2 0, 16, .inl w)), (qc, .inl (G.2 0, 16, .inl c)), (qo, .inl (G.2 1, 60, .inl o))] → va_S AA sS.heap H locs → lv_has ls 4 [(2, .int x2_23)] → W pp lL eE RX9_next sS mM ar below meth cC H locs 0 0 QQ (F0 mM 50 ls [])) (by
      clear h
      intro x2_23 h H locs ls hP hD hS hl
      refine lv_iload_n hx hb dX9_next_50 rfl (lv_at hl 0 rfl) ?_
      subst hQQ; exact gx_iret () hx hb hr hlocks hAe hP hD hS (Nat.le_of_ble_eq_true rfl) (Nat.le_of_ble_eq_true rfl) h dX9_next_51)
  refine h (fun (x3_25 : Int32) (x2_26 : Int32) => ∀ (H : Heap) (locs : List Loc) (ls : Array Slot), va_P G.1 vwCl [(p, .inr (5, [.ref q])), (q, .inr (0, [.ref qf, .ref qt, .ref qw, .ref qc, .ref qo, .int nd, .int rt, .int ex, .int mn])), (qf, .inl (G.2 0, 60, .inl f)), (qt, .inl (G.2 0, 60, .inl t)), (qw, .inl (G.2 0, 16, .inl w)), (qc, .inl (G.2 0, 16, .inl c)), (qo, .inl (G.2 1, 60, .inl o))] H → va_D AA [(p, .inr (5, [.ref q])), (q, .inr (0, [.ref qf, .ref qt, .ref qw, .ref qc, .ref qo, .int nd, .int rt, .int ex, .int mn])), (qf, .inl (G.2 0, 60, .inl f)), (qt, .inl (G.2 0, 60, .inl t)), (qw, .inl (G.2 0, 16, .inl w)), (qc, .inl (G.2 0, 16, .inl c)), (qo, .inl (G.2 1, 60, .inl o))] → va_S AA sS.heap H locs → lv_has ls 4 [(3, .int x3_25), (2, .int x2_26), (0, .ref p), (1, .int k)] → W pp lL eE RX9_next sS mM ar below meth cC H locs 0 0 QQ (F0 mM 4 ls [])) ?_  _ _ _ hP hD hS hl
  clear h
  intro x3_25 x2_26 h H locs ls hP hD hS hl
  refine lv_iload_n hx hb dX9_next_4 rfl (lv_at hl 0 rfl) ?_
  refine lv_aload_n hx hb dX9_next_5 rfl (lv_at hl 2 rfl) ?_
  refine va_get (D := G.1) (ci := 5) (v := .ref q) (C := RX9) (T := TX9) (N := 1) hx hb hts in_X9 hown hK.1 hP 0 rfl rfl 0 (by decide) (hts _ q863) (fun _ h9 => h9) rfl dX9_next_6 ?_
  have hPc := hP.sub (ws' := [(q, .inr (0, [.ref qf, .ref qt, .ref qw, .ref qc, .ref qo, .int nd, .int rt, .int ex, .int mn])), (qf, .inl (G.2 0, 60, .inl f)), (qt, .inl (G.2 0, 60, .inl t)), (qw, .inl (G.2 0, 16, .inl w)), (qc, .inl (G.2 0, 16, .inl c)), (qo, .inl (G.2 1, 60, .inl o))]) [1, 2, 3, 4, 5, 6] rfl
  have hDc := hD.sub (ws' := [(q, .inr (0, [.ref qf, .ref qt, .ref qw, .ref qc, .ref qo, .int nd, .int rt, .int ex, .int mn])), (qf, .inl (G.2 0, 60, .inl f)), (qt, .inl (G.2 0, 60, .inl t)), (qw, .inl (G.2 0, 16, .inl w)), (qc, .inl (G.2 0, 16, .inl c)), (qo, .inl (G.2 1, 60, .inl o))]) [1, 2, 3, 4, 5, 6] (by decide) rfl
  refine gx_Fi (G := G) (wc := [(q, .inr (0, [.ref qf, .ref qt, .ref qw, .ref qc, .ref qo, .int nd, .int rt, .int ex, .int mn])), (qf, .inl (G.2 0, 60, .inl f)), (qt, .inl (G.2 0, 60, .inl t)), (qw, .inl (G.2 0, 16, .inl w)), (qc, .inl (G.2 0, 16, .inl c)), (qo, .inl (G.2 1, 60, .inl o))]) (wr := [(p, .inr (5, [.ref q]))]) (va_runF (As := []) (rest := [.int x3_25]) (hK.1.1 0 _ rfl).2 ⟨hx, hb, hml, hown, hts⟩ (ct_X3_nodes lL G q qf qt qw qc qo f t w c o nd rt ex mn _) (va_cwF 0 hts (lw_F q499 q481 q483 q166 q485) rfl rfl rfl (hK.2.2.1 ("GateLifter$Net", yF_nodes, yX3_nodes) (by decide)) (by decide +kernel) ⟨Nat.le_of_ble_eq_true rfl, Nat.le_of_ble_eq_true rfl⟩) (gx_preV hK hPc hDc 0 0 rfl rfl) rfl rfl hl.1 rfl (lv_room (Nat.le_of_ble_eq_true rfl)) dX9_next_9 ⟨Nat.le_of_ble_eq_true rfl, Nat.le_of_ble_eq_true rfl⟩) hP hD hS hA [1, 2, 3, 4, 5, 6] [0] rfl rfl (by decide) (by decide) (fun r_28 u_28 H locs hw_28 hP hD hS => ?_)
  have hP : va_P G.1 vwCl [(p, .inr (5, [.ref q])), (q, .inr (0, [.ref qf, .ref qt, .ref qw, .ref qc, .ref qo, .int nd, .int rt, .int ex, .int mn])), (qf, .inl (G.2 0, 60, .inl f)), (qt, .inl (G.2 0, 60, .inl t)), (qw, .inl (G.2 0, 16, .inl w)), (qc, .inl (G.2 0, 16, .inl c)), (qo, .inl (G.2 1, 60, .inl o))] H := hP
  have hD : va_D AA [(p, .inr (5, [.ref q])), (q, .inr (0, [.ref qf, .ref qt, .ref qw, .ref qc, .ref qo, .int nd, .int rt, .int ex, .int mn])), (qf, .inl (G.2 0, 60, .inl f)), (qt, .inl (G.2 0, 60, .inl t)), (qw, .inl (G.2 0, 16, .inl w)), (qc, .inl (G.2 0, 16, .inl c)), (qo, .inl (G.2 1, 60, .inl o))] := hD
  replace h := h r_28 hw_28
  refine lv_icmp_ge (tgt := 50) hx hb dX9_next_14 (by decide) (fun c_29 => ?_) (fun c_29 => ?_)
  · replace h := h.1 c_29
    exact h _ _ _ hP hD hS (lv_sub hl [1] rfl)
  · replace h := h.2 c_29
    refine lv_iload_n hx hb dX9_next_17 rfl (lv_at hl 1 rfl) ?_
    refine lv_aload_n hx hb dX9_next_18 rfl (lv_at hl 2 rfl) ?_
    refine va_get (D := G.1) (ci := 5) (v := .ref q) (C := RX9) (T := TX9) (N := 1) hx hb hts in_X9 hown hK.1 hP 0 rfl rfl 0 (by decide) (hts _ q863) (fun _ h9 => h9) rfl dX9_next_19 ?_
    refine lv_iload_n hx hb dX9_next_22 rfl (lv_at hl 0 rfl) ?_
    have hPc := hP.sub (ws' := [(q, .inr (0, [.ref qf, .ref qt, .ref qw, .ref qc, .ref qo, .int nd, .int rt, .int ex, .int mn])), (qf, .inl (G.2 0, 60, .inl f)), (qt, .inl (G.2 0, 60, .inl t)), (qw, .inl (G.2 0, 16, .inl w)), (qc, .inl (G.2 0, 16, .inl c)), (qo, .inl (G.2 1, 60, .inl o))]) [1, 2, 3, 4, 5, 6] rfl
    have hDc := hD.sub (ws' := [(q, .inr (0, [.ref qf, .ref qt, .ref qw, .ref qc, .ref qo, .int nd, .int rt, .int ex, .int mn])), (qf, .inl (G.2 0, 60, .inl f)), (qt, .inl (G.2 0, 60, .inl t)), (qw, .inl (G.2 0, 16, .inl w)), (qc, .inl (G.2 0, 16, .inl c)), (qo, .inl (G.2 1, 60, .inl o))]) [1, 2, 3, 4, 5, 6] (by decide) rfl
    refine gx_Fi (G := G) (wc := [(q, .inr (0, [.ref qf, .ref qt, .ref qw, .ref qc, .ref qo, .int nd, .int rt, .int ex, .int mn])), (qf, .inl (G.2 0, 60, .inl f)), (qt, .inl (G.2 0, 60, .inl t)), (qw, .inl (G.2 0, 16, .inl w)), (qc, .inl (G.2 0, 16, .inl c)), (qo, .inl (G.2 1, 60, .inl o))]) (wr := [(p, .inr (5, [.ref q]))]) (va_runF (As := [.int x3_25]) (rest := [.int x2_26]) (hK.1.1 0 _ rfl).2 ⟨hx, hb, hml, hown, hts⟩ (ct_X3_next lL G q qf qt qw qc qo f t w c o nd rt ex mn x3_25 h.1 _) (va_cwF 1 hts (lw_F q523 q507 q509 q166 q511) rfl rfl rfl (hK.2.2.1 ("GateLifter$Net", yF_next, yX3_next) (by decide)) (by decide +kernel) ⟨Nat.le_of_ble_eq_true rfl, Nat.le_of_ble_eq_true rfl⟩) (gx_preV hK hPc hDc 0 0 rfl rfl) rfl rfl hl.1 rfl (lv_room (Nat.le_of_ble_eq_true rfl)) dX9_next_23 ⟨Nat.le_of_ble_eq_true rfl, Nat.le_of_ble_eq_true rfl⟩) hP hD hS hA [1, 2, 3, 4, 5, 6] [0] rfl rfl (by decide) (by decide) (fun r_30 u_30 H locs hw_30 hP hD hS => ?_)
    replace h := h.2
    have hP : va_P G.1 vwCl [(p, .inr (5, [.ref q])), (q, .inr (0, [.ref qf, .ref qt, .ref qw, .ref qc, .ref qo, .int nd, .int rt, .int ex, .int mn])), (qf, .inl (G.2 0, 60, .inl f)), (qt, .inl (G.2 0, 60, .inl t)), (qw, .inl (G.2 0, 16, .inl w)), (qc, .inl (G.2 0, 16, .inl c)), (qo, .inl (G.2 1, 60, .inl o))] H := hP
    have hD : va_D AA [(p, .inr (5, [.ref q])), (q, .inr (0, [.ref qf, .ref qt, .ref qw, .ref qc, .ref qo, .int nd, .int rt, .int ex, .int mn])), (qf, .inl (G.2 0, 60, .inl f)), (qt, .inl (G.2 0, 60, .inl t)), (qw, .inl (G.2 0, 16, .inl w)), (qc, .inl (G.2 0, 16, .inl c)), (qo, .inl (G.2 1, 60, .inl o))] := hD
    replace h := h r_30 hw_30
    refine lv_iload_n hx hb dX9_next_28 rfl (lv_at hl 3 rfl) ?_
    have hPc := hP.sub (ws' := []) [] rfl
    have hDc := hD.sub (ws' := []) [] (by decide) rfl
    refine gx_i (G := G) (wc := []) (wr := [(p, .inr (5, [.ref q])), (q, .inr (0, [.ref qf, .ref qt, .ref qw, .ref qc, .ref qo, .int nd, .int rt, .int ex, .int mn])), (qf, .inl (G.2 0, 60, .inl f)), (qt, .inl (G.2 0, 60, .inl t)), (qw, .inl (G.2 0, 16, .inl w)), (qc, .inl (G.2 0, 16, .inl c)), (qo, .inl (G.2 1, 60, .inl o))]) (va_runSN (As := [.int r_30, .int k]) (rest := [.int x2_26]) ⟨hx, hb, hml, hown, hts⟩ (ct_X1_has lL G r_30 k _) ⟨va_cnB 2 hts (lw_meth q502) rfl rfl rfl (hK.nw q524 rfl) (hts _ q164) (by decide +kernel) ⟨Nat.le_of_ble_eq_true rfl, Nat.le_of_ble_eq_true rfl⟩, hts _ q501, trivial⟩ (gx_preS hK hPc hDc) rfl rfl hl.1 rfl (lv_room (Nat.le_of_ble_eq_true rfl)) dX9_next_29 ⟨Nat.le_of_ble_eq_true rfl, Nat.le_of_ble_eq_true rfl⟩) hP hD hS hA [] [0, 1, 2, 3, 4, 5, 6] rfl rfl (by decide) (by decide) (fun r_31 u_31 H locs hw_31 hP hD hS => ?_)
    have hP : va_P G.1 vwCl [(p, .inr (5, [.ref q])), (q, .inr (0, [.ref qf, .ref qt, .ref qw, .ref qc, .ref qo, .int nd, .int rt, .int ex, .int mn])), (qf, .inl (G.2 0, 60, .inl f)), (qt, .inl (G.2 0, 60, .inl t)), (qw, .inl (G.2 0, 16, .inl w)), (qc, .inl (G.2 0, 16, .inl c)), (qo, .inl (G.2 1, 60, .inl o))] H := hP
    have hD : va_D AA [(p, .inr (5, [.ref q])), (q, .inr (0, [.ref qf, .ref qt, .ref qw, .ref qc, .ref qo, .int nd, .int rt, .int ex, .int mn])), (qf, .inl (G.2 0, 60, .inl f)), (qt, .inl (G.2 0, 60, .inl t)), (qw, .inl (G.2 0, 16, .inl w)), (qc, .inl (G.2 0, 16, .inl c)), (qo, .inl (G.2 1, 60, .inl o))] := hD
    replace h := h r_31 hw_31
    refine lv_if_eq (tgt := 41) hx hb dX9_next_32 (by decide) (fun c_32 => ?_) (fun c_32 => ?_)
    · replace h := h.1 c_32
      refine lv_iconst (v := 0) hx hb dX9_next_41 (by decide) ?_
      refine lv_ior hx hb dX9_next_42 ?_
      refine lv_istore_n (lv' := [(2, .int (x2_26 ||| 0)), (3, .int x3_25), (0, .ref p), (1, .int k)]) hx hb dX9_next_43 rfl hl (by decide) rfl (fun ls hl => ?_)
      refine lv_iinc (v := x3_25 + 1) (lv' := [(3, .int (x3_25 + 1)), (2, .int (x2_26 ||| 0)), (0, .ref p), (1, .int k)]) hx hb dX9_next_44 hl (k := 1) rfl rfl (by decide) rfl (fun ls hl => ?_)
      refine lv_goto (tgt := 4) hx hb dX9_next_47 (by decide) ?_
      exact h _ _ _ hP hD hS hl
    · replace h := h.2 c_32
      refine lv_iconst (v := 1) hx hb dX9_next_35 (by decide) ?_
      refine lv_iload_n hx hb dX9_next_36 rfl (lv_at hl 0 rfl) ?_
      refine lv_ishl hx hb dX9_next_37 ?_
      refine lv_goto (tgt := 42) hx hb dX9_next_38 (by decide) ?_
      refine lv_ior hx hb dX9_next_42 ?_
      refine lv_istore_n (lv' := [(2, .int (x2_26 ||| (1 <<< (x3_25 &&& 31)))), (3, .int x3_25), (0, .ref p), (1, .int k)]) hx hb dX9_next_43 rfl hl (by decide) rfl (fun ls hl => ?_)
      refine lv_iinc (v := x3_25 + 1) (lv' := [(3, .int (x3_25 + 1)), (2, .int (x2_26 ||| (1 <<< (x3_25 &&& 31)))), (0, .ref p), (1, .int k)]) hx hb dX9_next_44 hl (k := 1) rfl rfl (by decide) rfl (fun ls hl => ?_)
      refine lv_goto (tgt := 4) hx hb dX9_next_47 (by decide) ?_
      exact h _ _ _ hP hD hS hl
theorem ct_X9_next (lL : Launch) (G : GE) (p q qf qt qw qc qo : Nat) (f t w c o : Nat → Int32) (nd rt ex mn k : Int32) (hp : pr_X9_next f t w c o nd rt ex mn k) : CtI lL yX9_next (ws_ yX9_next cX9_next 4 (some .int)) RX9_next G [.ref p, .int k] [(p, .inr (5, [.ref q])), (q, .inr (0, [.ref qf, .ref qt, .ref qw, .ref qc, .ref qo, .int nd, .int rt, .int ex, .int mn])), (qf, .inl (G.2 0, 60, .inl f)), (qt, .inl (G.2 0, 60, .inl t)), (qw, .inl (G.2 0, 16, .inl w)), (qc, .inl (G.2 0, 16, .inl c)), (qo, .inl (G.2 1, 60, .inl o))] (fun (rr_ : Int32) (uu_ : Unit) => ps_X9_next f t w c o nd rt ex mn k rr_ ) (fun (uu_ : Unit) => [(p, .inr (5, [.ref q])), (q, .inr (0, [.ref qf, .ref qt, .ref qw, .ref qc, .ref qo, .int nd, .int rt, .int ex, .int mn])), (qf, .inl (G.2 0, 60, .inl f)), (qt, .inl (G.2 0, 60, .inl t)), (qw, .inl (G.2 0, 16, .inl w)), (qc, .inl (G.2 0, 16, .inl c)), (qo, .inl (G.2 1, 60, .inl o))]) :=
  wk_X9_next lL G p q qf qt qw qc qo f t w c o nd rt ex mn k _ (pf_X9_next f t w c o nd rt ex mn k hp)
abbrev RX8_reach_U : Room := ({ frames := 3, cells := 0, slots := 0, locals := 56 } : Room)
set_option maxHeartbeats 4000000 in
set_option maxRecDepth 100000 in
theorem wk_X8_reach_U (lL : Launch) (G : GE) (p q qf qt qw qc qo : Nat) (f t w c o : Nat → Int32) (nd rt ex mn fr bu : Int32) (Q : Int32 → Prop) (h : wp_X8_reach_U f t w c o nd rt ex mn fr bu Q) : CtI lL yX8_reach (ws_ yX8_reach cX8_reach 6 (some .int)) RX8_reach_U G [.ref p, .int fr, .int bu] [(p, .inr (5, [.ref q])), (q, .inr (0, [.ref qf, .ref qt, .ref qw, .ref qc, .ref qo, .int nd, .int rt, .int ex, .int mn])), (qf, .inl (G.2 0, 60, .inl f)), (qt, .inl (G.2 0, 60, .inl t)), (qw, .inl (G.2 0, 16, .inl w)), (qc, .inl (G.2 0, 16, .inl c)), (qo, .inl (G.2 1, 60, .inl o))] (fun (rr_ : Int32) (uu_ : Unit) => Q rr_ ) (fun (uu_ : Unit) => [(p, .inr (5, [.ref q])), (q, .inr (0, [.ref qf, .ref qt, .ref qw, .ref qc, .ref qo, .int nd, .int rt, .int ex, .int mn])), (qf, .inl (G.2 0, 60, .inl f)), (qt, .inl (G.2 0, 60, .inl t)), (qw, .inl (G.2 0, 16, .inl w)), (qc, .inl (G.2 0, 16, .inl c)), (qo, .inl (G.2 1, 60, .inl o))]) := by
  refine gx_of (cc := cX8_reach) (maxL := 6) (ret := (some .int)) (by decide) (Nat.le_of_ble_eq_true rfl) ?_
  intro pp eE sS mM ar below meth cC AA ls QQ hx hb hr hml hts hown hlocks hnm hK hAe hQQ hP hD hA hS hl
  have hl : lv_has ls 6 [(0, .ref p), (1, .int fr), (2, .int bu)] := hl
  refine lv_iconst (v := 1) hx hb dX8_reach_0 (by decide) ?_
  refine lv_iload_n hx hb dX8_reach_1 rfl (lv_at hl 1 rfl) ?_
  refine lv_ishl hx hb dX8_reach_2 ?_
  refine lv_istore_n (lv' := [(3, .int (1 <<< (fr &&& 31))), (0, .ref p), (1, .int fr), (2, .int bu)]) hx hb dX8_reach_3 rfl hl (by decide) rfl (fun ls hl => ?_)
  refine lv_iconst (v := 0) hx hb dX8_reach_4 (by decide) ?_
  refine lv_istore (lv' := [(4, .int 0), (3, .int (1 <<< (fr &&& 31))), (0, .ref p), (1, .int fr), (2, .int bu)]) hx hb dX8_reach_5 hl (by decide) rfl (fun ls hl => ?_)
  replace h := h (fun (x3_107 : Int32) => ∀ (H : Heap) (locs : List Loc) (ls : Array Slot), va_P G.1 vwCl [(p, .inr (5, [.ref q])), (q, .inr (0, [.ref qf, .ref qt, .ref qw, .ref qc, .ref qo, .int nd, .int rt, .int ex, .int mn])), (qf, .inl (G.2 0, 60, .inl f)), (qt, .inl (G.2 0, 60, .inl t)), (qw, .inl (G.2 0, 16, .inl w)), (qc, .inl (G.2 0, 16, .inl c)), (qo, .inl (G.2 1, 60, .inl o))] H → va_D AA [(p, .inr (5, [.ref q])), (q, .inr (0, [.ref qf, .ref qt, .ref qw, .ref qc, .ref qo, .int nd, .int rt, .int ex, .int mn])), (qf, .inl (G.2 0, 60, .inl f)), (qt, .inl (G.2 0, 60, .inl t)), (qw, .inl (G.2 0, 16, .inl w)), (qc, .inl (G.2 0, 16, .inl c)), (qo, .inl (G.2 1, 60, .inl o))] → va_S AA sS.heap H locs → lv_has ls 6 [(3, .int x3_107)] → W pp lL eE RX8_reach_U sS mM ar below meth cC H locs 0 0 QQ (F0 mM 63 ls [])) (by
      clear h
      intro x3_107 h H locs ls hP hD hS hl
      refine lv_iload_n hx hb dX8_reach_63 rfl (lv_at hl 0 rfl) ?_
      subst hQQ; exact gx_iret () hx hb hr hlocks hAe hP hD hS (Nat.le_of_ble_eq_true rfl) (Nat.le_of_ble_eq_true rfl) h dX8_reach_64)
  refine h (fun (x4_109 : Int32) (x3_110 : Int32) => ∀ (H : Heap) (locs : List Loc) (ls : Array Slot), va_P G.1 vwCl [(p, .inr (5, [.ref q])), (q, .inr (0, [.ref qf, .ref qt, .ref qw, .ref qc, .ref qo, .int nd, .int rt, .int ex, .int mn])), (qf, .inl (G.2 0, 60, .inl f)), (qt, .inl (G.2 0, 60, .inl t)), (qw, .inl (G.2 0, 16, .inl w)), (qc, .inl (G.2 0, 16, .inl c)), (qo, .inl (G.2 1, 60, .inl o))] H → va_D AA [(p, .inr (5, [.ref q])), (q, .inr (0, [.ref qf, .ref qt, .ref qw, .ref qc, .ref qo, .int nd, .int rt, .int ex, .int mn])), (qf, .inl (G.2 0, 60, .inl f)), (qt, .inl (G.2 0, 60, .inl t)), (qw, .inl (G.2 0, 16, .inl w)), (qc, .inl (G.2 0, 16, .inl c)), (qo, .inl (G.2 1, 60, .inl o))] → va_S AA sS.heap H locs → lv_has ls 6 [(4, .int x4_109), (3, .int x3_110), (0, .ref p), (2, .int bu)] → W pp lL eE RX8_reach_U sS mM ar below meth cC H locs 0 0 QQ (F0 mM 7 ls [])) ?_  _ _ _ hP hD hS (lv_sub hl [0, 1, 2, 4] rfl)
  clear h
  intro x4_109 x3_110 h H locs ls hP hD hS hl
  refine lv_iload hx hb dX8_reach_7 (lv_at hl 0 rfl) ?_
  refine lv_iload_n hx hb dX8_reach_9 rfl (lv_at hl 1 rfl) ?_
  refine lv_icmp_eq (tgt := 63) hx hb dX8_reach_10 (by decide) (fun c_112 => ?_) (fun c_112 => ?_)
  · replace h := h.1 c_112
    exact h _ _ _ hP hD hS (lv_sub hl [1] rfl)
  · replace h := h.2 c_112
    refine lv_iload_n hx hb dX8_reach_13 rfl (lv_at hl 1 rfl) ?_
    refine lv_istore (lv' := [(4, .int x3_110), (3, .int x3_110), (0, .ref p), (2, .int bu)]) hx hb dX8_reach_14 hl (by decide) rfl (fun ls hl => ?_)
    refine lv_iconst (v := 0) hx hb dX8_reach_16 (by decide) ?_
    refine lv_istore (lv' := [(5, .int 0), (4, .int x3_110), (3, .int x3_110), (0, .ref p), (2, .int bu)]) hx hb dX8_reach_17 hl (by decide) rfl (fun ls hl => ?_)
    replace h := h (fun (x3_135 : Int32) => ∀ (H : Heap) (locs : List Loc) (ls : Array Slot), va_P G.1 vwCl [(p, .inr (5, [.ref q])), (q, .inr (0, [.ref qf, .ref qt, .ref qw, .ref qc, .ref qo, .int nd, .int rt, .int ex, .int mn])), (qf, .inl (G.2 0, 60, .inl f)), (qt, .inl (G.2 0, 60, .inl t)), (qw, .inl (G.2 0, 16, .inl w)), (qc, .inl (G.2 0, 16, .inl c)), (qo, .inl (G.2 1, 60, .inl o))] H → va_D AA [(p, .inr (5, [.ref q])), (q, .inr (0, [.ref qf, .ref qt, .ref qw, .ref qc, .ref qo, .int nd, .int rt, .int ex, .int mn])), (qf, .inl (G.2 0, 60, .inl f)), (qt, .inl (G.2 0, 60, .inl t)), (qw, .inl (G.2 0, 16, .inl w)), (qc, .inl (G.2 0, 16, .inl c)), (qo, .inl (G.2 1, 60, .inl o))] → va_S AA sS.heap H locs → lv_has ls 6 [(4, .int x3_110), (3, .int x3_135), (0, .ref p), (2, .int bu)] → W pp lL eE RX8_reach_U sS mM ar below meth cC H locs 0 0 QQ (F0 mM 60 ls [])) (by
        clear h
        intro x3_135 h H locs ls hP hD hS hl
        refine lv_goto (tgt := 7) hx hb dX8_reach_60 (by decide) ?_
        exact h _ _ _ hP hD hS hl)
    refine h (fun (x5_137 : Int32) (x3_138 : Int32) => ∀ (H : Heap) (locs : List Loc) (ls : Array Slot), va_P G.1 vwCl [(p, .inr (5, [.ref q])), (q, .inr (0, [.ref qf, .ref qt, .ref qw, .ref qc, .ref qo, .int nd, .int rt, .int ex, .int mn])), (qf, .inl (G.2 0, 60, .inl f)), (qt, .inl (G.2 0, 60, .inl t)), (qw, .inl (G.2 0, 16, .inl w)), (qc, .inl (G.2 0, 16, .inl c)), (qo, .inl (G.2 1, 60, .inl o))] H → va_D AA [(p, .inr (5, [.ref q])), (q, .inr (0, [.ref qf, .ref qt, .ref qw, .ref qc, .ref qo, .int nd, .int rt, .int ex, .int mn])), (qf, .inl (G.2 0, 60, .inl f)), (qt, .inl (G.2 0, 60, .inl t)), (qw, .inl (G.2 0, 16, .inl w)), (qc, .inl (G.2 0, 16, .inl c)), (qo, .inl (G.2 1, 60, .inl o))] → va_S AA sS.heap H locs → lv_has ls 6 [(5, .int x5_137), (4, .int x3_110), (3, .int x3_138), (0, .ref p), (2, .int bu)] → W pp lL eE RX8_reach_U sS mM ar below meth cC H locs 0 0 QQ (F0 mM 19 ls [])) ?_  _ _ _ hP hD hS hl
    clear h
    intro x5_137 x3_138 h H locs ls hP hD hS hl
    refine lv_iload hx hb dX8_reach_19 (lv_at hl 0 rfl) ?_
    refine lv_aload_n hx hb dX8_reach_21 rfl (lv_at hl 3 rfl) ?_
    have hPc := hP.sub (ws' := [(p, .inr (5, [.ref q])), (q, .inr (0, [.ref qf, .ref qt, .ref qw, .ref qc, .ref qo, .int nd, .int rt, .int ex, .int mn])), (qf, .inl (G.2 0, 60, .inl f)), (qt, .inl (G.2 0, 60, .inl t)), (qw, .inl (G.2 0, 16, .inl w)), (qc, .inl (G.2 0, 16, .inl c)), (qo, .inl (G.2 1, 60, .inl o))]) [0, 1, 2, 3, 4, 5, 6] rfl
    have hDc := hD.sub (ws' := [(p, .inr (5, [.ref q])), (q, .inr (0, [.ref qf, .ref qt, .ref qw, .ref qc, .ref qo, .int nd, .int rt, .int ex, .int mn])), (qf, .inl (G.2 0, 60, .inl f)), (qt, .inl (G.2 0, 60, .inl t)), (qw, .inl (G.2 0, 16, .inl w)), (qc, .inl (G.2 0, 16, .inl c)), (qo, .inl (G.2 1, 60, .inl o))]) [0, 1, 2, 3, 4, 5, 6] (by decide) rfl
    refine gx_Fi (G := G) (wc := [(p, .inr (5, [.ref q])), (q, .inr (0, [.ref qf, .ref qt, .ref qw, .ref qc, .ref qo, .int nd, .int rt, .int ex, .int mn])), (qf, .inl (G.2 0, 60, .inl f)), (qt, .inl (G.2 0, 60, .inl t)), (qw, .inl (G.2 0, 16, .inl w)), (qc, .inl (G.2 0, 16, .inl c)), (qo, .inl (G.2 1, 60, .inl o))]) (wr := []) (va_runF (As := []) (rest := [.int x5_137]) (hK.1.1 5 _ rfl).2 ⟨hx, hb, hml, hown, hts⟩ (ct_X9_nodes lL G p q qf qt qw qc qo f t w c o nd rt ex mn _) (va_cwF 0 hts (lw_F q477 q493 q495 q192 q497) rfl rfl rfl (hK.2.2.1 ("GateLifter$Turned", yF_nodes, yX9_nodes) (by decide)) (by decide +kernel) ⟨Nat.le_of_ble_eq_true rfl, Nat.le_of_ble_eq_true rfl⟩) (gx_preV hK hPc hDc 5 0 rfl rfl) rfl rfl hl.1 rfl (lv_room (Nat.le_of_ble_eq_true rfl)) dX8_reach_22 ⟨Nat.le_of_ble_eq_true rfl, Nat.le_of_ble_eq_true rfl⟩) hP hD hS hA [0, 1, 2, 3, 4, 5, 6] [] rfl rfl (by decide) (by decide) (fun r_140 u_140 H locs hw_140 hP hD hS => ?_)
    have hP : va_P G.1 vwCl [(p, .inr (5, [.ref q])), (q, .inr (0, [.ref qf, .ref qt, .ref qw, .ref qc, .ref qo, .int nd, .int rt, .int ex, .int mn])), (qf, .inl (G.2 0, 60, .inl f)), (qt, .inl (G.2 0, 60, .inl t)), (qw, .inl (G.2 0, 16, .inl w)), (qc, .inl (G.2 0, 16, .inl c)), (qo, .inl (G.2 1, 60, .inl o))] H := hP
    have hD : va_D AA [(p, .inr (5, [.ref q])), (q, .inr (0, [.ref qf, .ref qt, .ref qw, .ref qc, .ref qo, .int nd, .int rt, .int ex, .int mn])), (qf, .inl (G.2 0, 60, .inl f)), (qt, .inl (G.2 0, 60, .inl t)), (qw, .inl (G.2 0, 16, .inl w)), (qc, .inl (G.2 0, 16, .inl c)), (qo, .inl (G.2 1, 60, .inl o))] := hD
    replace h := h r_140 hw_140
    refine lv_icmp_ge (tgt := 60) hx hb dX8_reach_27 (by decide) (fun c_141 => ?_) (fun c_141 => ?_)
    · replace h := h.1 c_141
      exact h _ _ _ hP hD hS (lv_sub hl [1, 2, 3, 4] rfl)
    · replace h := h.2 c_141
      refine lv_iload_n hx hb dX8_reach_30 rfl (lv_at hl 2 rfl) ?_
      refine lv_iload hx hb dX8_reach_31 (lv_at hl 0 rfl) ?_
      have hPc := hP.sub (ws' := []) [] rfl
      have hDc := hD.sub (ws' := []) [] (by decide) rfl
      refine gx_i (G := G) (wc := []) (wr := [(p, .inr (5, [.ref q])), (q, .inr (0, [.ref qf, .ref qt, .ref qw, .ref qc, .ref qo, .int nd, .int rt, .int ex, .int mn])), (qf, .inl (G.2 0, 60, .inl f)), (qt, .inl (G.2 0, 60, .inl t)), (qw, .inl (G.2 0, 16, .inl w)), (qc, .inl (G.2 0, 16, .inl c)), (qo, .inl (G.2 1, 60, .inl o))]) (va_runSN (As := [.int x3_138, .int x5_137]) (rest := []) ⟨hx, hb, hml, hown, hts⟩ (ct_X1_has lL G x3_138 x5_137 _) ⟨va_cnB 2 hts (lw_meth q502) rfl rfl rfl (hK.nw q500 rfl) (hts _ q164) (by decide +kernel) ⟨Nat.le_of_ble_eq_true rfl, Nat.le_of_ble_eq_true rfl⟩, hts _ q501, trivial⟩ (gx_preS hK hPc hDc) rfl rfl hl.1 rfl (lv_room (Nat.le_of_ble_eq_true rfl)) dX8_reach_33 ⟨Nat.le_of_ble_eq_true rfl, Nat.le_of_ble_eq_true rfl⟩) hP hD hS hA [] [0, 1, 2, 3, 4, 5, 6] rfl rfl (by decide) (by decide) (fun r_142 u_142 H locs hw_142 hP hD hS => ?_)
      have hP : va_P G.1 vwCl [(p, .inr (5, [.ref q])), (q, .inr (0, [.ref qf, .ref qt, .ref qw, .ref qc, .ref qo, .int nd, .int rt, .int ex, .int mn])), (qf, .inl (G.2 0, 60, .inl f)), (qt, .inl (G.2 0, 60, .inl t)), (qw, .inl (G.2 0, 16, .inl w)), (qc, .inl (G.2 0, 16, .inl c)), (qo, .inl (G.2 1, 60, .inl o))] H := hP
      have hD : va_D AA [(p, .inr (5, [.ref q])), (q, .inr (0, [.ref qf, .ref qt, .ref qw, .ref qc, .ref qo, .int nd, .int rt, .int ex, .int mn])), (qf, .inl (G.2 0, 60, .inl f)), (qt, .inl (G.2 0, 60, .inl t)), (qw, .inl (G.2 0, 16, .inl w)), (qc, .inl (G.2 0, 16, .inl c)), (qo, .inl (G.2 1, 60, .inl o))] := hD
      replace h := h r_142 hw_142
      refine lv_if_eq (tgt := 54) hx hb dX8_reach_36 (by decide) (fun c_143 => ?_) (fun c_143 => ?_)
      · replace h := h.1 c_143
        refine lv_iinc (v := x5_137 + 1) (lv' := [(5, .int (x5_137 + 1)), (4, .int x3_110), (3, .int x3_138), (0, .ref p), (2, .int bu)]) hx hb dX8_reach_54 hl (k := 0) rfl rfl (by decide) rfl (fun ls hl => ?_)
        refine lv_goto (tgt := 19) hx hb dX8_reach_57 (by decide) ?_
        exact h _ _ _ hP hD hS hl
      · replace h := h.2 c_143
        refine lv_iload_n hx hb dX8_reach_39 rfl (lv_at hl 2 rfl) ?_
        refine lv_aload_n hx hb dX8_reach_40 rfl (lv_at hl 3 rfl) ?_
        refine lv_iload hx hb dX8_reach_41 (lv_at hl 0 rfl) ?_
        have hPc := hP.sub (ws' := [(p, .inr (5, [.ref q])), (q, .inr (0, [.ref qf, .ref qt, .ref qw, .ref qc, .ref qo, .int nd, .int rt, .int ex, .int mn])), (qf, .inl (G.2 0, 60, .inl f)), (qt, .inl (G.2 0, 60, .inl t)), (qw, .inl (G.2 0, 16, .inl w)), (qc, .inl (G.2 0, 16, .inl c)), (qo, .inl (G.2 1, 60, .inl o))]) [0, 1, 2, 3, 4, 5, 6] rfl
        have hDc := hD.sub (ws' := [(p, .inr (5, [.ref q])), (q, .inr (0, [.ref qf, .ref qt, .ref qw, .ref qc, .ref qo, .int nd, .int rt, .int ex, .int mn])), (qf, .inl (G.2 0, 60, .inl f)), (qt, .inl (G.2 0, 60, .inl t)), (qw, .inl (G.2 0, 16, .inl w)), (qc, .inl (G.2 0, 16, .inl c)), (qo, .inl (G.2 1, 60, .inl o))]) [0, 1, 2, 3, 4, 5, 6] (by decide) rfl
        refine gx_Fi (G := G) (wc := [(p, .inr (5, [.ref q])), (q, .inr (0, [.ref qf, .ref qt, .ref qw, .ref qc, .ref qo, .int nd, .int rt, .int ex, .int mn])), (qf, .inl (G.2 0, 60, .inl f)), (qt, .inl (G.2 0, 60, .inl t)), (qw, .inl (G.2 0, 16, .inl w)), (qc, .inl (G.2 0, 16, .inl c)), (qo, .inl (G.2 1, 60, .inl o))]) (wr := []) (va_runF (As := [.int x5_137]) (rest := [.int x3_138]) (hK.1.1 5 _ rfl).2 ⟨hx, hb, hml, hown, hts⟩ (ct_X9_next lL G p q qf qt qw qc qo f t w c o nd rt ex mn x5_137 h.1 _) (va_cwF 1 hts (lw_F q504 q517 q519 q192 q521) rfl rfl rfl (hK.2.2.1 ("GateLifter$Turned", yF_next, yX9_next) (by decide)) (by decide +kernel) ⟨Nat.le_of_ble_eq_true rfl, Nat.le_of_ble_eq_true rfl⟩) (gx_preV hK hPc hDc 5 0 rfl rfl) rfl rfl hl.1 rfl (lv_room (Nat.le_of_ble_eq_true rfl)) dX8_reach_43 ⟨Nat.le_of_ble_eq_true rfl, Nat.le_of_ble_eq_true rfl⟩) hP hD hS hA [0, 1, 2, 3, 4, 5, 6] [] rfl rfl (by decide) (by decide) (fun r_144 u_144 H locs hw_144 hP hD hS => ?_)
        replace h := h.2
        have hP : va_P G.1 vwCl [(p, .inr (5, [.ref q])), (q, .inr (0, [.ref qf, .ref qt, .ref qw, .ref qc, .ref qo, .int nd, .int rt, .int ex, .int mn])), (qf, .inl (G.2 0, 60, .inl f)), (qt, .inl (G.2 0, 60, .inl t)), (qw, .inl (G.2 0, 16, .inl w)), (qc, .inl (G.2 0, 16, .inl c)), (qo, .inl (G.2 1, 60, .inl o))] H := hP
        have hD : va_D AA [(p, .inr (5, [.ref q])), (q, .inr (0, [.ref qf, .ref qt, .ref qw, .ref qc, .ref qo, .int nd, .int rt, .int ex, .int mn])), (qf, .inl (G.2 0, 60, .inl f)), (qt, .inl (G.2 0, 60, .inl t)), (qw, .inl (G.2 0, 16, .inl w)), (qc, .inl (G.2 0, 16, .inl c)), (qo, .inl (G.2 1, 60, .inl o))] := hD
        replace h := h r_144 hw_144
        refine lv_iload_n hx hb dX8_reach_48 rfl (lv_at hl 4 rfl) ?_
        refine lv_iconst (v := (-1)) hx hb dX8_reach_49 (by decide) ?_
        refine lv_ixor hx hb dX8_reach_50 ?_
        refine lv_iand hx hb dX8_reach_51 ?_
        refine lv_ior hx hb dX8_reach_52 ?_
        refine lv_istore_n (lv' := [(3, .int (x3_138 ||| (r_144 &&& (bu ^^^ (-1))))), (5, .int x5_137), (4, .int x3_110), (0, .ref p), (2, .int bu)]) hx hb dX8_reach_53 rfl hl (by decide) rfl (fun ls hl => ?_)
        refine lv_iinc (v := x5_137 + 1) (lv' := [(5, .int (x5_137 + 1)), (3, .int (x3_138 ||| (r_144 &&& (bu ^^^ (-1))))), (4, .int x3_110), (0, .ref p), (2, .int bu)]) hx hb dX8_reach_54 hl (k := 1) rfl rfl (by decide) rfl (fun ls hl => ?_)
        refine lv_goto (tgt := 19) hx hb dX8_reach_57 (by decide) ?_
        exact h _ _ _ hP hD hS (lv_sub hl [0, 2, 1, 3, 4] rfl)
theorem ct_X8_reach_U (lL : Launch) (G : GE) (p q qf qt qw qc qo : Nat) (f t w c o : Nat → Int32) (nd rt ex mn fr bu : Int32) (hp : pr_X8_reach_U f t w c o nd rt ex mn fr bu) : CtI lL yX8_reach (ws_ yX8_reach cX8_reach 6 (some .int)) RX8_reach_U G [.ref p, .int fr, .int bu] [(p, .inr (5, [.ref q])), (q, .inr (0, [.ref qf, .ref qt, .ref qw, .ref qc, .ref qo, .int nd, .int rt, .int ex, .int mn])), (qf, .inl (G.2 0, 60, .inl f)), (qt, .inl (G.2 0, 60, .inl t)), (qw, .inl (G.2 0, 16, .inl w)), (qc, .inl (G.2 0, 16, .inl c)), (qo, .inl (G.2 1, 60, .inl o))] (fun (rr_ : Int32) (uu_ : Unit) => ps_X8_reach_U f t w c o nd rt ex mn fr bu rr_ ) (fun (uu_ : Unit) => [(p, .inr (5, [.ref q])), (q, .inr (0, [.ref qf, .ref qt, .ref qw, .ref qc, .ref qo, .int nd, .int rt, .int ex, .int mn])), (qf, .inl (G.2 0, 60, .inl f)), (qt, .inl (G.2 0, 60, .inl t)), (qw, .inl (G.2 0, 16, .inl w)), (qc, .inl (G.2 0, 16, .inl c)), (qo, .inl (G.2 1, 60, .inl o))]) :=
  wk_X8_reach_U lL G p q qf qt qw qc qo f t w c o nd rt ex mn fr bu _ (pf_X8_reach_U f t w c o nd rt ex mn fr bu hp)
abbrev RX1_gates_U : Room := ({ frames := 3, cells := 0, slots := 0, locals := 56 } : Room)
set_option maxHeartbeats 4000000 in
set_option maxRecDepth 100000 in
theorem wk_X1_gates_U (lL : Launch) (G : GE) (p q qf qt qw qc qo pu : Nat) (f t w c o : Nat → Int32) (nd rt ex mn : Int32) (ou : Nat → Int32) (fr al : Int32) (Q : (Nat → Int32) → Prop) (h : wp_X1_gates_U f t w c o nd rt ex mn ou fr al Q) : CtV lL yX1_gates (ws_ yX1_gates cX1_gates 8 none) RX1_gates_U G [.ref p, .int fr, .int al, .ref pu] [(p, .inr (5, [.ref q])), (q, .inr (0, [.ref qf, .ref qt, .ref qw, .ref qc, .ref qo, .int nd, .int rt, .int ex, .int mn])), (qf, .inl (G.2 0, 60, .inl f)), (qt, .inl (G.2 0, 60, .inl t)), (qw, .inl (G.2 0, 16, .inl w)), (qc, .inl (G.2 0, 16, .inl c)), (qo, .inl (G.2 1, 60, .inl o)), (pu, .inl (G.2 0, 16, .inl ou))] (fun (uu_ : (Nat → Int32)) => Q uu_) (fun (uu_ : (Nat → Int32)) => [(p, .inr (5, [.ref q])), (q, .inr (0, [.ref qf, .ref qt, .ref qw, .ref qc, .ref qo, .int nd, .int rt, .int ex, .int mn])), (qf, .inl (G.2 0, 60, .inl f)), (qt, .inl (G.2 0, 60, .inl t)), (qw, .inl (G.2 0, 16, .inl w)), (qc, .inl (G.2 0, 16, .inl c)), (qo, .inl (G.2 1, 60, .inl o)), (pu, .inl (G.2 0, 16, .inl uu_))]) := by
  refine gx_of (cc := cX1_gates) (maxL := 8) (ret := none) (by decide) (Nat.le_of_ble_eq_true rfl) ?_
  intro pp eE sS mM ar below meth cC AA ls QQ hx hb hr hml hts hown hlocks hnm hK hAe hQQ hP hD hA hS hl
  have hl : lv_has ls 8 [(0, .ref p), (1, .int fr), (2, .int al), (3, .ref pu)] := hl
  refine lv_iconst (v := 0) hx hb dX1_gates_0 (by decide) ?_
  refine lv_istore (lv' := [(4, .int 0), (0, .ref p), (1, .int fr), (2, .int al), (3, .ref pu)]) hx hb dX1_gates_1 hl (by decide) rfl (fun ls hl => ?_)
  replace h := h (fun (a_38 : Nat → Int32) => ∀ (H : Heap) (locs : List Loc) (ls : Array Slot), va_P G.1 vwCl [(p, .inr (5, [.ref q])), (q, .inr (0, [.ref qf, .ref qt, .ref qw, .ref qc, .ref qo, .int nd, .int rt, .int ex, .int mn])), (qf, .inl (G.2 0, 60, .inl f)), (qt, .inl (G.2 0, 60, .inl t)), (qw, .inl (G.2 0, 16, .inl w)), (qc, .inl (G.2 0, 16, .inl c)), (qo, .inl (G.2 1, 60, .inl o)), (pu, .inl (G.2 0, 16, .inl a_38))] H → va_D AA [(p, .inr (5, [.ref q])), (q, .inr (0, [.ref qf, .ref qt, .ref qw, .ref qc, .ref qo, .int nd, .int rt, .int ex, .int mn])), (qf, .inl (G.2 0, 60, .inl f)), (qt, .inl (G.2 0, 60, .inl t)), (qw, .inl (G.2 0, 16, .inl w)), (qc, .inl (G.2 0, 16, .inl c)), (qo, .inl (G.2 1, 60, .inl o)), (pu, .inl (G.2 0, 16, .inl a_38))] → va_S AA sS.heap H locs → lv_has ls 8 [(0, .ref p), (1, .int fr), (2, .int al), (3, .ref pu)] → W pp lL eE RX1_gates_U sS mM ar below meth cC H locs 0 0 QQ (F0 mM 51 ls [])) (by
      clear h
      intro a_38 h H locs ls hP hD hS hl
      refine lv_iconst (v := 1) hx hb dX1_gates_51 (by decide) ?_
      refine lv_istore (lv' := [(4, .int 1), (0, .ref p), (1, .int fr), (2, .int al), (3, .ref pu)]) hx hb dX1_gates_52 hl (by decide) rfl (fun ls hl => ?_)
      replace h := h (fun (a_744 : Nat → Int32) => ∀ (H : Heap) (locs : List Loc) (ls : Array Slot), va_P G.1 vwCl [(p, .inr (5, [.ref q])), (q, .inr (0, [.ref qf, .ref qt, .ref qw, .ref qc, .ref qo, .int nd, .int rt, .int ex, .int mn])), (qf, .inl (G.2 0, 60, .inl f)), (qt, .inl (G.2 0, 60, .inl t)), (qw, .inl (G.2 0, 16, .inl w)), (qc, .inl (G.2 0, 16, .inl c)), (qo, .inl (G.2 1, 60, .inl o)), (pu, .inl (G.2 0, 16, .inl a_744))] H → va_D AA [(p, .inr (5, [.ref q])), (q, .inr (0, [.ref qf, .ref qt, .ref qw, .ref qc, .ref qo, .int nd, .int rt, .int ex, .int mn])), (qf, .inl (G.2 0, 60, .inl f)), (qt, .inl (G.2 0, 60, .inl t)), (qw, .inl (G.2 0, 16, .inl w)), (qc, .inl (G.2 0, 16, .inl c)), (qo, .inl (G.2 1, 60, .inl o)), (pu, .inl (G.2 0, 16, .inl a_744))] → va_S AA sS.heap H locs → lv_has ls 8 [] → W pp lL eE RX1_gates_U sS mM ar below meth cC H locs 0 0 QQ (F0 mM 196 ls [])) (by
          clear h
          intro a_744 h H locs ls hP hD hS hl
          subst hQQ; exact gx_vret a_744 hx hb hr hlocks hAe hP hD hS (Nat.le_of_ble_eq_true rfl) (Nat.le_of_ble_eq_true rfl) h dX1_gates_196)
      refine h (fun (x4_746 : Int32) (a_747 : Nat → Int32) => ∀ (H : Heap) (locs : List Loc) (ls : Array Slot), va_P G.1 vwCl [(p, .inr (5, [.ref q])), (q, .inr (0, [.ref qf, .ref qt, .ref qw, .ref qc, .ref qo, .int nd, .int rt, .int ex, .int mn])), (qf, .inl (G.2 0, 60, .inl f)), (qt, .inl (G.2 0, 60, .inl t)), (qw, .inl (G.2 0, 16, .inl w)), (qc, .inl (G.2 0, 16, .inl c)), (qo, .inl (G.2 1, 60, .inl o)), (pu, .inl (G.2 0, 16, .inl a_747))] H → va_D AA [(p, .inr (5, [.ref q])), (q, .inr (0, [.ref qf, .ref qt, .ref qw, .ref qc, .ref qo, .int nd, .int rt, .int ex, .int mn])), (qf, .inl (G.2 0, 60, .inl f)), (qt, .inl (G.2 0, 60, .inl t)), (qw, .inl (G.2 0, 16, .inl w)), (qc, .inl (G.2 0, 16, .inl c)), (qo, .inl (G.2 1, 60, .inl o)), (pu, .inl (G.2 0, 16, .inl a_747))] → va_S AA sS.heap H locs → lv_has ls 8 [(4, .int x4_746), (0, .ref p), (1, .int fr), (2, .int al), (3, .ref pu)] → W pp lL eE RX1_gates_U sS mM ar below meth cC H locs 0 0 QQ (F0 mM 54 ls [])) ?_  _ _ _ hP hD hS hl
      clear h
      intro x4_746 a_747 h H locs ls hP hD hS hl
      refine lv_iload hx hb dX1_gates_54 (lv_at hl 0 rfl) ?_
      refine lv_if_eq (tgt := 196) hx hb dX1_gates_56 (by decide) (fun c_749 => ?_) (fun c_749 => ?_)
      · replace h := h.1 c_749
        exact h _ _ _ hP hD hS (lv_sub hl [] rfl)
      · replace h := h.2 c_749
        refine lv_iconst (v := 0) hx hb dX1_gates_59 (by decide) ?_
        refine lv_istore (lv' := [(4, .int 0), (0, .ref p), (1, .int fr), (2, .int al), (3, .ref pu)]) hx hb dX1_gates_60 hl (by decide) rfl (fun ls hl => ?_)
        refine lv_iconst (v := 0) hx hb dX1_gates_62 (by decide) ?_
        refine lv_istore (lv' := [(5, .int 0), (4, .int 0), (0, .ref p), (1, .int fr), (2, .int al), (3, .ref pu)]) hx hb dX1_gates_63 hl (by decide) rfl (fun ls hl => ?_)
        replace h := h (fun (x4_920 : Int32) (a_921 : Nat → Int32) => ∀ (H : Heap) (locs : List Loc) (ls : Array Slot), va_P G.1 vwCl [(p, .inr (5, [.ref q])), (q, .inr (0, [.ref qf, .ref qt, .ref qw, .ref qc, .ref qo, .int nd, .int rt, .int ex, .int mn])), (qf, .inl (G.2 0, 60, .inl f)), (qt, .inl (G.2 0, 60, .inl t)), (qw, .inl (G.2 0, 16, .inl w)), (qc, .inl (G.2 0, 16, .inl c)), (qo, .inl (G.2 1, 60, .inl o)), (pu, .inl (G.2 0, 16, .inl a_921))] H → va_D AA [(p, .inr (5, [.ref q])), (q, .inr (0, [.ref qf, .ref qt, .ref qw, .ref qc, .ref qo, .int nd, .int rt, .int ex, .int mn])), (qf, .inl (G.2 0, 60, .inl f)), (qt, .inl (G.2 0, 60, .inl t)), (qw, .inl (G.2 0, 16, .inl w)), (qc, .inl (G.2 0, 16, .inl c)), (qo, .inl (G.2 1, 60, .inl o)), (pu, .inl (G.2 0, 16, .inl a_921))] → va_S AA sS.heap H locs → lv_has ls 8 [(4, .int x4_920), (0, .ref p), (1, .int fr), (2, .int al), (3, .ref pu)] → W pp lL eE RX1_gates_U sS mM ar below meth cC H locs 0 0 QQ (F0 mM 193 ls [])) (by
            clear h
            intro x4_920 a_921 h H locs ls hP hD hS hl
            refine lv_goto (tgt := 54) hx hb dX1_gates_193 (by decide) ?_
            exact h _ _ _ hP hD hS hl)
        refine h (fun (x5_923 : Int32) (x4_924 : Int32) (a_925 : Nat → Int32) => ∀ (H : Heap) (locs : List Loc) (ls : Array Slot), va_P G.1 vwCl [(p, .inr (5, [.ref q])), (q, .inr (0, [.ref qf, .ref qt, .ref qw, .ref qc, .ref qo, .int nd, .int rt, .int ex, .int mn])), (qf, .inl (G.2 0, 60, .inl f)), (qt, .inl (G.2 0, 60, .inl t)), (qw, .inl (G.2 0, 16, .inl w)), (qc, .inl (G.2 0, 16, .inl c)), (qo, .inl (G.2 1, 60, .inl o)), (pu, .inl (G.2 0, 16, .inl a_925))] H → va_D AA [(p, .inr (5, [.ref q])), (q, .inr (0, [.ref qf, .ref qt, .ref qw, .ref qc, .ref qo, .int nd, .int rt, .int ex, .int mn])), (qf, .inl (G.2 0, 60, .inl f)), (qt, .inl (G.2 0, 60, .inl t)), (qw, .inl (G.2 0, 16, .inl w)), (qc, .inl (G.2 0, 16, .inl c)), (qo, .inl (G.2 1, 60, .inl o)), (pu, .inl (G.2 0, 16, .inl a_925))] → va_S AA sS.heap H locs → lv_has ls 8 [(5, .int x5_923), (4, .int x4_924), (0, .ref p), (1, .int fr), (2, .int al), (3, .ref pu)] → W pp lL eE RX1_gates_U sS mM ar below meth cC H locs 0 0 QQ (F0 mM 65 ls [])) ?_  _ _ _ hP hD hS hl
        clear h
        intro x5_923 x4_924 a_925 h H locs ls hP hD hS hl
        refine lv_iload hx hb dX1_gates_65 (lv_at hl 0 rfl) ?_
        refine lv_aload_n hx hb dX1_gates_67 rfl (lv_at hl 2 rfl) ?_
        have hPc := hP.sub (ws' := [(p, .inr (5, [.ref q])), (q, .inr (0, [.ref qf, .ref qt, .ref qw, .ref qc, .ref qo, .int nd, .int rt, .int ex, .int mn])), (qf, .inl (G.2 0, 60, .inl f)), (qt, .inl (G.2 0, 60, .inl t)), (qw, .inl (G.2 0, 16, .inl w)), (qc, .inl (G.2 0, 16, .inl c)), (qo, .inl (G.2 1, 60, .inl o))]) [0, 1, 2, 3, 4, 5, 6] rfl
        have hDc := hD.sub (ws' := [(p, .inr (5, [.ref q])), (q, .inr (0, [.ref qf, .ref qt, .ref qw, .ref qc, .ref qo, .int nd, .int rt, .int ex, .int mn])), (qf, .inl (G.2 0, 60, .inl f)), (qt, .inl (G.2 0, 60, .inl t)), (qw, .inl (G.2 0, 16, .inl w)), (qc, .inl (G.2 0, 16, .inl c)), (qo, .inl (G.2 1, 60, .inl o))]) [0, 1, 2, 3, 4, 5, 6] (by decide) rfl
        refine gx_Fi (G := G) (wc := [(p, .inr (5, [.ref q])), (q, .inr (0, [.ref qf, .ref qt, .ref qw, .ref qc, .ref qo, .int nd, .int rt, .int ex, .int mn])), (qf, .inl (G.2 0, 60, .inl f)), (qt, .inl (G.2 0, 60, .inl t)), (qw, .inl (G.2 0, 16, .inl w)), (qc, .inl (G.2 0, 16, .inl c)), (qo, .inl (G.2 1, 60, .inl o))]) (wr := [(pu, .inl (G.2 0, 16, .inl a_925))]) (va_runF (As := []) (rest := [.int x5_923]) (hK.1.1 5 _ rfl).2 ⟨hx, hb, hml, hown, hts⟩ (ct_X9_nodes lL G p q qf qt qw qc qo f t w c o nd rt ex mn _) (va_cwF 0 hts (lw_F q533 q493 q495 q192 q497) rfl rfl rfl (hK.2.2.1 ("GateLifter$Turned", yF_nodes, yX9_nodes) (by decide)) (by decide +kernel) ⟨Nat.le_of_ble_eq_true rfl, Nat.le_of_ble_eq_true rfl⟩) (gx_preV hK hPc hDc 5 0 rfl rfl) rfl rfl hl.1 rfl (lv_room (Nat.le_of_ble_eq_true rfl)) dX1_gates_68 ⟨Nat.le_of_ble_eq_true rfl, Nat.le_of_ble_eq_true rfl⟩) hP hD hS hA [0, 1, 2, 3, 4, 5, 6] [7] rfl rfl (by decide) (by decide) (fun r_927 u_927 H locs hw_927 hP hD hS => ?_)
        have hP : va_P G.1 vwCl [(p, .inr (5, [.ref q])), (q, .inr (0, [.ref qf, .ref qt, .ref qw, .ref qc, .ref qo, .int nd, .int rt, .int ex, .int mn])), (qf, .inl (G.2 0, 60, .inl f)), (qt, .inl (G.2 0, 60, .inl t)), (qw, .inl (G.2 0, 16, .inl w)), (qc, .inl (G.2 0, 16, .inl c)), (qo, .inl (G.2 1, 60, .inl o)), (pu, .inl (G.2 0, 16, .inl a_925))] H := hP.sub [1, 2, 3, 4, 5, 6, 7, 0] rfl
        have hD : va_D AA [(p, .inr (5, [.ref q])), (q, .inr (0, [.ref qf, .ref qt, .ref qw, .ref qc, .ref qo, .int nd, .int rt, .int ex, .int mn])), (qf, .inl (G.2 0, 60, .inl f)), (qt, .inl (G.2 0, 60, .inl t)), (qw, .inl (G.2 0, 16, .inl w)), (qc, .inl (G.2 0, 16, .inl c)), (qo, .inl (G.2 1, 60, .inl o)), (pu, .inl (G.2 0, 16, .inl a_925))] := hD.sub [1, 2, 3, 4, 5, 6, 7, 0] (by decide) rfl
        replace h := h r_927 hw_927
        refine lv_icmp_ge (tgt := 193) hx hb dX1_gates_73 (by decide) (fun c_928 => ?_) (fun c_928 => ?_)
        · replace h := h.1 c_928
          exact h _ _ _ hP hD hS (lv_sub hl [1, 2, 3, 4, 5] rfl)
        · replace h := h.2 c_928
          refine lv_iload_n hx hb dX1_gates_76 rfl (lv_at hl 4 rfl) ?_
          refine lv_iload hx hb dX1_gates_77 (lv_at hl 0 rfl) ?_
          have hPc := hP.sub (ws' := []) [] rfl
          have hDc := hD.sub (ws' := []) [] (by decide) rfl
          refine gx_i (G := G) (wc := []) (wr := [(p, .inr (5, [.ref q])), (q, .inr (0, [.ref qf, .ref qt, .ref qw, .ref qc, .ref qo, .int nd, .int rt, .int ex, .int mn])), (qf, .inl (G.2 0, 60, .inl f)), (qt, .inl (G.2 0, 60, .inl t)), (qw, .inl (G.2 0, 16, .inl w)), (qc, .inl (G.2 0, 16, .inl c)), (qo, .inl (G.2 1, 60, .inl o)), (pu, .inl (G.2 0, 16, .inl a_925))]) (va_runS (As := [.int al, .int x5_923]) (rest := []) ⟨hx, hb, hml, hown, hts⟩ (ct_X1_has lL G al x5_923 _) (va_cwS 2 hts (lw_S q534 q501 q164 q502) rfl rfl rfl (by decide +kernel) ⟨Nat.le_of_ble_eq_true rfl, Nat.le_of_ble_eq_true rfl⟩) (gx_preS hK hPc hDc) rfl rfl hl.1 rfl (lv_room (Nat.le_of_ble_eq_true rfl)) dX1_gates_79 ⟨Nat.le_of_ble_eq_true rfl, Nat.le_of_ble_eq_true rfl⟩) hP hD hS hA [] [0, 1, 2, 3, 4, 5, 6, 7] rfl rfl (by decide) (by decide) (fun r_929 u_929 H locs hw_929 hP hD hS => ?_)
          have hP : va_P G.1 vwCl [(p, .inr (5, [.ref q])), (q, .inr (0, [.ref qf, .ref qt, .ref qw, .ref qc, .ref qo, .int nd, .int rt, .int ex, .int mn])), (qf, .inl (G.2 0, 60, .inl f)), (qt, .inl (G.2 0, 60, .inl t)), (qw, .inl (G.2 0, 16, .inl w)), (qc, .inl (G.2 0, 16, .inl c)), (qo, .inl (G.2 1, 60, .inl o)), (pu, .inl (G.2 0, 16, .inl a_925))] H := hP
          have hD : va_D AA [(p, .inr (5, [.ref q])), (q, .inr (0, [.ref qf, .ref qt, .ref qw, .ref qc, .ref qo, .int nd, .int rt, .int ex, .int mn])), (qf, .inl (G.2 0, 60, .inl f)), (qt, .inl (G.2 0, 60, .inl t)), (qw, .inl (G.2 0, 16, .inl w)), (qc, .inl (G.2 0, 16, .inl c)), (qo, .inl (G.2 1, 60, .inl o)), (pu, .inl (G.2 0, 16, .inl a_925))] := hD
          replace h := h r_929 hw_929
          refine lv_if_eq (tgt := 187) hx hb dX1_gates_82 (by decide) (fun c_930 => ?_) (fun c_930 => ?_)
          · replace h := h.1 c_930
            refine lv_iinc (v := x5_923 + 1) (lv' := [(5, .int (x5_923 + 1)), (4, .int x4_924), (0, .ref p), (1, .int fr), (2, .int al), (3, .ref pu)]) hx hb dX1_gates_187 hl (k := 0) rfl rfl (by decide) rfl (fun ls hl => ?_)
            refine lv_goto (tgt := 65) hx hb dX1_gates_190 (by decide) ?_
            exact h _ _ _ hP hD hS hl
          · replace h := h.2 c_930
            refine lv_iload hx hb dX1_gates_85 (lv_at hl 0 rfl) ?_
            refine lv_iload_n hx hb dX1_gates_87 rfl (lv_at hl 3 rfl) ?_
            refine lv_icmp_ne (tgt := 94) hx hb dX1_gates_88 (by decide) (fun c_931 => ?_) (fun c_931 => ?_)
            · replace h := h.1 c_931
              refine lv_iload_n hx hb dX1_gates_94 rfl (lv_at hl 4 rfl) ?_
              refine lv_istore (lv' := [(6, .int al), (5, .int x5_923), (4, .int x4_924), (0, .ref p), (1, .int fr), (2, .int al), (3, .ref pu)]) hx hb dX1_gates_95 hl (by decide) rfl (fun ls hl => ?_)
              refine lv_iconst (v := 0) hx hb dX1_gates_97 (by decide) ?_
              refine lv_istore (lv' := [(7, .int 0), (6, .int al), (5, .int x5_923), (4, .int x4_924), (0, .ref p), (1, .int fr), (2, .int al), (3, .ref pu)]) hx hb dX1_gates_98 hl (by decide) rfl (fun ls hl => ?_)
              replace h := h (fun (x6_962 : Int32) => ∀ (H : Heap) (locs : List Loc) (ls : Array Slot), va_P G.1 vwCl [(p, .inr (5, [.ref q])), (q, .inr (0, [.ref qf, .ref qt, .ref qw, .ref qc, .ref qo, .int nd, .int rt, .int ex, .int mn])), (qf, .inl (G.2 0, 60, .inl f)), (qt, .inl (G.2 0, 60, .inl t)), (qw, .inl (G.2 0, 16, .inl w)), (qc, .inl (G.2 0, 16, .inl c)), (qo, .inl (G.2 1, 60, .inl o)), (pu, .inl (G.2 0, 16, .inl a_925))] H → va_D AA [(p, .inr (5, [.ref q])), (q, .inr (0, [.ref qf, .ref qt, .ref qw, .ref qc, .ref qo, .int nd, .int rt, .int ex, .int mn])), (qf, .inl (G.2 0, 60, .inl f)), (qt, .inl (G.2 0, 60, .inl t)), (qw, .inl (G.2 0, 16, .inl w)), (qc, .inl (G.2 0, 16, .inl c)), (qo, .inl (G.2 1, 60, .inl o)), (pu, .inl (G.2 0, 16, .inl a_925))] → va_S AA sS.heap H locs → lv_has ls 8 [(6, .int x6_962), (5, .int x5_923), (4, .int x4_924), (0, .ref p), (1, .int fr), (2, .int al), (3, .ref pu)] → W pp lL eE RX1_gates_U sS mM ar below meth cC H locs 0 0 QQ (F0 mM 151 ls [])) (by
                  clear h
                  intro x6_962 h H locs ls hP hD hS hl
                  refine lv_iload hx hb dX1_gates_151 (lv_at hl 0 rfl) ?_
                  refine lv_iconst (v := 1) hx hb dX1_gates_153 (by decide) ?_
                  refine lv_iload hx hb dX1_gates_154 (lv_at hl 1 rfl) ?_
                  refine lv_ishl hx hb dX1_gates_156 ?_
                  refine lv_ior hx hb dX1_gates_157 ?_
                  refine lv_istore (lv' := [(6, .int (x6_962 ||| (1 <<< (x5_923 &&& 31)))), (5, .int x5_923), (4, .int x4_924), (0, .ref p), (1, .int fr), (2, .int al), (3, .ref pu)]) hx hb dX1_gates_158 hl (by decide) rfl (fun ls hl => ?_)
                  refine lv_iload hx hb dX1_gates_160 (lv_at hl 2 rfl) ?_
                  refine lv_if_ne (tgt := 174) hx hb dX1_gates_162 (by decide) (fun c_963 => ?_) (fun c_963 => ?_)
                  · replace h := h.1 c_963
                    refine lv_iconst (v := 1) hx hb dX1_gates_174 (by decide) ?_
                    refine lv_goto (tgt := 179) hx hb dX1_gates_175 (by decide) ?_
                    refine lv_istore (lv' := [(4, .int 1), (6, .int (x6_962 ||| (1 <<< (x5_923 &&& 31)))), (5, .int x5_923), (0, .ref p), (1, .int fr), (2, .int al), (3, .ref pu)]) hx hb dX1_gates_179 hl (by decide) rfl (fun ls hl => ?_)
                    refine lv_aload_n hx hb dX1_gates_181 rfl (lv_at hl 6 rfl) ?_
                    refine lv_iload hx hb dX1_gates_182 (lv_at hl 2 rfl) ?_
                    refine lv_iload hx hb dX1_gates_184 (lv_at hl 1 rfl) ?_
                    have b_964 := h.1
                    refine va_iast hx hb hK.1 hP hD hS 7 0 rfl rfl b_964 dX1_gates_186 (fun H locs hP hD hS => ?_)
                    replace h := h.2
                    obtain ⟨u_965, eu_965⟩ : ∃ z__, z__ = upd a_925 x5_923.toNatClampNeg (x6_962 ||| (1 <<< (x5_923 &&& 31))) := ⟨_, rfl⟩
                    replace h := h u_965 eu_965
                    have hP : va_P G.1 vwCl [(p, .inr (5, [.ref q])), (q, .inr (0, [.ref qf, .ref qt, .ref qw, .ref qc, .ref qo, .int nd, .int rt, .int ex, .int mn])), (qf, .inl (G.2 0, 60, .inl f)), (qt, .inl (G.2 0, 60, .inl t)), (qw, .inl (G.2 0, 16, .inl w)), (qc, .inl (G.2 0, 16, .inl c)), (qo, .inl (G.2 1, 60, .inl o)), (pu, .inl (G.2 0, 16, .inl u_965))] H := by rw [eu_965]; exact hP
                    have hD : va_D AA [(p, .inr (5, [.ref q])), (q, .inr (0, [.ref qf, .ref qt, .ref qw, .ref qc, .ref qo, .int nd, .int rt, .int ex, .int mn])), (qf, .inl (G.2 0, 60, .inl f)), (qt, .inl (G.2 0, 60, .inl t)), (qw, .inl (G.2 0, 16, .inl w)), (qc, .inl (G.2 0, 16, .inl c)), (qo, .inl (G.2 1, 60, .inl o)), (pu, .inl (G.2 0, 16, .inl u_965))] := by rw [eu_965]; exact hD
                    refine lv_iinc (v := x5_923 + 1) (lv' := [(5, .int (x5_923 + 1)), (4, .int 1), (6, .int (x6_962 ||| (1 <<< (x5_923 &&& 31)))), (0, .ref p), (1, .int fr), (2, .int al), (3, .ref pu)]) hx hb dX1_gates_187 hl (k := 2) rfl rfl (by decide) rfl (fun ls hl => ?_)
                    refine lv_goto (tgt := 65) hx hb dX1_gates_190 (by decide) ?_
                    exact h _ _ _ hP hD hS (lv_sub hl [0, 1, 3, 4, 5, 6] rfl)
                  · replace h := h.2 c_963
                    refine lv_iload hx hb dX1_gates_165 (lv_at hl 0 rfl) ?_
                    refine lv_aload_n hx hb dX1_gates_167 rfl (lv_at hl 6 rfl) ?_
                    refine lv_iload hx hb dX1_gates_168 (lv_at hl 1 rfl) ?_
                    have b_966 := h.1
                    refine va_iald hx hb hK.1 hP 7 0 rfl rfl b_966 dX1_gates_170 ?_
                    replace h := h.2
                    refine lv_icmp_eq (tgt := 178) hx hb dX1_gates_171 (by decide) (fun c_967 => ?_) (fun c_967 => ?_)
                    · replace h := h.1 c_967
                      refine lv_iconst (v := 0) hx hb dX1_gates_178 (by decide) ?_
                      refine lv_istore (lv' := [(4, .int 0), (6, .int (x6_962 ||| (1 <<< (x5_923 &&& 31)))), (5, .int x5_923), (0, .ref p), (1, .int fr), (2, .int al), (3, .ref pu)]) hx hb dX1_gates_179 hl (by decide) rfl (fun ls hl => ?_)
                      refine lv_aload_n hx hb dX1_gates_181 rfl (lv_at hl 6 rfl) ?_
                      refine lv_iload hx hb dX1_gates_182 (lv_at hl 2 rfl) ?_
                      refine lv_iload hx hb dX1_gates_184 (lv_at hl 1 rfl) ?_
                      refine va_iast hx hb hK.1 hP hD hS 7 0 rfl rfl b_966 dX1_gates_186 (fun H locs hP hD hS => ?_)
                      obtain ⟨u_968, eu_968⟩ : ∃ z__, z__ = upd a_925 x5_923.toNatClampNeg (x6_962 ||| (1 <<< (x5_923 &&& 31))) := ⟨_, rfl⟩
                      replace h := h u_968 eu_968
                      have hP : va_P G.1 vwCl [(p, .inr (5, [.ref q])), (q, .inr (0, [.ref qf, .ref qt, .ref qw, .ref qc, .ref qo, .int nd, .int rt, .int ex, .int mn])), (qf, .inl (G.2 0, 60, .inl f)), (qt, .inl (G.2 0, 60, .inl t)), (qw, .inl (G.2 0, 16, .inl w)), (qc, .inl (G.2 0, 16, .inl c)), (qo, .inl (G.2 1, 60, .inl o)), (pu, .inl (G.2 0, 16, .inl u_968))] H := by rw [eu_968]; exact hP
                      have hD : va_D AA [(p, .inr (5, [.ref q])), (q, .inr (0, [.ref qf, .ref qt, .ref qw, .ref qc, .ref qo, .int nd, .int rt, .int ex, .int mn])), (qf, .inl (G.2 0, 60, .inl f)), (qt, .inl (G.2 0, 60, .inl t)), (qw, .inl (G.2 0, 16, .inl w)), (qc, .inl (G.2 0, 16, .inl c)), (qo, .inl (G.2 1, 60, .inl o)), (pu, .inl (G.2 0, 16, .inl u_968))] := by rw [eu_968]; exact hD
                      refine lv_iinc (v := x5_923 + 1) (lv' := [(5, .int (x5_923 + 1)), (4, .int 0), (6, .int (x6_962 ||| (1 <<< (x5_923 &&& 31)))), (0, .ref p), (1, .int fr), (2, .int al), (3, .ref pu)]) hx hb dX1_gates_187 hl (k := 2) rfl rfl (by decide) rfl (fun ls hl => ?_)
                      refine lv_goto (tgt := 65) hx hb dX1_gates_190 (by decide) ?_
                      exact h _ _ _ hP hD hS (lv_sub hl [0, 1, 3, 4, 5, 6] rfl)
                    · replace h := h.2 c_967
                      refine lv_iconst (v := 1) hx hb dX1_gates_174 (by decide) ?_
                      refine lv_goto (tgt := 179) hx hb dX1_gates_175 (by decide) ?_
                      refine lv_istore (lv' := [(4, .int 1), (6, .int (x6_962 ||| (1 <<< (x5_923 &&& 31)))), (5, .int x5_923), (0, .ref p), (1, .int fr), (2, .int al), (3, .ref pu)]) hx hb dX1_gates_179 hl (by decide) rfl (fun ls hl => ?_)
                      refine lv_aload_n hx hb dX1_gates_181 rfl (lv_at hl 6 rfl) ?_
                      refine lv_iload hx hb dX1_gates_182 (lv_at hl 2 rfl) ?_
                      refine lv_iload hx hb dX1_gates_184 (lv_at hl 1 rfl) ?_
                      refine va_iast hx hb hK.1 hP hD hS 7 0 rfl rfl b_966 dX1_gates_186 (fun H locs hP hD hS => ?_)
                      obtain ⟨u_969, eu_969⟩ : ∃ z__, z__ = upd a_925 x5_923.toNatClampNeg (x6_962 ||| (1 <<< (x5_923 &&& 31))) := ⟨_, rfl⟩
                      replace h := h u_969 eu_969
                      have hP : va_P G.1 vwCl [(p, .inr (5, [.ref q])), (q, .inr (0, [.ref qf, .ref qt, .ref qw, .ref qc, .ref qo, .int nd, .int rt, .int ex, .int mn])), (qf, .inl (G.2 0, 60, .inl f)), (qt, .inl (G.2 0, 60, .inl t)), (qw, .inl (G.2 0, 16, .inl w)), (qc, .inl (G.2 0, 16, .inl c)), (qo, .inl (G.2 1, 60, .inl o)), (pu, .inl (G.2 0, 16, .inl u_969))] H := by rw [eu_969]; exact hP
                      have hD : va_D AA [(p, .inr (5, [.ref q])), (q, .inr (0, [.ref qf, .ref qt, .ref qw, .ref qc, .ref qo, .int nd, .int rt, .int ex, .int mn])), (qf, .inl (G.2 0, 60, .inl f)), (qt, .inl (G.2 0, 60, .inl t)), (qw, .inl (G.2 0, 16, .inl w)), (qc, .inl (G.2 0, 16, .inl c)), (qo, .inl (G.2 1, 60, .inl o)), (pu, .inl (G.2 0, 16, .inl u_969))] := by rw [eu_969]; exact hD
                      refine lv_iinc (v := x5_923 + 1) (lv' := [(5, .int (x5_923 + 1)), (4, .int 1), (6, .int (x6_962 ||| (1 <<< (x5_923 &&& 31)))), (0, .ref p), (1, .int fr), (2, .int al), (3, .ref pu)]) hx hb dX1_gates_187 hl (k := 2) rfl rfl (by decide) rfl (fun ls hl => ?_)
                      refine lv_goto (tgt := 65) hx hb dX1_gates_190 (by decide) ?_
                      exact h _ _ _ hP hD hS (lv_sub hl [0, 1, 3, 4, 5, 6] rfl))
              refine h (fun (x7_971 : Int32) (x6_972 : Int32) => ∀ (H : Heap) (locs : List Loc) (ls : Array Slot), va_P G.1 vwCl [(p, .inr (5, [.ref q])), (q, .inr (0, [.ref qf, .ref qt, .ref qw, .ref qc, .ref qo, .int nd, .int rt, .int ex, .int mn])), (qf, .inl (G.2 0, 60, .inl f)), (qt, .inl (G.2 0, 60, .inl t)), (qw, .inl (G.2 0, 16, .inl w)), (qc, .inl (G.2 0, 16, .inl c)), (qo, .inl (G.2 1, 60, .inl o)), (pu, .inl (G.2 0, 16, .inl a_925))] H → va_D AA [(p, .inr (5, [.ref q])), (q, .inr (0, [.ref qf, .ref qt, .ref qw, .ref qc, .ref qo, .int nd, .int rt, .int ex, .int mn])), (qf, .inl (G.2 0, 60, .inl f)), (qt, .inl (G.2 0, 60, .inl t)), (qw, .inl (G.2 0, 16, .inl w)), (qc, .inl (G.2 0, 16, .inl c)), (qo, .inl (G.2 1, 60, .inl o)), (pu, .inl (G.2 0, 16, .inl a_925))] → va_S AA sS.heap H locs → lv_has ls 8 [(7, .int x7_971), (6, .int x6_972), (5, .int x5_923), (4, .int x4_924), (0, .ref p), (1, .int fr), (2, .int al), (3, .ref pu)] → W pp lL eE RX1_gates_U sS mM ar below meth cC H locs 0 0 QQ (F0 mM 100 ls [])) ?_  _ _ _ hP hD hS hl
              clear h
              intro x7_971 x6_972 h H locs ls hP hD hS hl
              refine lv_iload hx hb dX1_gates_100 (lv_at hl 0 rfl) ?_
              refine lv_aload_n hx hb dX1_gates_102 rfl (lv_at hl 4 rfl) ?_
              have hPc := hP.sub (ws' := [(p, .inr (5, [.ref q])), (q, .inr (0, [.ref qf, .ref qt, .ref qw, .ref qc, .ref qo, .int nd, .int rt, .int ex, .int mn])), (qf, .inl (G.2 0, 60, .inl f)), (qt, .inl (G.2 0, 60, .inl t)), (qw, .inl (G.2 0, 16, .inl w)), (qc, .inl (G.2 0, 16, .inl c)), (qo, .inl (G.2 1, 60, .inl o))]) [0, 1, 2, 3, 4, 5, 6] rfl
              have hDc := hD.sub (ws' := [(p, .inr (5, [.ref q])), (q, .inr (0, [.ref qf, .ref qt, .ref qw, .ref qc, .ref qo, .int nd, .int rt, .int ex, .int mn])), (qf, .inl (G.2 0, 60, .inl f)), (qt, .inl (G.2 0, 60, .inl t)), (qw, .inl (G.2 0, 16, .inl w)), (qc, .inl (G.2 0, 16, .inl c)), (qo, .inl (G.2 1, 60, .inl o))]) [0, 1, 2, 3, 4, 5, 6] (by decide) rfl
              refine gx_Fi (G := G) (wc := [(p, .inr (5, [.ref q])), (q, .inr (0, [.ref qf, .ref qt, .ref qw, .ref qc, .ref qo, .int nd, .int rt, .int ex, .int mn])), (qf, .inl (G.2 0, 60, .inl f)), (qt, .inl (G.2 0, 60, .inl t)), (qw, .inl (G.2 0, 16, .inl w)), (qc, .inl (G.2 0, 16, .inl c)), (qo, .inl (G.2 1, 60, .inl o))]) (wr := [(pu, .inl (G.2 0, 16, .inl a_925))]) (va_runF (As := []) (rest := [.int x7_971]) (hK.1.1 5 _ rfl).2 ⟨hx, hb, hml, hown, hts⟩ (ct_X9_nodes lL G p q qf qt qw qc qo f t w c o nd rt ex mn _) (va_cwF 0 hts (lw_F q533 q493 q495 q192 q497) rfl rfl rfl (hK.2.2.1 ("GateLifter$Turned", yF_nodes, yX9_nodes) (by decide)) (by decide +kernel) ⟨Nat.le_of_ble_eq_true rfl, Nat.le_of_ble_eq_true rfl⟩) (gx_preV hK hPc hDc 5 0 rfl rfl) rfl rfl hl.1 rfl (lv_room (Nat.le_of_ble_eq_true rfl)) dX1_gates_103 ⟨Nat.le_of_ble_eq_true rfl, Nat.le_of_ble_eq_true rfl⟩) hP hD hS hA [0, 1, 2, 3, 4, 5, 6] [7] rfl rfl (by decide) (by decide) (fun r_974 u_974 H locs hw_974 hP hD hS => ?_)
              have hP : va_P G.1 vwCl [(p, .inr (5, [.ref q])), (q, .inr (0, [.ref qf, .ref qt, .ref qw, .ref qc, .ref qo, .int nd, .int rt, .int ex, .int mn])), (qf, .inl (G.2 0, 60, .inl f)), (qt, .inl (G.2 0, 60, .inl t)), (qw, .inl (G.2 0, 16, .inl w)), (qc, .inl (G.2 0, 16, .inl c)), (qo, .inl (G.2 1, 60, .inl o)), (pu, .inl (G.2 0, 16, .inl a_925))] H := hP.sub [1, 2, 3, 4, 5, 6, 7, 0] rfl
              have hD : va_D AA [(p, .inr (5, [.ref q])), (q, .inr (0, [.ref qf, .ref qt, .ref qw, .ref qc, .ref qo, .int nd, .int rt, .int ex, .int mn])), (qf, .inl (G.2 0, 60, .inl f)), (qt, .inl (G.2 0, 60, .inl t)), (qw, .inl (G.2 0, 16, .inl w)), (qc, .inl (G.2 0, 16, .inl c)), (qo, .inl (G.2 1, 60, .inl o)), (pu, .inl (G.2 0, 16, .inl a_925))] := hD.sub [1, 2, 3, 4, 5, 6, 7, 0] (by decide) rfl
              replace h := h r_974 hw_974
              refine lv_icmp_ge (tgt := 151) hx hb dX1_gates_108 (by decide) (fun c_975 => ?_) (fun c_975 => ?_)
              · replace h := h.1 c_975
                exact h _ _ _ hP hD hS (lv_sub hl [1, 2, 3, 4, 5, 6, 7] rfl)
              · replace h := h.2 c_975
                refine lv_iload_n hx hb dX1_gates_111 rfl (lv_at hl 6 rfl) ?_
                refine lv_iload hx hb dX1_gates_112 (lv_at hl 0 rfl) ?_
                have hPc := hP.sub (ws' := []) [] rfl
                have hDc := hD.sub (ws' := []) [] (by decide) rfl
                refine gx_i (G := G) (wc := []) (wr := [(p, .inr (5, [.ref q])), (q, .inr (0, [.ref qf, .ref qt, .ref qw, .ref qc, .ref qo, .int nd, .int rt, .int ex, .int mn])), (qf, .inl (G.2 0, 60, .inl f)), (qt, .inl (G.2 0, 60, .inl t)), (qw, .inl (G.2 0, 16, .inl w)), (qc, .inl (G.2 0, 16, .inl c)), (qo, .inl (G.2 1, 60, .inl o)), (pu, .inl (G.2 0, 16, .inl a_925))]) (va_runS (As := [.int al, .int x7_971]) (rest := []) ⟨hx, hb, hml, hown, hts⟩ (ct_X1_has lL G al x7_971 _) (va_cwS 2 hts (lw_S q534 q501 q164 q502) rfl rfl rfl (by decide +kernel) ⟨Nat.le_of_ble_eq_true rfl, Nat.le_of_ble_eq_true rfl⟩) (gx_preS hK hPc hDc) rfl rfl hl.1 rfl (lv_room (Nat.le_of_ble_eq_true rfl)) dX1_gates_114 ⟨Nat.le_of_ble_eq_true rfl, Nat.le_of_ble_eq_true rfl⟩) hP hD hS hA [] [0, 1, 2, 3, 4, 5, 6, 7] rfl rfl (by decide) (by decide) (fun r_976 u_976 H locs hw_976 hP hD hS => ?_)
                have hP : va_P G.1 vwCl [(p, .inr (5, [.ref q])), (q, .inr (0, [.ref qf, .ref qt, .ref qw, .ref qc, .ref qo, .int nd, .int rt, .int ex, .int mn])), (qf, .inl (G.2 0, 60, .inl f)), (qt, .inl (G.2 0, 60, .inl t)), (qw, .inl (G.2 0, 16, .inl w)), (qc, .inl (G.2 0, 16, .inl c)), (qo, .inl (G.2 1, 60, .inl o)), (pu, .inl (G.2 0, 16, .inl a_925))] H := hP
                have hD : va_D AA [(p, .inr (5, [.ref q])), (q, .inr (0, [.ref qf, .ref qt, .ref qw, .ref qc, .ref qo, .int nd, .int rt, .int ex, .int mn])), (qf, .inl (G.2 0, 60, .inl f)), (qt, .inl (G.2 0, 60, .inl t)), (qw, .inl (G.2 0, 16, .inl w)), (qc, .inl (G.2 0, 16, .inl c)), (qo, .inl (G.2 1, 60, .inl o)), (pu, .inl (G.2 0, 16, .inl a_925))] := hD
                replace h := h r_976 hw_976
                refine lv_if_eq (tgt := 145) hx hb dX1_gates_117 (by decide) (fun c_977 => ?_) (fun c_977 => ?_)
                · replace h := h.1 c_977
                  refine lv_iinc (v := x7_971 + 1) (lv' := [(7, .int (x7_971 + 1)), (6, .int x6_972), (5, .int x5_923), (4, .int x4_924), (0, .ref p), (1, .int fr), (2, .int al), (3, .ref pu)]) hx hb dX1_gates_145 hl (k := 0) rfl rfl (by decide) rfl (fun ls hl => ?_)
                  refine lv_goto (tgt := 100) hx hb dX1_gates_148 (by decide) ?_
                  exact h _ _ _ hP hD hS hl
                · replace h := h.2 c_977
                  refine lv_aload_n hx hb dX1_gates_120 rfl (lv_at hl 4 rfl) ?_
                  refine lv_iload hx hb dX1_gates_121 (lv_at hl 0 rfl) ?_
                  have hPc := hP.sub (ws' := [(p, .inr (5, [.ref q])), (q, .inr (0, [.ref qf, .ref qt, .ref qw, .ref qc, .ref qo, .int nd, .int rt, .int ex, .int mn])), (qf, .inl (G.2 0, 60, .inl f)), (qt, .inl (G.2 0, 60, .inl t)), (qw, .inl (G.2 0, 16, .inl w)), (qc, .inl (G.2 0, 16, .inl c)), (qo, .inl (G.2 1, 60, .inl o))]) [0, 1, 2, 3, 4, 5, 6] rfl
                  have hDc := hD.sub (ws' := [(p, .inr (5, [.ref q])), (q, .inr (0, [.ref qf, .ref qt, .ref qw, .ref qc, .ref qo, .int nd, .int rt, .int ex, .int mn])), (qf, .inl (G.2 0, 60, .inl f)), (qt, .inl (G.2 0, 60, .inl t)), (qw, .inl (G.2 0, 16, .inl w)), (qc, .inl (G.2 0, 16, .inl c)), (qo, .inl (G.2 1, 60, .inl o))]) [0, 1, 2, 3, 4, 5, 6] (by decide) rfl
                  refine gx_Fi (G := G) (wc := [(p, .inr (5, [.ref q])), (q, .inr (0, [.ref qf, .ref qt, .ref qw, .ref qc, .ref qo, .int nd, .int rt, .int ex, .int mn])), (qf, .inl (G.2 0, 60, .inl f)), (qt, .inl (G.2 0, 60, .inl t)), (qw, .inl (G.2 0, 16, .inl w)), (qc, .inl (G.2 0, 16, .inl c)), (qo, .inl (G.2 1, 60, .inl o))]) (wr := [(pu, .inl (G.2 0, 16, .inl a_925))]) (va_runF (As := [.int x7_971]) (rest := []) (hK.1.1 5 _ rfl).2 ⟨hx, hb, hml, hown, hts⟩ (ct_X9_next lL G p q qf qt qw qc qo f t w c o nd rt ex mn x7_971 h.1 _) (va_cwF 1 hts (lw_F q536 q517 q519 q192 q521) rfl rfl rfl (hK.2.2.1 ("GateLifter$Turned", yF_next, yX9_next) (by decide)) (by decide +kernel) ⟨Nat.le_of_ble_eq_true rfl, Nat.le_of_ble_eq_true rfl⟩) (gx_preV hK hPc hDc 5 0 rfl rfl) rfl rfl hl.1 rfl (lv_room (Nat.le_of_ble_eq_true rfl)) dX1_gates_123 ⟨Nat.le_of_ble_eq_true rfl, Nat.le_of_ble_eq_true rfl⟩) hP hD hS hA [0, 1, 2, 3, 4, 5, 6] [7] rfl rfl (by decide) (by decide) (fun r_978 u_978 H locs hw_978 hP hD hS => ?_)
                  replace h := h.2
                  have hP : va_P G.1 vwCl [(p, .inr (5, [.ref q])), (q, .inr (0, [.ref qf, .ref qt, .ref qw, .ref qc, .ref qo, .int nd, .int rt, .int ex, .int mn])), (qf, .inl (G.2 0, 60, .inl f)), (qt, .inl (G.2 0, 60, .inl t)), (qw, .inl (G.2 0, 16, .inl w)), (qc, .inl (G.2 0, 16, .inl c)), (qo, .inl (G.2 1, 60, .inl o)), (pu, .inl (G.2 0, 16, .inl a_925))] H := hP.sub [1, 2, 3, 4, 5, 6, 7, 0] rfl
                  have hD : va_D AA [(p, .inr (5, [.ref q])), (q, .inr (0, [.ref qf, .ref qt, .ref qw, .ref qc, .ref qo, .int nd, .int rt, .int ex, .int mn])), (qf, .inl (G.2 0, 60, .inl f)), (qt, .inl (G.2 0, 60, .inl t)), (qw, .inl (G.2 0, 16, .inl w)), (qc, .inl (G.2 0, 16, .inl c)), (qo, .inl (G.2 1, 60, .inl o)), (pu, .inl (G.2 0, 16, .inl a_925))] := hD.sub [1, 2, 3, 4, 5, 6, 7, 0] (by decide) rfl
                  replace h := h r_978 hw_978
                  refine lv_iload hx hb dX1_gates_128 (lv_at hl 2 rfl) ?_
                  have hPc := hP.sub (ws' := []) [] rfl
                  have hDc := hD.sub (ws' := []) [] (by decide) rfl
                  refine gx_i (G := G) (wc := []) (wr := [(p, .inr (5, [.ref q])), (q, .inr (0, [.ref qf, .ref qt, .ref qw, .ref qc, .ref qo, .int nd, .int rt, .int ex, .int mn])), (qf, .inl (G.2 0, 60, .inl f)), (qt, .inl (G.2 0, 60, .inl t)), (qw, .inl (G.2 0, 16, .inl w)), (qc, .inl (G.2 0, 16, .inl c)), (qo, .inl (G.2 1, 60, .inl o)), (pu, .inl (G.2 0, 16, .inl a_925))]) (va_runS (As := [.int r_978, .int x5_923]) (rest := []) ⟨hx, hb, hml, hown, hts⟩ (ct_X1_has lL G r_978 x5_923 _) (va_cwS 2 hts (lw_S q534 q501 q164 q502) rfl rfl rfl (by decide +kernel) ⟨Nat.le_of_ble_eq_true rfl, Nat.le_of_ble_eq_true rfl⟩) (gx_preS hK hPc hDc) rfl rfl hl.1 rfl (lv_room (Nat.le_of_ble_eq_true rfl)) dX1_gates_130 ⟨Nat.le_of_ble_eq_true rfl, Nat.le_of_ble_eq_true rfl⟩) hP hD hS hA [] [0, 1, 2, 3, 4, 5, 6, 7] rfl rfl (by decide) (by decide) (fun r_979 u_979 H locs hw_979 hP hD hS => ?_)
                  have hP : va_P G.1 vwCl [(p, .inr (5, [.ref q])), (q, .inr (0, [.ref qf, .ref qt, .ref qw, .ref qc, .ref qo, .int nd, .int rt, .int ex, .int mn])), (qf, .inl (G.2 0, 60, .inl f)), (qt, .inl (G.2 0, 60, .inl t)), (qw, .inl (G.2 0, 16, .inl w)), (qc, .inl (G.2 0, 16, .inl c)), (qo, .inl (G.2 1, 60, .inl o)), (pu, .inl (G.2 0, 16, .inl a_925))] H := hP
                  have hD : va_D AA [(p, .inr (5, [.ref q])), (q, .inr (0, [.ref qf, .ref qt, .ref qw, .ref qc, .ref qo, .int nd, .int rt, .int ex, .int mn])), (qf, .inl (G.2 0, 60, .inl f)), (qt, .inl (G.2 0, 60, .inl t)), (qw, .inl (G.2 0, 16, .inl w)), (qc, .inl (G.2 0, 16, .inl c)), (qo, .inl (G.2 1, 60, .inl o)), (pu, .inl (G.2 0, 16, .inl a_925))] := hD
                  replace h := h r_979 hw_979
                  refine lv_if_eq (tgt := 145) hx hb dX1_gates_133 (by decide) (fun c_980 => ?_) (fun c_980 => ?_)
                  · replace h := h.1 c_980
                    refine lv_iinc (v := x7_971 + 1) (lv' := [(7, .int (x7_971 + 1)), (6, .int x6_972), (5, .int x5_923), (4, .int x4_924), (0, .ref p), (1, .int fr), (2, .int al), (3, .ref pu)]) hx hb dX1_gates_145 hl (k := 0) rfl rfl (by decide) rfl (fun ls hl => ?_)
                    refine lv_goto (tgt := 100) hx hb dX1_gates_148 (by decide) ?_
                    exact h _ _ _ hP hD hS hl
                  · replace h := h.2 c_980
                    refine lv_iload hx hb dX1_gates_136 (lv_at hl 1 rfl) ?_
                    refine lv_aload_n hx hb dX1_gates_138 rfl (lv_at hl 7 rfl) ?_
                    refine lv_iload hx hb dX1_gates_139 (lv_at hl 0 rfl) ?_
                    have b_981 := h.1
                    refine va_iald hx hb hK.1 hP 7 0 rfl rfl b_981 dX1_gates_141 ?_
                    replace h := h.2
                    refine lv_iand hx hb dX1_gates_142 ?_
                    refine lv_istore (lv' := [(6, .int (x6_972 &&& (a_925 x7_971.toNatClampNeg))), (7, .int x7_971), (5, .int x5_923), (4, .int x4_924), (0, .ref p), (1, .int fr), (2, .int al), (3, .ref pu)]) hx hb dX1_gates_143 hl (by decide) rfl (fun ls hl => ?_)
                    refine lv_iinc (v := x7_971 + 1) (lv' := [(7, .int (x7_971 + 1)), (6, .int (x6_972 &&& (a_925 x7_971.toNatClampNeg))), (5, .int x5_923), (4, .int x4_924), (0, .ref p), (1, .int fr), (2, .int al), (3, .ref pu)]) hx hb dX1_gates_145 hl (k := 1) rfl rfl (by decide) rfl (fun ls hl => ?_)
                    refine lv_goto (tgt := 100) hx hb dX1_gates_148 (by decide) ?_
                    exact h _ _ _ hP hD hS hl
            · replace h := h.2 c_931
              refine lv_goto (tgt := 187) hx hb dX1_gates_91 (by decide) ?_
              refine lv_iinc (v := x5_923 + 1) (lv' := [(5, .int (x5_923 + 1)), (4, .int x4_924), (0, .ref p), (1, .int fr), (2, .int al), (3, .ref pu)]) hx hb dX1_gates_187 hl (k := 0) rfl rfl (by decide) rfl (fun ls hl => ?_)
              refine lv_goto (tgt := 65) hx hb dX1_gates_190 (by decide) ?_
              exact h _ _ _ hP hD hS hl)
  refine h (fun (x4_983 : Int32) (a_984 : Nat → Int32) => ∀ (H : Heap) (locs : List Loc) (ls : Array Slot), va_P G.1 vwCl [(p, .inr (5, [.ref q])), (q, .inr (0, [.ref qf, .ref qt, .ref qw, .ref qc, .ref qo, .int nd, .int rt, .int ex, .int mn])), (qf, .inl (G.2 0, 60, .inl f)), (qt, .inl (G.2 0, 60, .inl t)), (qw, .inl (G.2 0, 16, .inl w)), (qc, .inl (G.2 0, 16, .inl c)), (qo, .inl (G.2 1, 60, .inl o)), (pu, .inl (G.2 0, 16, .inl a_984))] H → va_D AA [(p, .inr (5, [.ref q])), (q, .inr (0, [.ref qf, .ref qt, .ref qw, .ref qc, .ref qo, .int nd, .int rt, .int ex, .int mn])), (qf, .inl (G.2 0, 60, .inl f)), (qt, .inl (G.2 0, 60, .inl t)), (qw, .inl (G.2 0, 16, .inl w)), (qc, .inl (G.2 0, 16, .inl c)), (qo, .inl (G.2 1, 60, .inl o)), (pu, .inl (G.2 0, 16, .inl a_984))] → va_S AA sS.heap H locs → lv_has ls 8 [(4, .int x4_983), (0, .ref p), (1, .int fr), (2, .int al), (3, .ref pu)] → W pp lL eE RX1_gates_U sS mM ar below meth cC H locs 0 0 QQ (F0 mM 3 ls [])) ?_  _ _ _ hP hD hS hl
  clear h
  intro x4_983 a_984 h H locs ls hP hD hS hl
  refine lv_iload hx hb dX1_gates_3 (lv_at hl 0 rfl) ?_
  refine lv_aload_n hx hb dX1_gates_5 rfl (lv_at hl 1 rfl) ?_
  have hPc := hP.sub (ws' := [(p, .inr (5, [.ref q])), (q, .inr (0, [.ref qf, .ref qt, .ref qw, .ref qc, .ref qo, .int nd, .int rt, .int ex, .int mn])), (qf, .inl (G.2 0, 60, .inl f)), (qt, .inl (G.2 0, 60, .inl t)), (qw, .inl (G.2 0, 16, .inl w)), (qc, .inl (G.2 0, 16, .inl c)), (qo, .inl (G.2 1, 60, .inl o))]) [0, 1, 2, 3, 4, 5, 6] rfl
  have hDc := hD.sub (ws' := [(p, .inr (5, [.ref q])), (q, .inr (0, [.ref qf, .ref qt, .ref qw, .ref qc, .ref qo, .int nd, .int rt, .int ex, .int mn])), (qf, .inl (G.2 0, 60, .inl f)), (qt, .inl (G.2 0, 60, .inl t)), (qw, .inl (G.2 0, 16, .inl w)), (qc, .inl (G.2 0, 16, .inl c)), (qo, .inl (G.2 1, 60, .inl o))]) [0, 1, 2, 3, 4, 5, 6] (by decide) rfl
  refine gx_Fi (G := G) (wc := [(p, .inr (5, [.ref q])), (q, .inr (0, [.ref qf, .ref qt, .ref qw, .ref qc, .ref qo, .int nd, .int rt, .int ex, .int mn])), (qf, .inl (G.2 0, 60, .inl f)), (qt, .inl (G.2 0, 60, .inl t)), (qw, .inl (G.2 0, 16, .inl w)), (qc, .inl (G.2 0, 16, .inl c)), (qo, .inl (G.2 1, 60, .inl o))]) (wr := [(pu, .inl (G.2 0, 16, .inl a_984))]) (va_runF (As := []) (rest := [.int x4_983]) (hK.1.1 5 _ rfl).2 ⟨hx, hb, hml, hown, hts⟩ (ct_X9_nodes lL G p q qf qt qw qc qo f t w c o nd rt ex mn _) (va_cwF 0 hts (lw_F q533 q493 q495 q192 q497) rfl rfl rfl (hK.2.2.1 ("GateLifter$Turned", yF_nodes, yX9_nodes) (by decide)) (by decide +kernel) ⟨Nat.le_of_ble_eq_true rfl, Nat.le_of_ble_eq_true rfl⟩) (gx_preV hK hPc hDc 5 0 rfl rfl) rfl rfl hl.1 rfl (lv_room (Nat.le_of_ble_eq_true rfl)) dX1_gates_6 ⟨Nat.le_of_ble_eq_true rfl, Nat.le_of_ble_eq_true rfl⟩) hP hD hS hA [0, 1, 2, 3, 4, 5, 6] [7] rfl rfl (by decide) (by decide) (fun r_986 u_986 H locs hw_986 hP hD hS => ?_)
  have hP : va_P G.1 vwCl [(p, .inr (5, [.ref q])), (q, .inr (0, [.ref qf, .ref qt, .ref qw, .ref qc, .ref qo, .int nd, .int rt, .int ex, .int mn])), (qf, .inl (G.2 0, 60, .inl f)), (qt, .inl (G.2 0, 60, .inl t)), (qw, .inl (G.2 0, 16, .inl w)), (qc, .inl (G.2 0, 16, .inl c)), (qo, .inl (G.2 1, 60, .inl o)), (pu, .inl (G.2 0, 16, .inl a_984))] H := hP.sub [1, 2, 3, 4, 5, 6, 7, 0] rfl
  have hD : va_D AA [(p, .inr (5, [.ref q])), (q, .inr (0, [.ref qf, .ref qt, .ref qw, .ref qc, .ref qo, .int nd, .int rt, .int ex, .int mn])), (qf, .inl (G.2 0, 60, .inl f)), (qt, .inl (G.2 0, 60, .inl t)), (qw, .inl (G.2 0, 16, .inl w)), (qc, .inl (G.2 0, 16, .inl c)), (qo, .inl (G.2 1, 60, .inl o)), (pu, .inl (G.2 0, 16, .inl a_984))] := hD.sub [1, 2, 3, 4, 5, 6, 7, 0] (by decide) rfl
  replace h := h r_986 hw_986
  refine lv_icmp_ge (tgt := 51) hx hb dX1_gates_11 (by decide) (fun c_987 => ?_) (fun c_987 => ?_)
  · replace h := h.1 c_987
    exact h _ _ _ hP hD hS (lv_sub hl [1, 2, 3, 4] rfl)
  · replace h := h.2 c_987
    refine lv_aload_n hx hb dX1_gates_14 rfl (lv_at hl 4 rfl) ?_
    refine lv_iload hx hb dX1_gates_15 (lv_at hl 0 rfl) ?_
    refine lv_iload_n hx hb dX1_gates_17 rfl (lv_at hl 3 rfl) ?_
    refine lv_iload hx hb dX1_gates_18 (lv_at hl 0 rfl) ?_
    have hPc := hP.sub (ws' := []) [] rfl
    have hDc := hD.sub (ws' := []) [] (by decide) rfl
    refine gx_i (G := G) (wc := []) (wr := [(p, .inr (5, [.ref q])), (q, .inr (0, [.ref qf, .ref qt, .ref qw, .ref qc, .ref qo, .int nd, .int rt, .int ex, .int mn])), (qf, .inl (G.2 0, 60, .inl f)), (qt, .inl (G.2 0, 60, .inl t)), (qw, .inl (G.2 0, 16, .inl w)), (qc, .inl (G.2 0, 16, .inl c)), (qo, .inl (G.2 1, 60, .inl o)), (pu, .inl (G.2 0, 16, .inl a_984))]) (va_runS (As := [.int al, .int x4_983]) (rest := [.int x4_983, .ref pu]) ⟨hx, hb, hml, hown, hts⟩ (ct_X1_has lL G al x4_983 _) (va_cwS 2 hts (lw_S q534 q501 q164 q502) rfl rfl rfl (by decide +kernel) ⟨Nat.le_of_ble_eq_true rfl, Nat.le_of_ble_eq_true rfl⟩) (gx_preS hK hPc hDc) rfl rfl hl.1 rfl (lv_room (Nat.le_of_ble_eq_true rfl)) dX1_gates_20 ⟨Nat.le_of_ble_eq_true rfl, Nat.le_of_ble_eq_true rfl⟩) hP hD hS hA [] [0, 1, 2, 3, 4, 5, 6, 7] rfl rfl (by decide) (by decide) (fun r_988 u_988 H locs hw_988 hP hD hS => ?_)
    have hP : va_P G.1 vwCl [(p, .inr (5, [.ref q])), (q, .inr (0, [.ref qf, .ref qt, .ref qw, .ref qc, .ref qo, .int nd, .int rt, .int ex, .int mn])), (qf, .inl (G.2 0, 60, .inl f)), (qt, .inl (G.2 0, 60, .inl t)), (qw, .inl (G.2 0, 16, .inl w)), (qc, .inl (G.2 0, 16, .inl c)), (qo, .inl (G.2 1, 60, .inl o)), (pu, .inl (G.2 0, 16, .inl a_984))] H := hP
    have hD : va_D AA [(p, .inr (5, [.ref q])), (q, .inr (0, [.ref qf, .ref qt, .ref qw, .ref qc, .ref qo, .int nd, .int rt, .int ex, .int mn])), (qf, .inl (G.2 0, 60, .inl f)), (qt, .inl (G.2 0, 60, .inl t)), (qw, .inl (G.2 0, 16, .inl w)), (qc, .inl (G.2 0, 16, .inl c)), (qo, .inl (G.2 1, 60, .inl o)), (pu, .inl (G.2 0, 16, .inl a_984))] := hD
    replace h := h r_988 hw_988
    refine lv_if_eq (tgt := 43) hx hb dX1_gates_23 (by decide) (fun c_989 => ?_) (fun c_989 => ?_)
    · replace h := h.1 c_989
      refine lv_iconst (v := 0) hx hb dX1_gates_43 (by decide) ?_
      have b_990 := h.1
      refine va_iast hx hb hK.1 hP hD hS 7 0 rfl rfl b_990 dX1_gates_44 (fun H locs hP hD hS => ?_)
      replace h := h.2
      obtain ⟨u_991, eu_991⟩ : ∃ z__, z__ = upd a_984 x4_983.toNatClampNeg 0 := ⟨_, rfl⟩
      replace h := h u_991 eu_991
      have hP : va_P G.1 vwCl [(p, .inr (5, [.ref q])), (q, .inr (0, [.ref qf, .ref qt, .ref qw, .ref qc, .ref qo, .int nd, .int rt, .int ex, .int mn])), (qf, .inl (G.2 0, 60, .inl f)), (qt, .inl (G.2 0, 60, .inl t)), (qw, .inl (G.2 0, 16, .inl w)), (qc, .inl (G.2 0, 16, .inl c)), (qo, .inl (G.2 1, 60, .inl o)), (pu, .inl (G.2 0, 16, .inl u_991))] H := by rw [eu_991]; exact hP
      have hD : va_D AA [(p, .inr (5, [.ref q])), (q, .inr (0, [.ref qf, .ref qt, .ref qw, .ref qc, .ref qo, .int nd, .int rt, .int ex, .int mn])), (qf, .inl (G.2 0, 60, .inl f)), (qt, .inl (G.2 0, 60, .inl t)), (qw, .inl (G.2 0, 16, .inl w)), (qc, .inl (G.2 0, 16, .inl c)), (qo, .inl (G.2 1, 60, .inl o)), (pu, .inl (G.2 0, 16, .inl u_991))] := by rw [eu_991]; exact hD
      refine lv_iinc (v := x4_983 + 1) (lv' := [(4, .int (x4_983 + 1)), (0, .ref p), (1, .int fr), (2, .int al), (3, .ref pu)]) hx hb dX1_gates_45 hl (k := 0) rfl rfl (by decide) rfl (fun ls hl => ?_)
      refine lv_goto (tgt := 3) hx hb dX1_gates_48 (by decide) ?_
      exact h _ _ _ hP hD hS hl
    · replace h := h.2 c_989
      refine lv_iload hx hb dX1_gates_26 (lv_at hl 0 rfl) ?_
      refine lv_iload_n hx hb dX1_gates_28 rfl (lv_at hl 2 rfl) ?_
      refine lv_icmp_ne (tgt := 39) hx hb dX1_gates_29 (by decide) (fun c_992 => ?_) (fun c_992 => ?_)
      · replace h := h.1 c_992
        refine lv_iload_n hx hb dX1_gates_39 rfl (lv_at hl 3 rfl) ?_
        refine lv_goto (tgt := 44) hx hb dX1_gates_40 (by decide) ?_
        have b_993 := h.1
        refine va_iast hx hb hK.1 hP hD hS 7 0 rfl rfl b_993 dX1_gates_44 (fun H locs hP hD hS => ?_)
        replace h := h.2
        obtain ⟨u_994, eu_994⟩ : ∃ z__, z__ = upd a_984 x4_983.toNatClampNeg al := ⟨_, rfl⟩
        replace h := h u_994 eu_994
        have hP : va_P G.1 vwCl [(p, .inr (5, [.ref q])), (q, .inr (0, [.ref qf, .ref qt, .ref qw, .ref qc, .ref qo, .int nd, .int rt, .int ex, .int mn])), (qf, .inl (G.2 0, 60, .inl f)), (qt, .inl (G.2 0, 60, .inl t)), (qw, .inl (G.2 0, 16, .inl w)), (qc, .inl (G.2 0, 16, .inl c)), (qo, .inl (G.2 1, 60, .inl o)), (pu, .inl (G.2 0, 16, .inl u_994))] H := by rw [eu_994]; exact hP
        have hD : va_D AA [(p, .inr (5, [.ref q])), (q, .inr (0, [.ref qf, .ref qt, .ref qw, .ref qc, .ref qo, .int nd, .int rt, .int ex, .int mn])), (qf, .inl (G.2 0, 60, .inl f)), (qt, .inl (G.2 0, 60, .inl t)), (qw, .inl (G.2 0, 16, .inl w)), (qc, .inl (G.2 0, 16, .inl c)), (qo, .inl (G.2 1, 60, .inl o)), (pu, .inl (G.2 0, 16, .inl u_994))] := by rw [eu_994]; exact hD
        refine lv_iinc (v := x4_983 + 1) (lv' := [(4, .int (x4_983 + 1)), (0, .ref p), (1, .int fr), (2, .int al), (3, .ref pu)]) hx hb dX1_gates_45 hl (k := 0) rfl rfl (by decide) rfl (fun ls hl => ?_)
        refine lv_goto (tgt := 3) hx hb dX1_gates_48 (by decide) ?_
        exact h _ _ _ hP hD hS hl
      · replace h := h.2 c_992
        refine lv_iconst (v := 1) hx hb dX1_gates_32 (by decide) ?_
        refine lv_iload hx hb dX1_gates_33 (lv_at hl 0 rfl) ?_
        refine lv_ishl hx hb dX1_gates_35 ?_
        refine lv_goto (tgt := 44) hx hb dX1_gates_36 (by decide) ?_
        have b_995 := h.1
        refine va_iast hx hb hK.1 hP hD hS 7 0 rfl rfl b_995 dX1_gates_44 (fun H locs hP hD hS => ?_)
        replace h := h.2
        obtain ⟨u_996, eu_996⟩ : ∃ z__, z__ = upd a_984 x4_983.toNatClampNeg (1 <<< (x4_983 &&& 31)) := ⟨_, rfl⟩
        replace h := h u_996 eu_996
        have hP : va_P G.1 vwCl [(p, .inr (5, [.ref q])), (q, .inr (0, [.ref qf, .ref qt, .ref qw, .ref qc, .ref qo, .int nd, .int rt, .int ex, .int mn])), (qf, .inl (G.2 0, 60, .inl f)), (qt, .inl (G.2 0, 60, .inl t)), (qw, .inl (G.2 0, 16, .inl w)), (qc, .inl (G.2 0, 16, .inl c)), (qo, .inl (G.2 1, 60, .inl o)), (pu, .inl (G.2 0, 16, .inl u_996))] H := by rw [eu_996]; exact hP
        have hD : va_D AA [(p, .inr (5, [.ref q])), (q, .inr (0, [.ref qf, .ref qt, .ref qw, .ref qc, .ref qo, .int nd, .int rt, .int ex, .int mn])), (qf, .inl (G.2 0, 60, .inl f)), (qt, .inl (G.2 0, 60, .inl t)), (qw, .inl (G.2 0, 16, .inl w)), (qc, .inl (G.2 0, 16, .inl c)), (qo, .inl (G.2 1, 60, .inl o)), (pu, .inl (G.2 0, 16, .inl u_996))] := by rw [eu_996]; exact hD
        refine lv_iinc (v := x4_983 + 1) (lv' := [(4, .int (x4_983 + 1)), (0, .ref p), (1, .int fr), (2, .int al), (3, .ref pu)]) hx hb dX1_gates_45 hl (k := 0) rfl rfl (by decide) rfl (fun ls hl => ?_)
        refine lv_goto (tgt := 3) hx hb dX1_gates_48 (by decide) ?_
        exact h _ _ _ hP hD hS hl
theorem ct_X1_gates_U (lL : Launch) (G : GE) (p q qf qt qw qc qo pu : Nat) (f t w c o : Nat → Int32) (nd rt ex mn : Int32) (ou : Nat → Int32) (fr al : Int32) (hp : pr_X1_gates_U f t w c o nd rt ex mn ou fr al) : CtV lL yX1_gates (ws_ yX1_gates cX1_gates 8 none) RX1_gates_U G [.ref p, .int fr, .int al, .ref pu] [(p, .inr (5, [.ref q])), (q, .inr (0, [.ref qf, .ref qt, .ref qw, .ref qc, .ref qo, .int nd, .int rt, .int ex, .int mn])), (qf, .inl (G.2 0, 60, .inl f)), (qt, .inl (G.2 0, 60, .inl t)), (qw, .inl (G.2 0, 16, .inl w)), (qc, .inl (G.2 0, 16, .inl c)), (qo, .inl (G.2 1, 60, .inl o)), (pu, .inl (G.2 0, 16, .inl ou))] (fun (uu_ : (Nat → Int32)) => ps_X1_gates_U f t w c o nd rt ex mn ou fr al uu_) (fun (uu_ : (Nat → Int32)) => [(p, .inr (5, [.ref q])), (q, .inr (0, [.ref qf, .ref qt, .ref qw, .ref qc, .ref qo, .int nd, .int rt, .int ex, .int mn])), (qf, .inl (G.2 0, 60, .inl f)), (qt, .inl (G.2 0, 60, .inl t)), (qw, .inl (G.2 0, 16, .inl w)), (qc, .inl (G.2 0, 16, .inl c)), (qo, .inl (G.2 1, 60, .inl o)), (pu, .inl (G.2 0, 16, .inl uu_))]) :=
  wk_X1_gates_U lL G p q qf qt qw qc qo pu f t w c o nd rt ex mn ou fr al _ (pf_X1_gates_U f t w c o nd rt ex mn ou fr al hp)
