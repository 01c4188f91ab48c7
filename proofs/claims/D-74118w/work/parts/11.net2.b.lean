set_option linter.all false
/-! net2: the walks (printed by gen.py) -/
abbrev RX3_reached : Room := ({ frames := 3, cells := 0, slots := 0, locals := 58 } : Room)
set_option maxHeartbeats 4000000 in
set_option maxRecDepth 100000 in
theorem wk_X3_reached (lL : Launch) (G : GE) (p pf pt pw pc po : Nat) (f t w c o : Nat → Int32) (nd rt ex mn : Int32) (Q : Int32 → Prop) (h : wp_X3_reached f t w c o nd rt ex mn Q) : CtI lL yX3_reached (ws_ yX3_reached cX3_reached 1 (some .int)) RX3_reached G [.ref p] [(p, .inr (0, [.ref pf, .ref pt, .ref pw, .ref pc, .ref po, .int nd, .int rt, .int ex, .int mn])), (pf, .inl (G.2 0, 60, .inl f)), (pt, .inl (G.2 0, 60, .inl t)), (pw, .inl (G.2 0, 16, .inl w)), (pc, .inl (G.2 0, 16, .inl c)), (po, .inl (G.2 1, 60, .inl o))] (fun (rr_ : Int32) (uu_ : Unit) => Q rr_ ) (fun (uu_ : Unit) => [(p, .inr (0, [.ref pf, .ref pt, .ref pw, .ref pc, .ref po, .int nd, .int rt, .int ex, .int mn])), (pf, .inl (G.2 0, 60, .inl f)), (pt, .inl (G.2 0, 60, .inl t)), (pw, .inl (G.2 0, 16, .inl w)), (pc, .inl (G.2 0, 16, .inl c)), (po, .inl (G.2 1, 60, .inl o))]) := by
  refine gx_of (cc := cX3_reached) (maxL := 1) (ret := (some .int)) (by decide) (Nat.le_of_ble_eq_true rfl) ?_
  intro pp eE sS mM ar below meth cC AA ls QQ hx hb hr hml hts hown hlocks hnm hK hAe hQQ hP hD hA hS hl
  have hl : lv_has ls 1 [(0, .ref p)] := hl
  refine lv_aload_n hx hb dX3_reached_0 rfl (lv_at hl 0 rfl) ?_
  refine lv_aload_n hx hb dX3_reached_1 rfl (lv_at hl 0 rfl) ?_
  refine va_get (D := G.1) (ci := 0) (v := .int rt) (C := RX3) (T := TX3) (N := 9) hx hb hts in_X3 hown hK.1 hP 0 rfl rfl 6 (by decide) (hts _ q227) (fun _ h9 => h9) rfl dX3_reached_2 ?_
  refine lv_iconst (v := 0) hx hb dX3_reached_5 (by decide) ?_
  have hPc := hP.sub (ws' := [(p, .inr (0, [.ref pf, .ref pt, .ref pw, .ref pc, .ref po, .int nd, .int rt, .int ex, .int mn])), (pf, .inl (G.2 0, 60, .inl f)), (pt, .inl (G.2 0, 60, .inl t)), (pw, .inl (G.2 0, 16, .inl w)), (pc, .inl (G.2 0, 16, .inl c)), (po, .inl (G.2 1, 60, .inl o))]) [0, 1, 2, 3, 4, 5] rfl
  have hDc := hD.sub (ws' := [(p, .inr (0, [.ref pf, .ref pt, .ref pw, .ref pc, .ref po, .int nd, .int rt, .int ex, .int mn])), (pf, .inl (G.2 0, 60, .inl f)), (pt, .inl (G.2 0, 60, .inl t)), (pw, .inl (G.2 0, 16, .inl w)), (pc, .inl (G.2 0, 16, .inl c)), (po, .inl (G.2 1, 60, .inl o))]) [0, 1, 2, 3, 4, 5] (by decide) rfl
  refine gx_i (G := G) (wc := [(p, .inr (0, [.ref pf, .ref pt, .ref pw, .ref pc, .ref po, .int nd, .int rt, .int ex, .int mn])), (pf, .inl (G.2 0, 60, .inl f)), (pt, .inl (G.2 0, 60, .inl t)), (pw, .inl (G.2 0, 16, .inl w)), (pc, .inl (G.2 0, 16, .inl c)), (po, .inl (G.2 1, 60, .inl o))]) (wr := []) (gx_runVD (n := 2) (As := [.int rt, .int 0]) (rest := []) (x := ⟨"GateLifter$Net", "reach", "(II)I"⟩) (owner := "GateLifter$Flow") (hK.1.1 0 _ rfl).2 ⟨hx, hb, hml, hown, hts⟩ (ct_X8_reach_N lL G p pf pt pw pc po f t w c o nd rt ex mn rt 0 h.1 _) rfl (lw_meth q475) rfl rfl (hK.dw 0 rfl) (hK.dw 3 rfl) (va_Nw.use rfl (hK.nw q471 rfl)) (hK.lands 0 rfl) (hts _ q473) (hts _ q191) (by decide +kernel) ⟨Nat.le_of_ble_eq_true rfl, Nat.le_of_ble_eq_true rfl⟩ (gx_preV hK hPc hDc 0 0 rfl rfl) rfl rfl hl.1 rfl (lv_room (Nat.le_of_ble_eq_true rfl)) dX3_reached_6 ⟨Nat.le_of_ble_eq_true rfl, Nat.le_of_ble_eq_true rfl⟩) hP hD hS hA [0, 1, 2, 3, 4, 5] [] rfl rfl (by decide) (by decide) (fun r_1 u_1 H locs hw_1 hP hD hS => ?_)
  replace h := h.2
  have hP : va_P G.1 vwCl [(p, .inr (0, [.ref pf, .ref pt, .ref pw, .ref pc, .ref po, .int nd, .int rt, .int ex, .int mn])), (pf, .inl (G.2 0, 60, .inl f)), (pt, .inl (G.2 0, 60, .inl t)), (pw, .inl (G.2 0, 16, .inl w)), (pc, .inl (G.2 0, 16, .inl c)), (po, .inl (G.2 1, 60, .inl o))] H := hP
  have hD : va_D AA [(p, .inr (0, [.ref pf, .ref pt, .ref pw, .ref pc, .ref po, .int nd, .int rt, .int ex, .int mn])), (pf, .inl (G.2 0, 60, .inl f)), (pt, .inl (G.2 0, 60, .inl t)), (pw, .inl (G.2 0, 16, .inl w)), (pc, .inl (G.2 0, 16, .inl c)), (po, .inl (G.2 1, 60, .inl o))] := hD
  replace h := h r_1 hw_1
  subst hQQ; exact gx_iret () hx hb hr hlocks hAe hP hD hS (Nat.le_of_ble_eq_true rfl) (Nat.le_of_ble_eq_true rfl) h dX3_reached_9
theorem ct_X3_reached (lL : Launch) (G : GE) (p pf pt pw pc po : Nat) (f t w c o : Nat → Int32) (nd rt ex mn : Int32) (hp : pr_X3_reached f t w c o nd rt ex mn) : CtI lL yX3_reached (ws_ yX3_reached cX3_reached 1 (some .int)) RX3_reached G [.ref p] [(p, .inr (0, [.ref pf, .ref pt, .ref pw, .ref pc, .ref po, .int nd, .int rt, .int ex, .int mn])), (pf, .inl (G.2 0, 60, .inl f)), (pt, .inl (G.2 0, 60, .inl t)), (pw, .inl (G.2 0, 16, .inl w)), (pc, .inl (G.2 0, 16, .inl c)), (po, .inl (G.2 1, 60, .inl o))] (fun (rr_ : Int32) (uu_ : Unit) => ps_X3_reached f t w c o nd rt ex mn rr_ ) (fun (uu_ : Unit) => [(p, .inr (0, [.ref pf, .ref pt, .ref pw, .ref pc, .ref po, .int nd, .int rt, .int ex, .int mn])), (pf, .inl (G.2 0, 60, .inl f)), (pt, .inl (G.2 0, 60, .inl t)), (pw, .inl (G.2 0, 16, .inl w)), (pc, .inl (G.2 0, 16, .inl c)), (po, .inl (G.2 1, 60, .inl o))]) :=
  wk_X3_reached lL G p pf pt pw pc po f t w c o nd rt ex mn _ (pf_X3_reached f t w c o nd rt ex mn hp)
abbrev RX3_isOpenFrom : Room := ({ frames := 2, cells := 0, slots := 0, locals := 33 } : Room)
set_option maxHeartbeats 4000000 in
set_option maxRecDepth 100000 in
theorem wk_X3_isOpenFrom (lL : Launch) (G : GE) (p pf pt pw pc po : Nat) (f t w c o : Nat → Int32) (nd rt ex mn k s : Int32) (Q : Int32 → Prop) (h : wp_X3_isOpenFrom f t w c o nd rt ex mn k s Q) : CtI lL yX3_isOpenFrom (ws_ yX3_isOpenFrom cX3_isOpenFrom 3 (some .boolean)) RX3_isOpenFrom G [.ref p, .int k, .int s] [(p, .inr (0, [.ref pf, .ref pt, .ref pw, .ref pc, .ref po, .int nd, .int rt, .int ex, .int mn])), (pf, .inl (G.2 0, 60, .inl f)), (pt, .inl (G.2 0, 60, .inl t)), (pw, .inl (G.2 0, 16, .inl w)), (pc, .inl (G.2 0, 16, .inl c)), (po, .inl (G.2 1, 60, .inl o))] (fun (rr_ : Int32) (uu_ : Unit) => Q rr_ ) (fun (uu_ : Unit) => [(p, .inr (0, [.ref pf, .ref pt, .ref pw, .ref pc, .ref po, .int nd, .int rt, .int ex, .int mn])), (pf, .inl (G.2 0, 60, .inl f)), (pt, .inl (G.2 0, 60, .inl t)), (pw, .inl (G.2 0, 16, .inl w)), (pc, .inl (G.2 0, 16, .inl c)), (po, .inl (G.2 1, 60, .inl o))]) := by
  refine gx_of (cc := cX3_isOpenFrom) (maxL := 3) (ret := (some .boolean)) (by decide) (Nat.le_of_ble_eq_true rfl) ?_
  intro pp eE sS mM ar below meth cC AA ls QQ hx hb hr hml hts hown hlocks hnm hK hAe hQQ hP hD hA hS hl
  have hl : lv_has ls 3 [(0, .ref p), (1, .int k), (2, .int s)] := hl
  refine lv_aload_n hx hb dX3_isOpenFrom_0 rfl (lv_at hl 0 rfl) ?_
  refine va_get (D := G.1) (ci := 0) (v := .ref po) (C := RX3) (T := TX3) (N := 9) hx hb hts in_X3 hown hK.1 hP 0 rfl rfl 4 (by decide) (hts _ q222) (fun _ h9 => h9) rfl dX3_isOpenFrom_1 ?_
  refine lv_iload_n hx hb dX3_isOpenFrom_4 rfl (lv_at hl 1 rfl) ?_
  have b_1 := h.1
  refine va_zald hx hb hK.1 hP 5 1 rfl rfl b_1 dX3_isOpenFrom_5 ?_
  replace h := h.2
  refine lv_if_eq (tgt := 26) hx hb dX3_isOpenFrom_6 (by decide) (fun c_2 => ?_) (fun c_2 => ?_)
  · replace h := h.1 c_2
    refine lv_iconst (v := 0) hx hb dX3_isOpenFrom_26 (by decide) ?_
    subst hQQ; exact gx_zret () hx hb hr hlocks hAe hP hD hS (Nat.le_of_ble_eq_true rfl) (Nat.le_of_ble_eq_true rfl) rfl h dX3_isOpenFrom_27
  · replace h := h.2 c_2
    refine lv_iload_n hx hb dX3_isOpenFrom_9 rfl (lv_at hl 2 rfl) ?_
    refine lv_aload_n hx hb dX3_isOpenFrom_10 rfl (lv_at hl 0 rfl) ?_
    refine va_get (D := G.1) (ci := 0) (v := .ref pf) (C := RX3) (T := TX3) (N := 9) hx hb hts in_X3 hown hK.1 hP 0 rfl rfl 0 (by decide) (hts _ q213) (fun _ h9 => h9) rfl dX3_isOpenFrom_11 ?_
    refine lv_iload_n hx hb dX3_isOpenFrom_14 rfl (lv_at hl 1 rfl) ?_
    refine va_iald hx hb hK.1 hP 1 0 rfl rfl b_1 dX3_isOpenFrom_15 ?_
    have hPc := hP.sub (ws' := []) [] rfl
    have hDc := hD.sub (ws' := []) [] (by decide) rfl
    refine gx_i (G := G) (wc := []) (wr := [(p, .inr (0, [.ref pf, .ref pt, .ref pw, .ref pc, .ref po, .int nd, .int rt, .int ex, .int mn])), (pf, .inl (G.2 0, 60, .inl f)), (pt, .inl (G.2 0, 60, .inl t)), (pw, .inl (G.2 0, 16, .inl w)), (pc, .inl (G.2 0, 16, .inl c)), (po, .inl (G.2 1, 60, .inl o))]) (va_runSN (As := [.int s, .int (f k.toNatClampNeg)]) (rest := []) ⟨hx, hb, hml, hown, hts⟩ (ct_X1_has lL G s (f k.toNatClampNeg) _) ⟨va_cnB 2 hts (lw_meth q502) rfl rfl rfl (hK.nw q792 rfl) (hts _ q164) (by decide +kernel) ⟨Nat.le_of_ble_eq_true rfl, Nat.le_of_ble_eq_true rfl⟩, hts _ q501, trivial⟩ (gx_preS hK hPc hDc) rfl rfl hl.1 rfl (lv_room (Nat.le_of_ble_eq_true rfl)) dX3_isOpenFrom_16 ⟨Nat.le_of_ble_eq_true rfl, Nat.le_of_ble_eq_true rfl⟩) hP hD hS hA [] [0, 1, 2, 3, 4, 5] rfl rfl (by decide) (by decide) (fun r_3 u_3 H locs hw_3 hP hD hS => ?_)
    have hP : va_P G.1 vwCl [(p, .inr (0, [.ref pf, .ref pt, .ref pw, .ref pc, .ref po, .int nd, .int rt, .int ex, .int mn])), (pf, .inl (G.2 0, 60, .inl f)), (pt, .inl (G.2 0, 60, .inl t)), (pw, .inl (G.2 0, 16, .inl w)), (pc, .inl (G.2 0, 16, .inl c)), (po, .inl (G.2 1, 60, .inl o))] H := hP
    have hD : va_D AA [(p, .inr (0, [.ref pf, .ref pt, .ref pw, .ref pc, .ref po, .int nd, .int rt, .int ex, .int mn])), (pf, .inl (G.2 0, 60, .inl f)), (pt, .inl (G.2 0, 60, .inl t)), (pw, .inl (G.2 0, 16, .inl w)), (pc, .inl (G.2 0, 16, .inl c)), (po, .inl (G.2 1, 60, .inl o))] := hD
    replace h := h r_3 hw_3
    refine lv_if_eq (tgt := 26) hx hb dX3_isOpenFrom_19 (by decide) (fun c_4 => ?_) (fun c_4 => ?_)
    · replace h := h.1 c_4
      refine lv_iconst (v := 0) hx hb dX3_isOpenFrom_26 (by decide) ?_
      subst hQQ; exact gx_zret () hx hb hr hlocks hAe hP hD hS (Nat.le_of_ble_eq_true rfl) (Nat.le_of_ble_eq_true rfl) rfl h dX3_isOpenFrom_27
    · replace h := h.2 c_4
      refine lv_iconst (v := 1) hx hb dX3_isOpenFrom_22 (by decide) ?_
      refine lv_goto (tgt := 27) hx hb dX3_isOpenFrom_23 (by decide) ?_
      subst hQQ; exact gx_zret () hx hb hr hlocks hAe hP hD hS (Nat.le_of_ble_eq_true rfl) (Nat.le_of_ble_eq_true rfl) rfl h dX3_isOpenFrom_27
theorem ct_X3_isOpenFrom (lL : Launch) (G : GE) (p pf pt pw pc po : Nat) (f t w c o : Nat → Int32) (nd rt ex mn k s : Int32) (hp : pr_X3_isOpenFrom f t w c o nd rt ex mn k s) : CtI lL yX3_isOpenFrom (ws_ yX3_isOpenFrom cX3_isOpenFrom 3 (some .boolean)) RX3_isOpenFrom G [.ref p, .int k, .int s] [(p, .inr (0, [.ref pf, .ref pt, .ref pw, .ref pc, .ref po, .int nd, .int rt, .int ex, .int mn])), (pf, .inl (G.2 0, 60, .inl f)), (pt, .inl (G.2 0, 60, .inl t)), (pw, .inl (G.2 0, 16, .inl w)), (pc, .inl (G.2 0, 16, .inl c)), (po, .inl (G.2 1, 60, .inl o))] (fun (rr_ : Int32) (uu_ : Unit) => ps_X3_isOpenFrom f t w c o nd rt ex mn k s rr_ ) (fun (uu_ : Unit) => [(p, .inr (0, [.ref pf, .ref pt, .ref pw, .ref pc, .ref po, .int nd, .int rt, .int ex, .int mn])), (pf, .inl (G.2 0, 60, .inl f)), (pt, .inl (G.2 0, 60, .inl t)), (pw, .inl (G.2 0, 16, .inl w)), (pc, .inl (G.2 0, 16, .inl c)), (po, .inl (G.2 1, 60, .inl o))]) :=
  wk_X3_isOpenFrom lL G p pf pt pw pc po f t w c o nd rt ex mn k s _ (pf_X3_isOpenFrom f t w c o nd rt ex mn k s hp)
abbrev RX3_reachedBut : Room := ({ frames := 4, cells := 0, slots := 0, locals := 78 } : Room)
set_option maxHeartbeats 4000000 in
set_option maxRecDepth 100000 in
theorem wk_X3_reachedBut (lL : Launch) (G : GE) (p pf pt pw pc po : Nat) (f t w c o : Nat → Int32) (nd rt ex mn k : Int32) (Q : Int32 → (Nat → Int32) → (Nat → Int32) → Prop) (h : wp_X3_reachedBut f t w c o nd rt ex mn k Q) : CtI lL yX3_reachedBut (ws_ yX3_reachedBut cX3_reachedBut 3 (some .int)) RX3_reachedBut G [.ref p, .int k] [(p, .inr (0, [.ref pf, .ref pt, .ref pw, .ref pc, .ref po, .int nd, .int rt, .int ex, .int mn])), (pf, .inl (G.2 0, 60, .inl f)), (pt, .inl (G.2 0, 60, .inl t)), (pw, .inl (G.2 0, 16, .inl w)), (pc, .inl (G.2 0, 16, .inl c)), (po, .inl (G.2 1, 60, .inl o))] (fun (rr_ : Int32) (uu_ : (Nat → Int32) × (Nat → Int32)) => Q rr_ uu_.1 uu_.2) (fun (uu_ : (Nat → Int32) × (Nat → Int32)) => [(p, .inr (0, [.ref pf, .ref pt, .ref pw, .ref pc, .ref po, .int nd, .int rt, .int ex, .int mn])), (pf, .inl (G.2 0, 60, .inl f)), (pt, .inl (G.2 0, 60, .inl t)), (pw, .inl (G.2 0, 16, .inl uu_.1)), (pc, .inl (G.2 0, 16, .inl c)), (po, .inl (G.2 1, 60, .inl uu_.2))]) := by
  refine gx_of (cc := cX3_reachedBut) (maxL := 3) (ret := (some .int)) (by decide) (Nat.le_of_ble_eq_true rfl) ?_
  intro pp eE sS mM ar below meth cC AA ls QQ hx hb hr hml hts hown hlocks hnm hK hAe hQQ hP hD hA hS hl
  have hl : lv_has ls 3 [(0, .ref p), (1, .int k)] := hl
  refine lv_aload_n hx hb dX3_reachedBut_0 rfl (lv_at hl 0 rfl) ?_
  refine va_get (D := G.1) (ci := 0) (v := .ref po) (C := RX3) (T := TX3) (N := 9) hx hb hts in_X3 hown hK.1 hP 0 rfl rfl 4 (by decide) (hts _ q222) (fun _ h9 => h9) rfl dX3_reachedBut_1 ?_
  refine lv_iload_n hx hb dX3_reachedBut_4 rfl (lv_at hl 1 rfl) ?_
  refine lv_iconst (v := 0) hx hb dX3_reachedBut_5 (by decide) ?_
  have b_1 := h.1
  refine va_zast hx hb hK.1 hP hD hS 5 1 rfl rfl b_1 dX3_reachedBut_6 (fun H locs hP hD hS => ?_)
  replace h := h.2
  obtain ⟨u_2, eu_2⟩ : ∃ z__, z__ = upd o k.toNatClampNeg (vp_nar .boolean 0) := ⟨_, rfl⟩
  replace h := h u_2 eu_2
  have hP : va_P G.1 vwCl [(p, .inr (0, [.ref pf, .ref pt, .ref pw, .ref pc, .ref po, .int nd, .int rt, .int ex, .int mn])), (pf, .inl (G.2 0, 60, .inl f)), (pt, .inl (G.2 0, 60, .inl t)), (pw, .inl (G.2 0, 16, .inl w)), (pc, .inl (G.2 0, 16, .inl c)), (po, .inl (G.2 1, 60, .inl u_2))] H := by rw [eu_2]; exact hP
  have hD : va_D AA [(p, .inr (0, [.ref pf, .ref pt, .ref pw, .ref pc, .ref po, .int nd, .int rt, .int ex, .int mn])), (pf, .inl (G.2 0, 60, .inl f)), (pt, .inl (G.2 0, 60, .inl t)), (pw, .inl (G.2 0, 16, .inl w)), (pc, .inl (G.2 0, 16, .inl c)), (po, .inl (G.2 1, 60, .inl u_2))] := by rw [eu_2]; exact hD
  refine lv_aload_n hx hb dX3_reachedBut_7 rfl (lv_at hl 0 rfl) ?_
  have hPc := hP.sub (ws' := [(p, .inr (0, [.ref pf, .ref pt, .ref pw, .ref pc, .ref po, .int nd, .int rt, .int ex, .int mn])), (pf, .inl (G.2 0, 60, .inl f)), (pt, .inl (G.2 0, 60, .inl t)), (pw, .inl (G.2 0, 16, .inl w)), (pc, .inl (G.2 0, 16, .inl c)), (po, .inl (G.2 1, 60, .inl u_2))]) [0, 1, 2, 3, 4, 5] rfl
  have hDc := hD.sub (ws' := [(p, .inr (0, [.ref pf, .ref pt, .ref pw, .ref pc, .ref po, .int nd, .int rt, .int ex, .int mn])), (pf, .inl (G.2 0, 60, .inl f)), (pt, .inl (G.2 0, 60, .inl t)), (pw, .inl (G.2 0, 16, .inl w)), (pc, .inl (G.2 0, 16, .inl c)), (po, .inl (G.2 1, 60, .inl u_2))]) [0, 1, 2, 3, 4, 5] (by decide) rfl
  refine gx_v (G := G) (wc := [(p, .inr (0, [.ref pf, .ref pt, .ref pw, .ref pc, .ref po, .int nd, .int rt, .int ex, .int mn])), (pf, .inl (G.2 0, 60, .inl f)), (pt, .inl (G.2 0, 60, .inl t)), (pw, .inl (G.2 0, 16, .inl w)), (pc, .inl (G.2 0, 16, .inl c)), (po, .inl (G.2 1, 60, .inl u_2))]) (wr := []) (va_runV (As := []) (rest := []) ⟨hx, hb, hml, hown, hts⟩ (ct_X3_rows lL G p pf pt pw pc po f t w c u_2 nd rt ex mn h.1 _) (cwV 0 hts (lw_V q460 q462 qs1 q166 q463) rfl rfl rfl (by decide +kernel) ⟨Nat.le_of_ble_eq_true rfl, Nat.le_of_ble_eq_true rfl⟩) (gx_preV hK hPc hDc 0 0 rfl rfl) rfl rfl hl.1 rfl (lv_room (Nat.le_of_ble_eq_true rfl)) dX3_reachedBut_8 ⟨Nat.le_of_ble_eq_true rfl, Nat.le_of_ble_eq_true rfl⟩) hP hD hS hA [0, 1, 2, 3, 4, 5] [] rfl rfl (by decide) (by decide) (fun u_3 H locs hw_3 hP hD hS => ?_)
  replace h := h.2
  obtain ⟨w_3, rfl⟩ : ∃ z__, z__ = u_3 := ⟨_, rfl⟩
  have hP : va_P G.1 vwCl [(p, .inr (0, [.ref pf, .ref pt, .ref pw, .ref pc, .ref po, .int nd, .int rt, .int ex, .int mn])), (pf, .inl (G.2 0, 60, .inl f)), (pt, .inl (G.2 0, 60, .inl t)), (pw, .inl (G.2 0, 16, .inl w_3)), (pc, .inl (G.2 0, 16, .inl c)), (po, .inl (G.2 1, 60, .inl u_2))] H := hP
  have hD : va_D AA [(p, .inr (0, [.ref pf, .ref pt, .ref pw, .ref pc, .ref po, .int nd, .int rt, .int ex, .int mn])), (pf, .inl (G.2 0, 60, .inl f)), (pt, .inl (G.2 0, 60, .inl t)), (pw, .inl (G.2 0, 16, .inl w_3)), (pc, .inl (G.2 0, 16, .inl c)), (po, .inl (G.2 1, 60, .inl u_2))] := hD
  replace h := h w_3 hw_3
  refine lv_aload_n hx hb dX3_reachedBut_11 rfl (lv_at hl 0 rfl) ?_
  have hPc := hP.sub (ws' := [(p, .inr (0, [.ref pf, .ref pt, .ref pw, .ref pc, .ref po, .int nd, .int rt, .int ex, .int mn])), (pf, .inl (G.2 0, 60, .inl f)), (pt, .inl (G.2 0, 60, .inl t)), (pw, .inl (G.2 0, 16, .inl w_3)), (pc, .inl (G.2 0, 16, .inl c)), (po, .inl (G.2 1, 60, .inl u_2))]) [0, 1, 2, 3, 4, 5] rfl
  have hDc := hD.sub (ws' := [(p, .inr (0, [.ref pf, .ref pt, .ref pw, .ref pc, .ref po, .int nd, .int rt, .int ex, .int mn])), (pf, .inl (G.2 0, 60, .inl f)), (pt, .inl (G.2 0, 60, .inl t)), (pw, .inl (G.2 0, 16, .inl w_3)), (pc, .inl (G.2 0, 16, .inl c)), (po, .inl (G.2 1, 60, .inl u_2))]) [0, 1, 2, 3, 4, 5] (by decide) rfl
  refine gx_i (G := G) (wc := [(p, .inr (0, [.ref pf, .ref pt, .ref pw, .ref pc, .ref po, .int nd, .int rt, .int ex, .int mn])), (pf, .inl (G.2 0, 60, .inl f)), (pt, .inl (G.2 0, 60, .inl t)), (pw, .inl (G.2 0, 16, .inl w_3)), (pc, .inl (G.2 0, 16, .inl c)), (po, .inl (G.2 1, 60, .inl u_2))]) (wr := []) (va_runV (As := []) (rest := []) ⟨hx, hb, hml, hown, hts⟩ (ct_X3_reached lL G p pf pt pw pc po f t w_3 c u_2 nd rt ex mn h.1 _) (cwV 0 hts (lw_V q797 q798 q799 q166 q800) rfl rfl rfl (by decide +kernel) ⟨Nat.le_of_ble_eq_true rfl, Nat.le_of_ble_eq_true rfl⟩) (gx_preV hK hPc hDc 0 0 rfl rfl) rfl rfl hl.1 rfl (lv_room (Nat.le_of_ble_eq_true rfl)) dX3_reachedBut_12 ⟨Nat.le_of_ble_eq_true rfl, Nat.le_of_ble_eq_true rfl⟩) hP hD hS hA [0, 1, 2, 3, 4, 5] [] rfl rfl (by decide) (by decide) (fun r_4 u_4 H locs hw_4 hP hD hS => ?_)
  replace h := h.2
  have hP : va_P G.1 vwCl [(p, .inr (0, [.ref pf, .ref pt, .ref pw, .ref pc, .ref po, .int nd, .int rt, .int ex, .int mn])), (pf, .inl (G.2 0, 60, .inl f)), (pt, .inl (G.2 0, 60, .inl t)), (pw, .inl (G.2 0, 16, .inl w_3)), (pc, .inl (G.2 0, 16, .inl c)), (po, .inl (G.2 1, 60, .inl u_2))] H := hP
  have hD : va_D AA [(p, .inr (0, [.ref pf, .ref pt, .ref pw, .ref pc, .ref po, .int nd, .int rt, .int ex, .int mn])), (pf, .inl (G.2 0, 60, .inl f)), (pt, .inl (G.2 0, 60, .inl t)), (pw, .inl (G.2 0, 16, .inl w_3)), (pc, .inl (G.2 0, 16, .inl c)), (po, .inl (G.2 1, 60, .inl u_2))] := hD
  replace h := h r_4 hw_4
  refine lv_istore_n (lv' := [(2, .int r_4), (0, .ref p), (1, .int k)]) hx hb dX3_reachedBut_15 rfl hl (by decide) rfl (fun ls hl => ?_)
  refine lv_aload_n hx hb dX3_reachedBut_16 rfl (lv_at hl 1 rfl) ?_
  refine va_get (D := G.1) (ci := 0) (v := .ref po) (C := RX3) (T := TX3) (N := 9) hx hb hts in_X3 hown hK.1 hP 0 rfl rfl 4 (by decide) (hts _ q222) (fun _ h9 => h9) rfl dX3_reachedBut_17 ?_
  refine lv_iload_n hx hb dX3_reachedBut_20 rfl (lv_at hl 2 rfl) ?_
  refine lv_iconst (v := 1) hx hb dX3_reachedBut_21 (by decide) ?_
  refine va_zast hx hb hK.1 hP hD hS 5 1 rfl rfl b_1 dX3_reachedBut_22 (fun H locs hP hD hS => ?_)
  obtain ⟨u_5, eu_5⟩ : ∃ z__, z__ = upd u_2 k.toNatClampNeg (vp_nar .boolean 1) := ⟨_, rfl⟩
  replace h := h u_5 eu_5
  have hP : va_P G.1 vwCl [(p, .inr (0, [.ref pf, .ref pt, .ref pw, .ref pc, .ref po, .int nd, .int rt, .int ex, .int mn])), (pf, .inl (G.2 0, 60, .inl f)), (pt, .inl (G.2 0, 60, .inl t)), (pw, .inl (G.2 0, 16, .inl w_3)), (pc, .inl (G.2 0, 16, .inl c)), (po, .inl (G.2 1, 60, .inl u_5))] H := by rw [eu_5]; exact hP
  have hD : va_D AA [(p, .inr (0, [.ref pf, .ref pt, .ref pw, .ref pc, .ref po, .int nd, .int rt, .int ex, .int mn])), (pf, .inl (G.2 0, 60, .inl f)), (pt, .inl (G.2 0, 60, .inl t)), (pw, .inl (G.2 0, 16, .inl w_3)), (pc, .inl (G.2 0, 16, .inl c)), (po, .inl (G.2 1, 60, .inl u_5))] := by rw [eu_5]; exact hD
  refine lv_aload_n hx hb dX3_reachedBut_23 rfl (lv_at hl 1 rfl) ?_
  have hPc := hP.sub (ws' := [(p, .inr (0, [.ref pf, .ref pt, .ref pw, .ref pc, .ref po, .int nd, .int rt, .int ex, .int mn])), (pf, .inl (G.2 0, 60, .inl f)), (pt, .inl (G.2 0, 60, .inl t)), (pw, .inl (G.2 0, 16, .inl w_3)), (pc, .inl (G.2 0, 16, .inl c)), (po, .inl (G.2 1, 60, .inl u_5))]) [0, 1, 2, 3, 4, 5] rfl
  have hDc := hD.sub (ws' := [(p, .inr (0, [.ref pf, .ref pt, .ref pw, .ref pc, .ref po, .int nd, .int rt, .int ex, .int mn])), (pf, .inl (G.2 0, 60, .inl f)), (pt, .inl (G.2 0, 60, .inl t)), (pw, .inl (G.2 0, 16, .inl w_3)), (pc, .inl (G.2 0, 16, .inl c)), (po, .inl (G.2 1, 60, .inl u_5))]) [0, 1, 2, 3, 4, 5] (by decide) rfl
  refine gx_v (G := G) (wc := [(p, .inr (0, [.ref pf, .ref pt, .ref pw, .ref pc, .ref po, .int nd, .int rt, .int ex, .int mn])), (pf, .inl (G.2 0, 60, .inl f)), (pt, .inl (G.2 0, 60, .inl t)), (pw, .inl (G.2 0, 16, .inl w_3)), (pc, .inl (G.2 0, 16, .inl c)), (po, .inl (G.2 1, 60, .inl u_5))]) (wr := []) (va_runV (As := []) (rest := []) ⟨hx, hb, hml, hown, hts⟩ (ct_X3_rows lL G p pf pt pw pc po f t w_3 c u_5 nd rt ex mn h.1 _) (cwV 0 hts (lw_V q460 q462 qs1 q166 q463) rfl rfl rfl (by decide +kernel) ⟨Nat.le_of_ble_eq_true rfl, Nat.le_of_ble_eq_true rfl⟩) (gx_preV hK hPc hDc 0 0 rfl rfl) rfl rfl hl.1 rfl (lv_room (Nat.le_of_ble_eq_true rfl)) dX3_reachedBut_24 ⟨Nat.le_of_ble_eq_true rfl, Nat.le_of_ble_eq_true rfl⟩) hP hD hS hA [0, 1, 2, 3, 4, 5] [] rfl rfl (by decide) (by decide) (fun u_6 H locs hw_6 hP hD hS => ?_)
  replace h := h.2
  obtain ⟨w_6, rfl⟩ : ∃ z__, z__ = u_6 := ⟨_, rfl⟩
  have hP : va_P G.1 vwCl [(p, .inr (0, [.ref pf, .ref pt, .ref pw, .ref pc, .ref po, .int nd, .int rt, .int ex, .int mn])), (pf, .inl (G.2 0, 60, .inl f)), (pt, .inl (G.2 0, 60, .inl t)), (pw, .inl (G.2 0, 16, .inl w_6)), (pc, .inl (G.2 0, 16, .inl c)), (po, .inl (G.2 1, 60, .inl u_5))] H := hP
  have hD : va_D AA [(p, .inr (0, [.ref pf, .ref pt, .ref pw, .ref pc, .ref po, .int nd, .int rt, .int ex, .int mn])), (pf, .inl (G.2 0, 60, .inl f)), (pt, .inl (G.2 0, 60, .inl t)), (pw, .inl (G.2 0, 16, .inl w_6)), (pc, .inl (G.2 0, 16, .inl c)), (po, .inl (G.2 1, 60, .inl u_5))] := hD
  replace h := h w_6 hw_6
  refine lv_iload_n hx hb dX3_reachedBut_27 rfl (lv_at hl 0 rfl) ?_
  subst hQQ; exact gx_iret (w_6, u_5) hx hb hr hlocks hAe hP hD hS (Nat.le_of_ble_eq_true rfl) (Nat.le_of_ble_eq_true rfl) h dX3_reachedBut_28
theorem ct_X3_reachedBut (lL : Launch) (G : GE) (p pf pt pw pc po : Nat) (f t w c o : Nat → Int32) (nd rt ex mn k : Int32) (hp : pr_X3_reachedBut f t w c o nd rt ex mn k) : CtI lL yX3_reachedBut (ws_ yX3_reachedBut cX3_reachedBut 3 (some .int)) RX3_reachedBut G [.ref p, .int k] [(p, .inr (0, [.ref pf, .ref pt, .ref pw, .ref pc, .ref po, .int nd, .int rt, .int ex, .int mn])), (pf, .inl (G.2 0, 60, .inl f)), (pt, .inl (G.2 0, 60, .inl t)), (pw, .inl (G.2 0, 16, .inl w)), (pc, .inl (G.2 0, 16, .inl c)), (po, .inl (G.2 1, 60, .inl o))] (fun (rr_ : Int32) (uu_ : (Nat → Int32) × (Nat → Int32)) => ps_X3_reachedBut f t w c o nd rt ex mn k rr_ uu_.1 uu_.2) (fun (uu_ : (Nat → Int32) × (Nat → Int32)) => [(p, .inr (0, [.ref pf, .ref pt, .ref pw, .ref pc, .ref po, .int nd, .int rt, .int ex, .int mn])), (pf, .inl (G.2 0, 60, .inl f)), (pt, .inl (G.2 0, 60, .inl t)), (pw, .inl (G.2 0, 16, .inl uu_.1)), (pc, .inl (G.2 0, 16, .inl c)), (po, .inl (G.2 1, 60, .inl uu_.2))]) :=
  wk_X3_reachedBut lL G p pf pt pw pc po f t w c o nd rt ex mn k _ (pf_X3_reachedBut f t w c o nd rt ex mn k hp)
