set_option linter.all false
/-! net: the walks (printed by gen.py) -/
abbrev RX1_has : Room := ({ frames := 1, cells := 0, slots := 0, locals := 12 } : Room)
set_option maxHeartbeats 4000000 in
set_option maxRecDepth 100000 in
theorem wk_X1_has (lL : Launch) (G : GE)  (s k : Int32) (Q : Int32 → Prop) (h : wp_X1_has s k Q) : CtI lL yX1_has (ws_ yX1_has cX1_has 2 (some .boolean)) RX1_has G [.int s, .int k] [] (fun (rr_ : Int32) (uu_ : Unit) => Q rr_ ) (fun (uu_ : Unit) => []) := by
  refine gx_of (cc := cX1_has) (maxL := 2) (ret := (some .boolean)) (by decide) (Nat.le_of_ble_eq_true rfl) ?_
  intro pp eE sS mM ar below meth cC AA ls QQ hx hb hr hml hts hown hlocks hnm hK hAe hQQ hP hD hA hS hl
  have hl : lv_has ls 2 [(0, .int s), (1, .int k)] := hl
  refine lv_iload_n hx hb dX1_has_0 rfl (lv_at hl 0 rfl) ?_
  refine lv_iload_n hx hb dX1_has_1 rfl (lv_at hl 1 rfl) ?_
  refine lv_ishr hx hb dX1_has_2 ?_
  refine lv_iconst (v := 1) hx hb dX1_has_3 (by decide) ?_
  refine lv_iand hx hb dX1_has_4 ?_
  refine lv_iconst (v := 1) hx hb dX1_has_5 (by decide) ?_
  refine lv_icmp_ne (tgt := 13) hx hb dX1_has_6 (by decide) (fun c_1 => ?_) (fun c_1 => ?_)
  · replace h := h.1 c_1
    refine lv_iconst (v := 0) hx hb dX1_has_13 (by decide) ?_
    subst hQQ; exact gx_zret () hx hb hr hlocks hAe hP hD hS (Nat.le_of_ble_eq_true rfl) (Nat.le_of_ble_eq_true rfl) rfl h dX1_has_14
  · replace h := h.2 c_1
    refine lv_iconst (v := 1) hx hb dX1_has_9 (by decide) ?_
    refine lv_goto (tgt := 14) hx hb dX1_has_10 (by decide) ?_
    subst hQQ; exact gx_zret () hx hb hr hlocks hAe hP hD hS (Nat.le_of_ble_eq_true rfl) (Nat.le_of_ble_eq_true rfl) rfl h dX1_has_14
theorem ct_X1_has (lL : Launch) (G : GE)  (s k : Int32) : CtI lL yX1_has (ws_ yX1_has cX1_has 2 (some .boolean)) RX1_has G [.int s, .int k] [] (fun (rr_ : Int32) (uu_ : Unit) => ps_X1_has s k rr_ ) (fun (uu_ : Unit) => []) :=
  wk_X1_has lL G  s k _ (pf_X1_has s k)
abbrev RX3_init : Room := ({ frames := 1, cells := 5, slots := 212, locals := 12 } : Room)
set_option maxHeartbeats 4000000 in
set_option maxRecDepth 100000 in
theorem wk_X3_init (lL : Launch) (G : GE) (p : Nat)  (Q : Prop) (h : wp_X3_init  Q) : CtV lL yX3_init (ws_ yX3_init cX3_init 1 none) RX3_init G [.ref p] [(p, .inr (0, [.null, .null, .null, .null, .null, .int 0, .int 0, .int 0, .int 0]))] (fun (uu_ : Nat × Nat × Nat × Nat × Nat) => Q ) (fun (uu_ : Nat × Nat × Nat × Nat × Nat) => [(p, .inr (0, [.ref uu_.1, .ref uu_.2.1, .ref uu_.2.2.1, .ref uu_.2.2.2.1, .ref uu_.2.2.2.2, .int 0, .int 0, .int 0, .int 0])), (uu_.1, .inl (G.2 0, 60, .inl (fun _ => 0))), (uu_.2.1, .inl (G.2 0, 60, .inl (fun _ => 0))), (uu_.2.2.1, .inl (G.2 0, 16, .inl (fun _ => 0))), (uu_.2.2.2.1, .inl (G.2 0, 16, .inl (fun _ => 0))), (uu_.2.2.2.2, .inl (G.2 1, 60, .inl (fun _ => 0)))]) := by
  refine gx_of (cc := cX3_init) (maxL := 1) (ret := none) (by decide) (Nat.le_of_ble_eq_true rfl) ?_
  intro pp eE sS mM ar below meth cC AA ls QQ hx hb hr hml hts hown hlocks hnm hK hAe hQQ hP hD hA hS hl
  have hl : lv_has ls 1 [(0, .ref p)] := hl
  refine lv_aload_n hx hb dX3_init_0 rfl (lv_at hl 0 rfl) ?_
  refine W.objInit hx hb hown (hts _ q212) (hts _ q199) (hts _ q200) rfl (by rw [hml]; exact hl.1) rfl dX3_init_1 (Nat.le_of_ble_eq_true rfl) (Nat.le_of_ble_eq_true rfl) ?_
  refine W.eq (g2 := F0 mM 4 ls []) rfl ?_
  refine lv_aload_n hx hb dX3_init_4 rfl (lv_at hl 0 rfl) ?_
  refine lv_bipush (v := 60) hx hb dX3_init_5 (by decide) ?_
  refine gx_newa (atype := .int) (ty := .int) (a0 := (60, .inl (fun _ => 0))) hx hb (hts _ q254) rfl (fun _ => FieldType.noConfusion) hK 0 rfl hP hD hS hA (fun _ => rfl) (by decide) rfl (Nat.le_of_ble_eq_true rfl) (Nat.le_of_ble_eq_true rfl) (Nat.le_of_ble_eq_true rfl) dX3_init_7 (fun q_1 H hP hD hS => ?_)
  have hP : va_P G.1 vwCl [(p, .inr (0, [.null, .null, .null, .null, .null, .int 0, .int 0, .int 0, .int 0])), (q_1, .inl (G.2 0, 60, .inl (fun _ => 0)))] H := hP
  have hD : va_D AA [(p, .inr (0, [.null, .null, .null, .null, .null, .int 0, .int 0, .int 0, .int 0])), (q_1, .inl (G.2 0, 60, .inl (fun _ => 0)))] := hD
  refine va_putF (D := G.1) (ci := 0) (v := .ref q_1) (ty := (.array .int)) (C := RX3) (T := TX3) (N := 9) hx hb hts in_X3 tyX3 tyX3_ok nmX3 hown hK.1 hP hD hS 0 rfl rfl 0 (by decide) (hts _ q213) (fun _ h9 => h9) rfl hnm rfl (by decide +kernel) rfl rfl (Nat.le_of_ble_eq_true rfl) dX3_init_9 (fun H locs hP hD hS => ?_)
  have hP : va_P G.1 vwCl [(p, .inr (0, [.ref q_1, .null, .null, .null, .null, .int 0, .int 0, .int 0, .int 0])), (q_1, .inl (G.2 0, 60, .inl (fun _ => 0)))] H := hP
  have hD : va_D AA [(p, .inr (0, [.ref q_1, .null, .null, .null, .null, .int 0, .int 0, .int 0, .int 0])), (q_1, .inl (G.2 0, 60, .inl (fun _ => 0)))] := hD
  refine lv_aload_n hx hb dX3_init_12 rfl (lv_at hl 0 rfl) ?_
  refine lv_bipush (v := 60) hx hb dX3_init_13 (by decide) ?_
  refine gx_newa (atype := .int) (ty := .int) (a0 := (60, .inl (fun _ => 0))) hx hb (hts _ q254) rfl (fun _ => FieldType.noConfusion) hK 0 rfl hP hD hS hA (fun _ => rfl) (by decide) rfl (Nat.le_of_ble_eq_true rfl) (Nat.le_of_ble_eq_true rfl) (Nat.le_of_ble_eq_true rfl) dX3_init_15 (fun q_2 H hP hD hS => ?_)
  have hP : va_P G.1 vwCl [(p, .inr (0, [.ref q_1, .null, .null, .null, .null, .int 0, .int 0, .int 0, .int 0])), (q_1, .inl (G.2 0, 60, .inl (fun _ => 0))), (q_2, .inl (G.2 0, 60, .inl (fun _ => 0)))] H := hP
  have hD : va_D AA [(p, .inr (0, [.ref q_1, .null, .null, .null, .null, .int 0, .int 0, .int 0, .int 0])), (q_1, .inl (G.2 0, 60, .inl (fun _ => 0))), (q_2, .inl (G.2 0, 60, .inl (fun _ => 0)))] := hD
  refine va_putF (D := G.1) (ci := 0) (v := .ref q_2) (ty := (.array .int)) (C := RX3) (T := TX3) (N := 9) hx hb hts in_X3 tyX3 tyX3_ok nmX3 hown hK.1 hP hD hS 0 rfl rfl 1 (by decide) (hts _ q215) (fun _ h9 => h9) rfl hnm rfl (by decide +kernel) rfl rfl (Nat.le_of_ble_eq_true rfl) dX3_init_17 (fun H locs hP hD hS => ?_)
  have hP : va_P G.1 vwCl [(p, .inr (0, [.ref q_1, .ref q_2, .null, .null, .null, .int 0, .int 0, .int 0, .int 0])), (q_1, .inl (G.2 0, 60, .inl (fun _ => 0))), (q_2, .inl (G.2 0, 60, .inl (fun _ => 0)))] H := hP
  have hD : va_D AA [(p, .inr (0, [.ref q_1, .ref q_2, .null, .null, .null, .int 0, .int 0, .int 0, .int 0])), (q_1, .inl (G.2 0, 60, .inl (fun _ => 0))), (q_2, .inl (G.2 0, 60, .inl (fun _ => 0)))] := hD
  refine lv_aload_n hx hb dX3_init_20 rfl (lv_at hl 0 rfl) ?_
  refine lv_bipush (v := 16) hx hb dX3_init_21 (by decide) ?_
  refine gx_newa (atype := .int) (ty := .int) (a0 := (16, .inl (fun _ => 0))) hx hb (hts _ q254) rfl (fun _ => FieldType.noConfusion) hK 0 rfl hP hD hS hA (fun _ => rfl) (by decide) rfl (Nat.le_of_ble_eq_true rfl) (Nat.le_of_ble_eq_true rfl) (Nat.le_of_ble_eq_true rfl) dX3_init_23 (fun q_3 H hP hD hS => ?_)
  have hP : va_P G.1 vwCl [(p, .inr (0, [.ref q_1, .ref q_2, .null, .null, .null, .int 0, .int 0, .int 0, .int 0])), (q_1, .inl (G.2 0, 60, .inl (fun _ => 0))), (q_2, .inl (G.2 0, 60, .inl (fun _ => 0))), (q_3, .inl (G.2 0, 16, .inl (fun _ => 0)))] H := hP
  have hD : va_D AA [(p, .inr (0, [.ref q_1, .ref q_2, .null, .null, .null, .int 0, .int 0, .int 0, .int 0])), (q_1, .inl (G.2 0, 60, .inl (fun _ => 0))), (q_2, .inl (G.2 0, 60, .inl (fun _ => 0))), (q_3, .inl (G.2 0, 16, .inl (fun _ => 0)))] := hD
  refine va_putF (D := G.1) (ci := 0) (v := .ref q_3) (ty := (.array .int)) (C := RX3) (T := TX3) (N := 9) hx hb hts in_X3 tyX3 tyX3_ok nmX3 hown hK.1 hP hD hS 0 rfl rfl 2 (by decide) (hts _ q217) (fun _ h9 => h9) rfl hnm rfl (by decide +kernel) rfl rfl (Nat.le_of_ble_eq_true rfl) dX3_init_25 (fun H locs hP hD hS => ?_)
  have hP : va_P G.1 vwCl [(p, .inr (0, [.ref q_1, .ref q_2, .ref q_3, .null, .null, .int 0, .int 0, .int 0, .int 0])), (q_1, .inl (G.2 0, 60, .inl (fun _ => 0))), (q_2, .inl (G.2 0, 60, .inl (fun _ => 0))), (q_3, .inl (G.2 0, 16, .inl (fun _ => 0)))] H := hP
  have hD : va_D AA [(p, .inr (0, [.ref q_1, .ref q_2, .ref q_3, .null, .null, .int 0, .int 0, .int 0, .int 0])), (q_1, .inl (G.2 0, 60, .inl (fun _ => 0))), (q_2, .inl (G.2 0, 60, .inl (fun _ => 0))), (q_3, .inl (G.2 0, 16, .inl (fun _ => 0)))] := hD
  refine lv_aload_n hx hb dX3_init_28 rfl (lv_at hl 0 rfl) ?_
  refine lv_bipush (v := 16) hx hb dX3_init_29 (by decide) ?_
  refine gx_newa (atype := .int) (ty := .int) (a0 := (16, .inl (fun _ => 0))) hx hb (hts _ q254) rfl (fun _ => FieldType.noConfusion) hK 0 rfl hP hD hS hA (fun _ => rfl) (by decide) rfl (Nat.le_of_ble_eq_true rfl) (Nat.le_of_ble_eq_true rfl) (Nat.le_of_ble_eq_true rfl) dX3_init_31 (fun q_4 H hP hD hS => ?_)
  have hP : va_P G.1 vwCl [(p, .inr (0, [.ref q_1, .ref q_2, .ref q_3, .null, .null, .int 0, .int 0, .int 0, .int 0])), (q_1, .inl (G.2 0, 60, .inl (fun _ => 0))), (q_2, .inl (G.2 0, 60, .inl (fun _ => 0))), (q_3, .inl (G.2 0, 16, .inl (fun _ => 0))), (q_4, .inl (G.2 0, 16, .inl (fun _ => 0)))] H := hP
  have hD : va_D AA [(p, .inr (0, [.ref q_1, .ref q_2, .ref q_3, .null, .null, .int 0, .int 0, .int 0, .int 0])), (q_1, .inl (G.2 0, 60, .inl (fun _ => 0))), (q_2, .inl (G.2 0, 60, .inl (fun _ => 0))), (q_3, .inl (G.2 0, 16, .inl (fun _ => 0))), (q_4, .inl (G.2 0, 16, .inl (fun _ => 0)))] := hD
  refine va_putF (D := G.1) (ci := 0) (v := .ref q_4) (ty := (.array .int)) (C := RX3) (T := TX3) (N := 9) hx hb hts in_X3 tyX3 tyX3_ok nmX3 hown hK.1 hP hD hS 0 rfl rfl 3 (by decide) (hts _ q220) (fun _ h9 => h9) rfl hnm rfl (by decide +kernel) rfl rfl (Nat.le_of_ble_eq_true rfl) dX3_init_33 (fun H locs hP hD hS => ?_)
  have hP : va_P G.1 vwCl [(p, .inr (0, [.ref q_1, .ref q_2, .ref q_3, .ref q_4, .null, .int 0, .int 0, .int 0, .int 0])), (q_1, .inl (G.2 0, 60, .inl (fun _ => 0))), (q_2, .inl (G.2 0, 60, .inl (fun _ => 0))), (q_3, .inl (G.2 0, 16, .inl (fun _ => 0))), (q_4, .inl (G.2 0, 16, .inl (fun _ => 0)))] H := hP
  have hD : va_D AA [(p, .inr (0, [.ref q_1, .ref q_2, .ref q_3, .ref q_4, .null, .int 0, .int 0, .int 0, .int 0])), (q_1, .inl (G.2 0, 60, .inl (fun _ => 0))), (q_2, .inl (G.2 0, 60, .inl (fun _ => 0))), (q_3, .inl (G.2 0, 16, .inl (fun _ => 0))), (q_4, .inl (G.2 0, 16, .inl (fun _ => 0)))] := hD
  refine lv_aload_n hx hb dX3_init_36 rfl (lv_at hl 0 rfl) ?_
  refine lv_bipush (v := 60) hx hb dX3_init_37 (by decide) ?_
  refine gx_newa (atype := .boolean) (ty := .boolean) (a0 := (60, .inl (fun _ => 0))) hx hb (hts _ q255) rfl (fun _ => FieldType.noConfusion) hK 1 rfl hP hD hS hA (fun _ => rfl) (by decide) rfl (Nat.le_of_ble_eq_true rfl) (Nat.le_of_ble_eq_true rfl) (Nat.le_of_ble_eq_true rfl) dX3_init_39 (fun q_5 H hP hD hS => ?_)
  have hP : va_P G.1 vwCl [(p, .inr (0, [.ref q_1, .ref q_2, .ref q_3, .ref q_4, .null, .int 0, .int 0, .int 0, .int 0])), (q_1, .inl (G.2 0, 60, .inl (fun _ => 0))), (q_2, .inl (G.2 0, 60, .inl (fun _ => 0))), (q_3, .inl (G.2 0, 16, .inl (fun _ => 0))), (q_4, .inl (G.2 0, 16, .inl (fun _ => 0))), (q_5, .inl (G.2 1, 60, .inl (fun _ => 0)))] H := hP
  have hD : va_D AA [(p, .inr (0, [.ref q_1, .ref q_2, .ref q_3, .ref q_4, .null, .int 0, .int 0, .int 0, .int 0])), (q_1, .inl (G.2 0, 60, .inl (fun _ => 0))), (q_2, .inl (G.2 0, 60, .inl (fun _ => 0))), (q_3, .inl (G.2 0, 16, .inl (fun _ => 0))), (q_4, .inl (G.2 0, 16, .inl (fun _ => 0))), (q_5, .inl (G.2 1, 60, .inl (fun _ => 0)))] := hD
  refine va_putF (D := G.1) (ci := 0) (v := .ref q_5) (ty := (.array .boolean)) (C := RX3) (T := TX3) (N := 9) hx hb hts in_X3 tyX3 tyX3_ok nmX3 hown hK.1 hP hD hS 0 rfl rfl 4 (by decide) (hts _ q222) (fun _ h9 => h9) rfl hnm rfl (by decide +kernel) rfl rfl (Nat.le_of_ble_eq_true rfl) dX3_init_41 (fun H locs hP hD hS => ?_)
  have hP : va_P G.1 vwCl [(p, .inr (0, [.ref q_1, .ref q_2, .ref q_3, .ref q_4, .ref q_5, .int 0, .int 0, .int 0, .int 0])), (q_1, .inl (G.2 0, 60, .inl (fun _ => 0))), (q_2, .inl (G.2 0, 60, .inl (fun _ => 0))), (q_3, .inl (G.2 0, 16, .inl (fun _ => 0))), (q_4, .inl (G.2 0, 16, .inl (fun _ => 0))), (q_5, .inl (G.2 1, 60, .inl (fun _ => 0)))] H := hP
  have hD : va_D AA [(p, .inr (0, [.ref q_1, .ref q_2, .ref q_3, .ref q_4, .ref q_5, .int 0, .int 0, .int 0, .int 0])), (q_1, .inl (G.2 0, 60, .inl (fun _ => 0))), (q_2, .inl (G.2 0, 60, .inl (fun _ => 0))), (q_3, .inl (G.2 0, 16, .inl (fun _ => 0))), (q_4, .inl (G.2 0, 16, .inl (fun _ => 0))), (q_5, .inl (G.2 1, 60, .inl (fun _ => 0)))] := hD
  subst hQQ; exact gx_vret (q_1, q_2, q_3, q_4, q_5) hx hb hr hlocks hAe hP hD hS (Nat.le_of_ble_eq_true rfl) (Nat.le_of_ble_eq_true rfl) h dX3_init_44
theorem ct_X3_init (lL : Launch) (G : GE) (p : Nat)  : CtV lL yX3_init (ws_ yX3_init cX3_init 1 none) RX3_init G [.ref p] [(p, .inr (0, [.null, .null, .null, .null, .null, .int 0, .int 0, .int 0, .int 0]))] (fun (uu_ : Nat × Nat × Nat × Nat × Nat) => ps_X3_init ) (fun (uu_ : Nat × Nat × Nat × Nat × Nat) => [(p, .inr (0, [.ref uu_.1, .ref uu_.2.1, .ref uu_.2.2.1, .ref uu_.2.2.2.1, .ref uu_.2.2.2.2, .int 0, .int 0, .int 0, .int 0])), (uu_.1, .inl (G.2 0, 60, .inl (fun _ => 0))), (uu_.2.1, .inl (G.2 0, 60, .inl (fun _ => 0))), (uu_.2.2.1, .inl (G.2 0, 16, .inl (fun _ => 0))), (uu_.2.2.2.1, .inl (G.2 0, 16, .inl (fun _ => 0))), (uu_.2.2.2.2, .inl (G.2 1, 60, .inl (fun _ => 0)))]) :=
  wk_X3_init lL G p  _ (pf_X3_init )
abbrev RX3_rows : Room := ({ frames := 1, cells := 0, slots := 0, locals := 12 } : Room)
set_option maxHeartbeats 4000000 in
set_option maxRecDepth 100000 in
theorem wk_X3_rows (lL : Launch) (G : GE) (p pf pt pw pc po : Nat) (f t w c o : Nat → Int32) (nd rt ex mn : Int32) (Q : (Nat → Int32) → Prop) (h : wp_X3_rows f t w c o nd rt ex mn Q) : CtV lL yX3_rows (ws_ yX3_rows cX3_rows 2 none) RX3_rows G [.ref p] [(p, .inr (0, [.ref pf, .ref pt, .ref pw, .ref pc, .ref po, .int nd, .int rt, .int ex, .int mn])), (pf, .inl (G.2 0, 60, .inl f)), (pt, .inl (G.2 0, 60, .inl t)), (pw, .inl (G.2 0, 16, .inl w)), (pc, .inl (G.2 0, 16, .inl c)), (po, .inl (G.2 1, 60, .inl o))] (fun (uu_ : (Nat → Int32)) => Q uu_) (fun (uu_ : (Nat → Int32)) => [(p, .inr (0, [.ref pf, .ref pt, .ref pw, .ref pc, .ref po, .int nd, .int rt, .int ex, .int mn])), (pf, .inl (G.2 0, 60, .inl f)), (pt, .inl (G.2 0, 60, .inl t)), (pw, .inl (G.2 0, 16, .inl uu_)), (pc, .inl (G.2 0, 16, .inl c)), (po, .inl (G.2 1, 60, .inl o))]) := by
  refine gx_of (cc := cX3_rows) (maxL := 2) (ret := none) (by decide) (Nat.le_of_ble_eq_true rfl) ?_
  intro pp eE sS mM ar below meth cC AA ls QQ hx hb hr hml hts hown hlocks hnm hK hAe hQQ hP hD hA hS hl
  have hl : lv_has ls 2 [(0, .ref p)] := hl
  refine lv_iconst (v := 0) hx hb dX3_rows_0 (by decide) ?_
  refine lv_istore_n (lv' := [(1, .int 0), (0, .ref p)]) hx hb dX3_rows_1 rfl hl (by decide) rfl (fun ls hl => ?_)
  replace h := h (fun (a_15 : Nat → Int32) => ∀ (H : Heap) (locs : List Loc) (ls : Array Slot), va_P G.1 vwCl [(p, .inr (0, [.ref pf, .ref pt, .ref pw, .ref pc, .ref po, .int nd, .int rt, .int ex, .int mn])), (pf, .inl (G.2 0, 60, .inl f)), (pt, .inl (G.2 0, 60, .inl t)), (pw, .inl (G.2 0, 16, .inl a_15)), (pc, .inl (G.2 0, 16, .inl c)), (po, .inl (G.2 1, 60, .inl o))] H → va_D AA [(p, .inr (0, [.ref pf, .ref pt, .ref pw, .ref pc, .ref po, .int nd, .int rt, .int ex, .int mn])), (pf, .inl (G.2 0, 60, .inl f)), (pt, .inl (G.2 0, 60, .inl t)), (pw, .inl (G.2 0, 16, .inl a_15)), (pc, .inl (G.2 0, 16, .inl c)), (po, .inl (G.2 1, 60, .inl o))] → va_S AA sS.heap H locs → lv_has ls 2 [(0, .ref p)] → W pp lL eE RX3_rows sS mM ar below meth cC H locs 0 0 QQ (F0 mM 21 ls [])) (by
      clear h
      intro a_15 h H locs ls hP hD hS hl
      refine lv_iconst (v := 0) hx hb dX3_rows_21 (by decide) ?_
      refine lv_istore_n (lv' := [(1, .int 0), (0, .ref p)]) hx hb dX3_rows_22 rfl hl (by decide) rfl (fun ls hl => ?_)
      replace h := h (fun (a_37 : Nat → Int32) => ∀ (H : Heap) (locs : List Loc) (ls : Array Slot), va_P G.1 vwCl [(p, .inr (0, [.ref pf, .ref pt, .ref pw, .ref pc, .ref po, .int nd, .int rt, .int ex, .int mn])), (pf, .inl (G.2 0, 60, .inl f)), (pt, .inl (G.2 0, 60, .inl t)), (pw, .inl (G.2 0, 16, .inl a_37)), (pc, .inl (G.2 0, 16, .inl c)), (po, .inl (G.2 1, 60, .inl o))] H → va_D AA [(p, .inr (0, [.ref pf, .ref pt, .ref pw, .ref pc, .ref po, .int nd, .int rt, .int ex, .int mn])), (pf, .inl (G.2 0, 60, .inl f)), (pt, .inl (G.2 0, 60, .inl t)), (pw, .inl (G.2 0, 16, .inl a_37)), (pc, .inl (G.2 0, 16, .inl c)), (po, .inl (G.2 1, 60, .inl o))] → va_S AA sS.heap H locs → lv_has ls 2 [] → W pp lL eE RX3_rows sS mM ar below meth cC H locs 0 0 QQ (F0 mM 68 ls [])) (by
          clear h
          intro a_37 h H locs ls hP hD hS hl
          subst hQQ; exact gx_vret a_37 hx hb hr hlocks hAe hP hD hS (Nat.le_of_ble_eq_true rfl) (Nat.le_of_ble_eq_true rfl) h dX3_rows_68)
      refine h (fun (x1_39 : Int32) (a_40 : Nat → Int32) => ∀ (H : Heap) (locs : List Loc) (ls : Array Slot), va_P G.1 vwCl [(p, .inr (0, [.ref pf, .ref pt, .ref pw, .ref pc, .ref po, .int nd, .int rt, .int ex, .int mn])), (pf, .inl (G.2 0, 60, .inl f)), (pt, .inl (G.2 0, 60, .inl t)), (pw, .inl (G.2 0, 16, .inl a_40)), (pc, .inl (G.2 0, 16, .inl c)), (po, .inl (G.2 1, 60, .inl o))] H → va_D AA [(p, .inr (0, [.ref pf, .ref pt, .ref pw, .ref pc, .ref po, .int nd, .int rt, .int ex, .int mn])), (pf, .inl (G.2 0, 60, .inl f)), (pt, .inl (G.2 0, 60, .inl t)), (pw, .inl (G.2 0, 16, .inl a_40)), (pc, .inl (G.2 0, 16, .inl c)), (po, .inl (G.2 1, 60, .inl o))] → va_S AA sS.heap H locs → lv_has ls 2 [(1, .int x1_39), (0, .ref p)] → W pp lL eE RX3_rows sS mM ar below meth cC H locs 0 0 QQ (F0 mM 23 ls [])) ?_  _ _ _ hP hD hS hl
      clear h
      intro x1_39 a_40 h H locs ls hP hD hS hl
      refine lv_iload_n hx hb dX3_rows_23 rfl (lv_at hl 0 rfl) ?_
      refine lv_aload_n hx hb dX3_rows_24 rfl (lv_at hl 1 rfl) ?_
      refine va_get (D := G.1) (ci := 0) (v := .int mn) (C := RX3) (T := TX3) (N := 9) hx hb hts in_X3 hown hK.1 hP 0 rfl rfl 8 (by decide) (hts _ q232) (fun _ h9 => h9) rfl dX3_rows_25 ?_
      refine lv_icmp_ge (tgt := 68) hx hb dX3_rows_28 (by decide) (fun c_42 => ?_) (fun c_42 => ?_)
      · replace h := h.1 c_42
        exact h _ _ _ hP hD hS (lv_sub hl [] rfl)
      · replace h := h.2 c_42
        refine lv_aload_n hx hb dX3_rows_31 rfl (lv_at hl 1 rfl) ?_
        refine va_get (D := G.1) (ci := 0) (v := .ref po) (C := RX3) (T := TX3) (N := 9) hx hb hts in_X3 hown hK.1 hP 0 rfl rfl 4 (by decide) (hts _ q222) (fun _ h9 => h9) rfl dX3_rows_32 ?_
        refine lv_iload_n hx hb dX3_rows_35 rfl (lv_at hl 0 rfl) ?_
        have b_43 := h.1
        refine va_zald hx hb hK.1 hP 5 1 rfl rfl b_43 dX3_rows_36 ?_
        replace h := h.2
        refine lv_if_eq (tgt := 62) hx hb dX3_rows_37 (by decide) (fun c_44 => ?_) (fun c_44 => ?_)
        · replace h := h.1 c_44
          refine lv_iinc (v := x1_39 + 1) (lv' := [(1, .int (x1_39 + 1)), (0, .ref p)]) hx hb dX3_rows_62 hl (k := 0) rfl rfl (by decide) rfl (fun ls hl => ?_)
          refine lv_goto (tgt := 23) hx hb dX3_rows_65 (by decide) ?_
          exact h _ _ _ hP hD hS hl
        · replace h := h.2 c_44
          refine lv_aload_n hx hb dX3_rows_40 rfl (lv_at hl 1 rfl) ?_
          refine va_get (D := G.1) (ci := 0) (v := .ref pw) (C := RX3) (T := TX3) (N := 9) hx hb hts in_X3 hown hK.1 hP 0 rfl rfl 2 (by decide) (hts _ q217) (fun _ h9 => h9) rfl dX3_rows_41 ?_
          refine lv_aload_n hx hb dX3_rows_44 rfl (lv_at hl 1 rfl) ?_
          refine va_get (D := G.1) (ci := 0) (v := .ref pf) (C := RX3) (T := TX3) (N := 9) hx hb hts in_X3 hown hK.1 hP 0 rfl rfl 0 (by decide) (hts _ q213) (fun _ h9 => h9) rfl dX3_rows_45 ?_
          refine lv_iload_n hx hb dX3_rows_48 rfl (lv_at hl 0 rfl) ?_
          refine va_iald hx hb hK.1 hP 1 0 rfl rfl b_43 dX3_rows_49 ?_
          refine lv_dup2_11 hx hb dX3_rows_50 rfl rfl ?_
          have b_45 := h.1
          refine va_iald hx hb hK.1 hP 3 0 rfl rfl b_45 dX3_rows_51 ?_
          replace h := h.2
          refine lv_iconst (v := 1) hx hb dX3_rows_52 (by decide) ?_
          refine lv_aload_n hx hb dX3_rows_53 rfl (lv_at hl 1 rfl) ?_
          refine va_get (D := G.1) (ci := 0) (v := .ref pt) (C := RX3) (T := TX3) (N := 9) hx hb hts in_X3 hown hK.1 hP 0 rfl rfl 1 (by decide) (hts _ q215) (fun _ h9 => h9) rfl dX3_rows_54 ?_
          refine lv_iload_n hx hb dX3_rows_57 rfl (lv_at hl 0 rfl) ?_
          refine va_iald hx hb hK.1 hP 2 0 rfl rfl b_43 dX3_rows_58 ?_
          refine lv_ishl hx hb dX3_rows_59 ?_
          refine lv_ior hx hb dX3_rows_60 ?_
          refine va_iast hx hb hK.1 hP hD hS 3 0 rfl rfl b_45 dX3_rows_61 (fun H locs hP hD hS => ?_)
          obtain ⟨u_46, eu_46⟩ : ∃ z__, z__ = upd a_40 (f x1_39.toNatClampNeg).toNatClampNeg ((a_40 (f x1_39.toNatClampNeg).toNatClampNeg) ||| (1 <<< ((t x1_39.toNatClampNeg) &&& 31))) := ⟨_, rfl⟩
          replace h := h u_46 eu_46
          have hP : va_P G.1 vwCl [(p, .inr (0, [.ref pf, .ref pt, .ref pw, .ref pc, .ref po, .int nd, .int rt, .int ex, .int mn])), (pf, .inl (G.2 0, 60, .inl f)), (pt, .inl (G.2 0, 60, .inl t)), (pw, .inl (G.2 0, 16, .inl u_46)), (pc, .inl (G.2 0, 16, .inl c)), (po, .inl (G.2 1, 60, .inl o))] H := by rw [eu_46]; exact hP
          have hD : va_D AA [(p, .inr (0, [.ref pf, .ref pt, .ref pw, .ref pc, .ref po, .int nd, .int rt, .int ex, .int mn])), (pf, .inl (G.2 0, 60, .inl f)), (pt, .inl (G.2 0, 60, .inl t)), (pw, .inl (G.2 0, 16, .inl u_46)), (pc, .inl (G.2 0, 16, .inl c)), (po, .inl (G.2 1, 60, .inl o))] := by rw [eu_46]; exact hD
          refine lv_iinc (v := x1_39 + 1) (lv' := [(1, .int (x1_39 + 1)), (0, .ref p)]) hx hb dX3_rows_62 hl (k := 0) rfl rfl (by decide) rfl (fun ls hl => ?_)
          refine lv_goto (tgt := 23) hx hb dX3_rows_65 (by decide) ?_
          exact h _ _ _ hP hD hS hl)
  refine h (fun (x1_48 : Int32) (a_49 : Nat → Int32) => ∀ (H : Heap) (locs : List Loc) (ls : Array Slot), va_P G.1 vwCl [(p, .inr (0, [.ref pf, .ref pt, .ref pw, .ref pc, .ref po, .int nd, .int rt, .int ex, .int mn])), (pf, .inl (G.2 0, 60, .inl f)), (pt, .inl (G.2 0, 60, .inl t)), (pw, .inl (G.2 0, 16, .inl a_49)), (pc, .inl (G.2 0, 16, .inl c)), (po, .inl (G.2 1, 60, .inl o))] H → va_D AA [(p, .inr (0, [.ref pf, .ref pt, .ref pw, .ref pc, .ref po, .int nd, .int rt, .int ex, .int mn])), (pf, .inl (G.2 0, 60, .inl f)), (pt, .inl (G.2 0, 60, .inl t)), (pw, .inl (G.2 0, 16, .inl a_49)), (pc, .inl (G.2 0, 16, .inl c)), (po, .inl (G.2 1, 60, .inl o))] → va_S AA sS.heap H locs → lv_has ls 2 [(1, .int x1_48), (0, .ref p)] → W pp lL eE RX3_rows sS mM ar below meth cC H locs 0 0 QQ (F0 mM 2 ls [])) ?_  _ _ _ hP hD hS hl
  clear h
  intro x1_48 a_49 h H locs ls hP hD hS hl
  refine lv_iload_n hx hb dX3_rows_2 rfl (lv_at hl 0 rfl) ?_
  refine lv_bipush (v := 16) hx hb dX3_rows_3 (by decide) ?_
  refine lv_icmp_ge (tgt := 21) hx hb dX3_rows_5 (by decide) (fun c_51 => ?_) (fun c_51 => ?_)
  · replace h := h.1 c_51
    exact h _ _ _ hP hD hS (lv_sub hl [1] rfl)
  · replace h := h.2 c_51
    refine lv_aload_n hx hb dX3_rows_8 rfl (lv_at hl 1 rfl) ?_
    refine va_get (D := G.1) (ci := 0) (v := .ref pw) (C := RX3) (T := TX3) (N := 9) hx hb hts in_X3 hown hK.1 hP 0 rfl rfl 2 (by decide) (hts _ q217) (fun _ h9 => h9) rfl dX3_rows_9 ?_
    refine lv_iload_n hx hb dX3_rows_12 rfl (lv_at hl 0 rfl) ?_
    refine lv_iconst (v := 0) hx hb dX3_rows_13 (by decide) ?_
    have b_52 := h.1
    refine va_iast hx hb hK.1 hP hD hS 3 0 rfl rfl b_52 dX3_rows_14 (fun H locs hP hD hS => ?_)
    replace h := h.2
    obtain ⟨u_53, eu_53⟩ : ∃ z__, z__ = upd a_49 x1_48.toNatClampNeg 0 := ⟨_, rfl⟩
    replace h := h u_53 eu_53
    have hP : va_P G.1 vwCl [(p, .inr (0, [.ref pf, .ref pt, .ref pw, .ref pc, .ref po, .int nd, .int rt, .int ex, .int mn])), (pf, .inl (G.2 0, 60, .inl f)), (pt, .inl (G.2 0, 60, .inl t)), (pw, .inl (G.2 0, 16, .inl u_53)), (pc, .inl (G.2 0, 16, .inl c)), (po, .inl (G.2 1, 60, .inl o))] H := by rw [eu_53]; exact hP
    have hD : va_D AA [(p, .inr (0, [.ref pf, .ref pt, .ref pw, .ref pc, .ref po, .int nd, .int rt, .int ex, .int mn])), (pf, .inl (G.2 0, 60, .inl f)), (pt, .inl (G.2 0, 60, .inl t)), (pw, .inl (G.2 0, 16, .inl u_53)), (pc, .inl (G.2 0, 16, .inl c)), (po, .inl (G.2 1, 60, .inl o))] := by rw [eu_53]; exact hD
    refine lv_iinc (v := x1_48 + 1) (lv' := [(1, .int (x1_48 + 1)), (0, .ref p)]) hx hb dX3_rows_15 hl (k := 0) rfl rfl (by decide) rfl (fun ls hl => ?_)
    refine lv_goto (tgt := 2) hx hb dX3_rows_18 (by decide) ?_
    exact h _ _ _ hP hD hS hl
theorem ct_X3_rows (lL : Launch) (G : GE) (p pf pt pw pc po : Nat) (f t w c o : Nat → Int32) (nd rt ex mn : Int32) (hp : pr_X3_rows f t w c o nd rt ex mn) : CtV lL yX3_rows (ws_ yX3_rows cX3_rows 2 none) RX3_rows G [.ref p] [(p, .inr (0, [.ref pf, .ref pt, .ref pw, .ref pc, .ref po, .int nd, .int rt, .int ex, .int mn])), (pf, .inl (G.2 0, 60, .inl f)), (pt, .inl (G.2 0, 60, .inl t)), (pw, .inl (G.2 0, 16, .inl w)), (pc, .inl (G.2 0, 16, .inl c)), (po, .inl (G.2 1, 60, .inl o))] (fun (uu_ : (Nat → Int32)) => ps_X3_rows f t w c o nd rt ex mn uu_) (fun (uu_ : (Nat → Int32)) => [(p, .inr (0, [.ref pf, .ref pt, .ref pw, .ref pc, .ref po, .int nd, .int rt, .int ex, .int mn])), (pf, .inl (G.2 0, 60, .inl f)), (pt, .inl (G.2 0, 60, .inl t)), (pw, .inl (G.2 0, 16, .inl uu_)), (pc, .inl (G.2 0, 16, .inl c)), (po, .inl (G.2 1, 60, .inl o))]) :=
  wk_X3_rows lL G p pf pt pw pc po f t w c o nd rt ex mn _ (pf_X3_rows f t w c o nd rt ex mn hp)
abbrev RX3_nodes : Room := ({ frames := 1, cells := 0, slots := 0, locals := 12 } : Room)
set_option maxHeartbeats 4000000 in
set_option maxRecDepth 100000 in
theorem wk_X3_nodes (lL : Launch) (G : GE) (p pf pt pw pc po : Nat) (f t w c o : Nat → Int32) (nd rt ex mn : Int32) (Q : Int32 → Prop) (h : wp_X3_nodes f t w c o nd rt ex mn Q) : CtI lL yX3_nodes (ws_ yX3_nodes cX3_nodes 1 (some .int)) RX3_nodes G [.ref p] [(p, .inr (0, [.ref pf, .ref pt, .ref pw, .ref pc, .ref po, .int nd, .int rt, .int ex, .int mn])), (pf, .inl (G.2 0, 60, .inl f)), (pt, .inl (G.2 0, 60, .inl t)), (pw, .inl (G.2 0, 16, .inl w)), (pc, .inl (G.2 0, 16, .inl c)), (po, .inl (G.2 1, 60, .inl o))] (fun (rr_ : Int32) (uu_ : Unit) => Q rr_ ) (fun (uu_ : Unit) => [(p, .inr (0, [.ref pf, .ref pt, .ref pw, .ref pc, .ref po, .int nd, .int rt, .int ex, .int mn])), (pf, .inl (G.2 0, 60, .inl f)), (pt, .inl (G.2 0, 60, .inl t)), (pw, .inl (G.2 0, 16, .inl w)), (pc, .inl (G.2 0, 16, .inl c)), (po, .inl (G.2 1, 60, .inl o))]) := by
  refine gx_of (cc := cX3_nodes) (maxL := 1) (ret := (some .int)) (by decide) (Nat.le_of_ble_eq_true rfl) ?_
  intro pp eE sS mM ar below meth cC AA ls QQ hx hb hr hml hts hown hlocks hnm hK hAe hQQ hP hD hA hS hl
  have hl : lv_has ls 1 [(0, .ref p)] := hl
  refine lv_aload_n hx hb dX3_nodes_0 rfl (lv_at hl 0 rfl) ?_
  refine va_get (D := G.1) (ci := 0) (v := .int nd) (C := RX3) (T := TX3) (N := 9) hx hb hts in_X3 hown hK.1 hP 0 rfl rfl 5 (by decide) (hts _ q224) (fun _ h9 => h9) rfl dX3_nodes_1 ?_
  subst hQQ; exact gx_iret () hx hb hr hlocks hAe hP hD hS (Nat.le_of_ble_eq_true rfl) (Nat.le_of_ble_eq_true rfl) h dX3_nodes_4
theorem ct_X3_nodes (lL : Launch) (G : GE) (p pf pt pw pc po : Nat) (f t w c o : Nat → Int32) (nd rt ex mn : Int32) : CtI lL yX3_nodes (ws_ yX3_nodes cX3_nodes 1 (some .int)) RX3_nodes G [.ref p] [(p, .inr (0, [.ref pf, .ref pt, .ref pw, .ref pc, .ref po, .int nd, .int rt, .int ex, .int mn])), (pf, .inl (G.2 0, 60, .inl f)), (pt, .inl (G.2 0, 60, .inl t)), (pw, .inl (G.2 0, 16, .inl w)), (pc, .inl (G.2 0, 16, .inl c)), (po, .inl (G.2 1, 60, .inl o))] (fun (rr_ : Int32) (uu_ : Unit) => ps_X3_nodes f t w c o nd rt ex mn rr_ ) (fun (uu_ : Unit) => [(p, .inr (0, [.ref pf, .ref pt, .ref pw, .ref pc, .ref po, .int nd, .int rt, .int ex, .int mn])), (pf, .inl (G.2 0, 60, .inl f)), (pt, .inl (G.2 0, 60, .inl t)), (pw, .inl (G.2 0, 16, .inl w)), (pc, .inl (G.2 0, 16, .inl c)), (po, .inl (G.2 1, 60, .inl o))]) :=
  wk_X3_nodes lL G p pf pt pw pc po f t w c o nd rt ex mn _ (pf_X3_nodes f t w c o nd rt ex mn)
abbrev RX3_next : Room := ({ frames := 1, cells := 0, slots := 0, locals := 12 } : Room)
set_option maxHeartbeats 4000000 in
set_option maxRecDepth 100000 in
theorem wk_X3_next (lL : Launch) (G : GE) (p pf pt pw pc po : Nat) (f t w c o : Nat → Int32) (nd rt ex mn k : Int32) (Q : Int32 → Prop) (h : wp_X3_next f t w c o nd rt ex mn k Q) : CtI lL yX3_next (ws_ yX3_next cX3_next 2 (some .int)) RX3_next G [.ref p, .int k] [(p, .inr (0, [.ref pf, .ref pt, .ref pw, .ref pc, .ref po, .int nd, .int rt, .int ex, .int mn])), (pf, .inl (G.2 0, 60, .inl f)), (pt, .inl (G.2 0, 60, .inl t)), (pw, .inl (G.2 0, 16, .inl w)), (pc, .inl (G.2 0, 16, .inl c)), (po, .inl (G.2 1, 60, .inl o))] (fun (rr_ : Int32) (uu_ : Unit) => Q rr_ ) (fun (uu_ : Unit) => [(p, .inr (0, [.ref pf, .ref pt, .ref pw, .ref pc, .ref po, .int nd, .int rt, .int ex, .int mn])), (pf, .inl (G.2 0, 60, .inl f)), (pt, .inl (G.2 0, 60, .inl t)), (pw, .inl (G.2 0, 16, .inl w)), (pc, .inl (G.2 0, 16, .inl c)), (po, .inl (G.2 1, 60, .inl o))]) := by
  refine gx_of (cc := cX3_next) (maxL := 2) (ret := (some .int)) (by decide) (Nat.le_of_ble_eq_true rfl) ?_
  intro pp eE sS mM ar below meth cC AA ls QQ hx hb hr hml hts hown hlocks hnm hK hAe hQQ hP hD hA hS hl
  have hl : lv_has ls 2 [(0, .ref p), (1, .int k)] := hl
  refine lv_aload_n hx hb dX3_next_0 rfl (lv_at hl 0 rfl) ?_
  refine va_get (D := G.1) (ci := 0) (v := .ref pw) (C := RX3) (T := TX3) (N := 9) hx hb hts in_X3 hown hK.1 hP 0 rfl rfl 2 (by decide) (hts _ q217) (fun _ h9 => h9) rfl dX3_next_1 ?_
  refine lv_iload_n hx hb dX3_next_4 rfl (lv_at hl 1 rfl) ?_
  have b_1 := h.1
  refine va_iald hx hb hK.1 hP 3 0 rfl rfl b_1 dX3_next_5 ?_
  replace h := h.2
  subst hQQ; exact gx_iret () hx hb hr hlocks hAe hP hD hS (Nat.le_of_ble_eq_true rfl) (Nat.le_of_ble_eq_true rfl) h dX3_next_6
theorem ct_X3_next (lL : Launch) (G : GE) (p pf pt pw pc po : Nat) (f t w c o : Nat → Int32) (nd rt ex mn k : Int32) (hp : pr_X3_next f t w c o nd rt ex mn k) : CtI lL yX3_next (ws_ yX3_next cX3_next 2 (some .int)) RX3_next G [.ref p, .int k] [(p, .inr (0, [.ref pf, .ref pt, .ref pw, .ref pc, .ref po, .int nd, .int rt, .int ex, .int mn])), (pf, .inl (G.2 0, 60, .inl f)), (pt, .inl (G.2 0, 60, .inl t)), (pw, .inl (G.2 0, 16, .inl w)), (pc, .inl (G.2 0, 16, .inl c)), (po, .inl (G.2 1, 60, .inl o))] (fun (rr_ : Int32) (uu_ : Unit) => ps_X3_next f t w c o nd rt ex mn k rr_ ) (fun (uu_ : Unit) => [(p, .inr (0, [.ref pf, .ref pt, .ref pw, .ref pc, .ref po, .int nd, .int rt, .int ex, .int mn])), (pf, .inl (G.2 0, 60, .inl f)), (pt, .inl (G.2 0, 60, .inl t)), (pw, .inl (G.2 0, 16, .inl w)), (pc, .inl (G.2 0, 16, .inl c)), (po, .inl (G.2 1, 60, .inl o))]) :=
  wk_X3_next lL G p pf pt pw pc po f t w c o nd rt ex mn k _ (pf_X3_next f t w c o nd rt ex mn k hp)
abbrev RX3_isNode : Room := ({ frames := 1, cells := 0, slots := 0, locals := 12 } : Room)
set_option maxHeartbeats 4000000 in
set_option maxRecDepth 100000 in
theorem wk_X3_isNode (lL : Launch) (G : GE) (p pf pt pw pc po : Nat) (f t w c o : Nat → Int32) (nd rt ex mn k : Int32) (Q : Int32 → Prop) (h : wp_X3_isNode f t w c o nd rt ex mn k Q) : CtI lL yX3_isNode (ws_ yX3_isNode cX3_isNode 2 (some .boolean)) RX3_isNode G [.ref p, .int k] [(p, .inr (0, [.ref pf, .ref pt, .ref pw, .ref pc, .ref po, .int nd, .int rt, .int ex, .int mn])), (pf, .inl (G.2 0, 60, .inl f)), (pt, .inl (G.2 0, 60, .inl t)), (pw, .inl (G.2 0, 16, .inl w)), (pc, .inl (G.2 0, 16, .inl c)), (po, .inl (G.2 1, 60, .inl o))] (fun (rr_ : Int32) (uu_ : Unit) => Q rr_ ) (fun (uu_ : Unit) => [(p, .inr (0, [.ref pf, .ref pt, .ref pw, .ref pc, .ref po, .int nd, .int rt, .int ex, .int mn])), (pf, .inl (G.2 0, 60, .inl f)), (pt, .inl (G.2 0, 60, .inl t)), (pw, .inl (G.2 0, 16, .inl w)), (pc, .inl (G.2 0, 16, .inl c)), (po, .inl (G.2 1, 60, .inl o))]) := by
  refine gx_of (cc := cX3_isNode) (maxL := 2) (ret := (some .boolean)) (by decide) (Nat.le_of_ble_eq_true rfl) ?_
  intro pp eE sS mM ar below meth cC AA ls QQ hx hb hr hml hts hown hlocks hnm hK hAe hQQ hP hD hA hS hl
  have hl : lv_has ls 2 [(0, .ref p), (1, .int k)] := hl
  refine lv_iload_n hx hb dX3_isNode_0 rfl (lv_at hl 1 rfl) ?_
  refine lv_if_lt (tgt := 16) hx hb dX3_isNode_1 (by decide) (fun c_1 => ?_) (fun c_1 => ?_)
  · replace h := h.1 c_1
    refine lv_iconst (v := 0) hx hb dX3_isNode_16 (by decide) ?_
    subst hQQ; exact gx_zret () hx hb hr hlocks hAe hP hD hS (Nat.le_of_ble_eq_true rfl) (Nat.le_of_ble_eq_true rfl) rfl h dX3_isNode_17
  · replace h := h.2 c_1
    refine lv_iload_n hx hb dX3_isNode_4 rfl (lv_at hl 1 rfl) ?_
    refine lv_aload_n hx hb dX3_isNode_5 rfl (lv_at hl 0 rfl) ?_
    refine va_get (D := G.1) (ci := 0) (v := .int nd) (C := RX3) (T := TX3) (N := 9) hx hb hts in_X3 hown hK.1 hP 0 rfl rfl 5 (by decide) (hts _ q224) (fun _ h9 => h9) rfl dX3_isNode_6 ?_
    refine lv_icmp_ge (tgt := 16) hx hb dX3_isNode_9 (by decide) (fun c_2 => ?_) (fun c_2 => ?_)
    · replace h := h.1 c_2
      refine lv_iconst (v := 0) hx hb dX3_isNode_16 (by decide) ?_
      subst hQQ; exact gx_zret () hx hb hr hlocks hAe hP hD hS (Nat.le_of_ble_eq_true rfl) (Nat.le_of_ble_eq_true rfl) rfl h dX3_isNode_17
    · replace h := h.2 c_2
      refine lv_iconst (v := 1) hx hb dX3_isNode_12 (by decide) ?_
      refine lv_goto (tgt := 17) hx hb dX3_isNode_13 (by decide) ?_
      subst hQQ; exact gx_zret () hx hb hr hlocks hAe hP hD hS (Nat.le_of_ble_eq_true rfl) (Nat.le_of_ble_eq_true rfl) rfl h dX3_isNode_17
theorem ct_X3_isNode (lL : Launch) (G : GE) (p pf pt pw pc po : Nat) (f t w c o : Nat → Int32) (nd rt ex mn k : Int32) : CtI lL yX3_isNode (ws_ yX3_isNode cX3_isNode 2 (some .boolean)) RX3_isNode G [.ref p, .int k] [(p, .inr (0, [.ref pf, .ref pt, .ref pw, .ref pc, .ref po, .int nd, .int rt, .int ex, .int mn])), (pf, .inl (G.2 0, 60, .inl f)), (pt, .inl (G.2 0, 60, .inl t)), (pw, .inl (G.2 0, 16, .inl w)), (pc, .inl (G.2 0, 16, .inl c)), (po, .inl (G.2 1, 60, .inl o))] (fun (rr_ : Int32) (uu_ : Unit) => ps_X3_isNode f t w c o nd rt ex mn k rr_ ) (fun (uu_ : Unit) => [(p, .inr (0, [.ref pf, .ref pt, .ref pw, .ref pc, .ref po, .int nd, .int rt, .int ex, .int mn])), (pf, .inl (G.2 0, 60, .inl f)), (pt, .inl (G.2 0, 60, .inl t)), (pw, .inl (G.2 0, 16, .inl w)), (pc, .inl (G.2 0, 16, .inl c)), (po, .inl (G.2 1, 60, .inl o))]) :=
  wk_X3_isNode lL G p pf pt pw pc po f t w c o nd rt ex mn k _ (pf_X3_isNode f t w c o nd rt ex mn k)
abbrev RX3_isArc : Room := ({ frames := 1, cells := 0, slots := 0, locals := 12 } : Room)
set_option maxHeartbeats 4000000 in
set_option maxRecDepth 100000 in
theorem wk_X3_isArc (lL : Launch) (G : GE) (p pf pt pw pc po : Nat) (f t w c o : Nat → Int32) (nd rt ex mn k : Int32) (Q : Int32 → Prop) (h : wp_X3_isArc f t w c o nd rt ex mn k Q) : CtI lL yX3_isArc (ws_ yX3_isArc cX3_isArc 2 (some .boolean)) RX3_isArc G [.ref p, .int k] [(p, .inr (0, [.ref pf, .ref pt, .ref pw, .ref pc, .ref po, .int nd, .int rt, .int ex, .int mn])), (pf, .inl (G.2 0, 60, .inl f)), (pt, .inl (G.2 0, 60, .inl t)), (pw, .inl (G.2 0, 16, .inl w)), (pc, .inl (G.2 0, 16, .inl c)), (po, .inl (G.2 1, 60, .inl o))] (fun (rr_ : Int32) (uu_ : Unit) => Q rr_ ) (fun (uu_ : Unit) => [(p, .inr (0, [.ref pf, .ref pt, .ref pw, .ref pc, .ref po, .int nd, .int rt, .int ex, .int mn])), (pf, .inl (G.2 0, 60, .inl f)), (pt, .inl (G.2 0, 60, .inl t)), (pw, .inl (G.2 0, 16, .inl w)), (pc, .inl (G.2 0, 16, .inl c)), (po, .inl (G.2 1, 60, .inl o))]) := by
  refine gx_of (cc := cX3_isArc) (maxL := 2) (ret := (some .boolean)) (by decide) (Nat.le_of_ble_eq_true rfl) ?_
  intro pp eE sS mM ar below meth cC AA ls QQ hx hb hr hml hts hown hlocks hnm hK hAe hQQ hP hD hA hS hl
  have hl : lv_has ls 2 [(0, .ref p), (1, .int k)] := hl
  refine lv_iload_n hx hb dX3_isArc_0 rfl (lv_at hl 1 rfl) ?_
  refine lv_if_lt (tgt := 16) hx hb dX3_isArc_1 (by decide) (fun c_1 => ?_) (fun c_1 => ?_)
  · replace h := h.1 c_1
    refine lv_iconst (v := 0) hx hb dX3_isArc_16 (by decide) ?_
    subst hQQ; exact gx_zret () hx hb hr hlocks hAe hP hD hS (Nat.le_of_ble_eq_true rfl) (Nat.le_of_ble_eq_true rfl) rfl h dX3_isArc_17
  · replace h := h.2 c_1
    refine lv_iload_n hx hb dX3_isArc_4 rfl (lv_at hl 1 rfl) ?_
    refine lv_aload_n hx hb dX3_isArc_5 rfl (lv_at hl 0 rfl) ?_
    refine va_get (D := G.1) (ci := 0) (v := .int mn) (C := RX3) (T := TX3) (N := 9) hx hb hts in_X3 hown hK.1 hP 0 rfl rfl 8 (by decide) (hts _ q232) (fun _ h9 => h9) rfl dX3_isArc_6 ?_
    refine lv_icmp_ge (tgt := 16) hx hb dX3_isArc_9 (by decide) (fun c_2 => ?_) (fun c_2 => ?_)
    · replace h := h.1 c_2
      refine lv_iconst (v := 0) hx hb dX3_isArc_16 (by decide) ?_
      subst hQQ; exact gx_zret () hx hb hr hlocks hAe hP hD hS (Nat.le_of_ble_eq_true rfl) (Nat.le_of_ble_eq_true rfl) rfl h dX3_isArc_17
    · replace h := h.2 c_2
      refine lv_iconst (v := 1) hx hb dX3_isArc_12 (by decide) ?_
      refine lv_goto (tgt := 17) hx hb dX3_isArc_13 (by decide) ?_
      subst hQQ; exact gx_zret () hx hb hr hlocks hAe hP hD hS (Nat.le_of_ble_eq_true rfl) (Nat.le_of_ble_eq_true rfl) rfl h dX3_isArc_17
theorem ct_X3_isArc (lL : Launch) (G : GE) (p pf pt pw pc po : Nat) (f t w c o : Nat → Int32) (nd rt ex mn k : Int32) : CtI lL yX3_isArc (ws_ yX3_isArc cX3_isArc 2 (some .boolean)) RX3_isArc G [.ref p, .int k] [(p, .inr (0, [.ref pf, .ref pt, .ref pw, .ref pc, .ref po, .int nd, .int rt, .int ex, .int mn])), (pf, .inl (G.2 0, 60, .inl f)), (pt, .inl (G.2 0, 60, .inl t)), (pw, .inl (G.2 0, 16, .inl w)), (pc, .inl (G.2 0, 16, .inl c)), (po, .inl (G.2 1, 60, .inl o))] (fun (rr_ : Int32) (uu_ : Unit) => ps_X3_isArc f t w c o nd rt ex mn k rr_ ) (fun (uu_ : Unit) => [(p, .inr (0, [.ref pf, .ref pt, .ref pw, .ref pc, .ref po, .int nd, .int rt, .int ex, .int mn])), (pf, .inl (G.2 0, 60, .inl f)), (pt, .inl (G.2 0, 60, .inl t)), (pw, .inl (G.2 0, 16, .inl w)), (pc, .inl (G.2 0, 16, .inl c)), (po, .inl (G.2 1, 60, .inl o))]) :=
  wk_X3_isArc lL G p pf pt pw pc po f t w c o nd rt ex mn k _ (pf_X3_isArc f t w c o nd rt ex mn k)
abbrev RX3_begins : Room := ({ frames := 2, cells := 0, slots := 0, locals := 33 } : Room)
set_option maxHeartbeats 4000000 in
set_option maxRecDepth 100000 in
theorem wk_X3_begins (lL : Launch) (G : GE) (p pf pt pw pc po : Nat) (f t w c o : Nat → Int32) (nd rt ex mn k : Int32) (Q : (Nat → Int32) → (Nat → Int32) → Int32 → Int32 → Int32 → Int32 → Prop) (h : wp_X3_begins f t w c o nd rt ex mn k Q) : CtR lL yX3_begins (ws_ yX3_begins cX3_begins 3 (some (.object "GateLifter$Net"))) RX3_begins G [.ref p, .int k] [(p, .inr (0, [.ref pf, .ref pt, .ref pw, .ref pc, .ref po, .int nd, .int rt, .int ex, .int mn])), (pf, .inl (G.2 0, 60, .inl f)), (pt, .inl (G.2 0, 60, .inl t)), (pw, .inl (G.2 0, 16, .inl w)), (pc, .inl (G.2 0, 16, .inl c)), (po, .inl (G.2 1, 60, .inl o))] (fun ra => ra = p) (fun (uu_ : (Nat → Int32) × (Nat → Int32) × Int32 × Int32 × Int32 × Int32) => Q uu_.1 uu_.2.1 uu_.2.2.1 uu_.2.2.2.1 uu_.2.2.2.2.1 uu_.2.2.2.2.2) (fun (uu_ : (Nat → Int32) × (Nat → Int32) × Int32 × Int32 × Int32 × Int32) (ra : Nat) => [(p, .inr (0, [.ref pf, .ref pt, .ref pw, .ref pc, .ref po, .int uu_.2.2.1, .int uu_.2.2.2.1, .int uu_.2.2.2.2.1, .int uu_.2.2.2.2.2])), (pf, .inl (G.2 0, 60, .inl f)), (pt, .inl (G.2 0, 60, .inl t)), (pw, .inl (G.2 0, 16, .inl uu_.1)), (pc, .inl (G.2 0, 16, .inl uu_.2.1)), (po, .inl (G.2 1, 60, .inl o))]) := by
  refine gx_of (cc := cX3_begins) (maxL := 3) (ret := (some (.object "GateLifter$Net"))) (by decide) (Nat.le_of_ble_eq_true rfl) ?_
  intro pp eE sS mM ar below meth cC AA ls QQ hx hb hr hml hts hown hlocks hnm hK hAe hQQ hP hD hA hS hl
  have hl : lv_has ls 3 [(0, .ref p), (1, .int k)] := hl
  refine lv_aload_n hx hb dX3_begins_0 rfl (lv_at hl 0 rfl) ?_
  refine lv_iload_n hx hb dX3_begins_1 rfl (lv_at hl 1 rfl) ?_
  refine va_put (D := G.1) (ci := 0) (v := .int k) (ty := .int) (C := RX3) (T := TX3) (N := 9) hx hb hts in_X3 tyX3 tyX3_ok nmX3 hown hK.1 hP hD hS 0 rfl rfl 5 (by decide) (hts _ q224) (fun _ h9 => h9) rfl (by decide +kernel) rfl rfl (Nat.le_of_ble_eq_true rfl) dX3_begins_2 (fun H locs hP hD hS => ?_)
  have hP : va_P G.1 vwCl [(p, .inr (0, [.ref pf, .ref pt, .ref pw, .ref pc, .ref po, .int k, .int rt, .int ex, .int mn])), (pf, .inl (G.2 0, 60, .inl f)), (pt, .inl (G.2 0, 60, .inl t)), (pw, .inl (G.2 0, 16, .inl w)), (pc, .inl (G.2 0, 16, .inl c)), (po, .inl (G.2 1, 60, .inl o))] H := hP
  have hD : va_D AA [(p, .inr (0, [.ref pf, .ref pt, .ref pw, .ref pc, .ref po, .int k, .int rt, .int ex, .int mn])), (pf, .inl (G.2 0, 60, .inl f)), (pt, .inl (G.2 0, 60, .inl t)), (pw, .inl (G.2 0, 16, .inl w)), (pc, .inl (G.2 0, 16, .inl c)), (po, .inl (G.2 1, 60, .inl o))] := hD
  refine lv_aload_n hx hb dX3_begins_5 rfl (lv_at hl 0 rfl) ?_
  refine lv_iconst (v := 0) hx hb dX3_begins_6 (by decide) ?_
  refine va_put (D := G.1) (ci := 0) (v := .int 0) (ty := .int) (C := RX3) (T := TX3) (N := 9) hx hb hts in_X3 tyX3 tyX3_ok nmX3 hown hK.1 hP hD hS 0 rfl rfl 6 (by decide) (hts _ q227) (fun _ h9 => h9) rfl (by decide +kernel) rfl rfl (Nat.le_of_ble_eq_true rfl) dX3_begins_7 (fun H locs hP hD hS => ?_)
  have hP : va_P G.1 vwCl [(p, .inr (0, [.ref pf, .ref pt, .ref pw, .ref pc, .ref po, .int k, .int 0, .int ex, .int mn])), (pf, .inl (G.2 0, 60, .inl f)), (pt, .inl (G.2 0, 60, .inl t)), (pw, .inl (G.2 0, 16, .inl w)), (pc, .inl (G.2 0, 16, .inl c)), (po, .inl (G.2 1, 60, .inl o))] H := hP
  have hD : va_D AA [(p, .inr (0, [.ref pf, .ref pt, .ref pw, .ref pc, .ref po, .int k, .int 0, .int ex, .int mn])), (pf, .inl (G.2 0, 60, .inl f)), (pt, .inl (G.2 0, 60, .inl t)), (pw, .inl (G.2 0, 16, .inl w)), (pc, .inl (G.2 0, 16, .inl c)), (po, .inl (G.2 1, 60, .inl o))] := hD
  refine lv_aload_n hx hb dX3_begins_10 rfl (lv_at hl 0 rfl) ?_
  refine lv_iload_n hx hb dX3_begins_11 rfl (lv_at hl 1 rfl) ?_
  refine lv_iconst (v := 1) hx hb dX3_begins_12 (by decide) ?_
  refine lv_isub hx hb dX3_begins_13 ?_
  refine va_put (D := G.1) (ci := 0) (v := .int (k - 1)) (ty := .int) (C := RX3) (T := TX3) (N := 9) hx hb hts in_X3 tyX3 tyX3_ok nmX3 hown hK.1 hP hD hS 0 rfl rfl 7 (by decide) (hts _ q230) (fun _ h9 => h9) rfl (by decide +kernel) rfl rfl (Nat.le_of_ble_eq_true rfl) dX3_begins_14 (fun H locs hP hD hS => ?_)
  have hP : va_P G.1 vwCl [(p, .inr (0, [.ref pf, .ref pt, .ref pw, .ref pc, .ref po, .int k, .int 0, .int (k - 1), .int mn])), (pf, .inl (G.2 0, 60, .inl f)), (pt, .inl (G.2 0, 60, .inl t)), (pw, .inl (G.2 0, 16, .inl w)), (pc, .inl (G.2 0, 16, .inl c)), (po, .inl (G.2 1, 60, .inl o))] H := hP
  have hD : va_D AA [(p, .inr (0, [.ref pf, .ref pt, .ref pw, .ref pc, .ref po, .int k, .int 0, .int (k - 1), .int mn])), (pf, .inl (G.2 0, 60, .inl f)), (pt, .inl (G.2 0, 60, .inl t)), (pw, .inl (G.2 0, 16, .inl w)), (pc, .inl (G.2 0, 16, .inl c)), (po, .inl (G.2 1, 60, .inl o))] := hD
  refine lv_aload_n hx hb dX3_begins_17 rfl (lv_at hl 0 rfl) ?_
  refine lv_iconst (v := 0) hx hb dX3_begins_18 (by decide) ?_
  refine va_put (D := G.1) (ci := 0) (v := .int 0) (ty := .int) (C := RX3) (T := TX3) (N := 9) hx hb hts in_X3 tyX3 tyX3_ok nmX3 hown hK.1 hP hD hS 0 rfl rfl 8 (by decide) (hts _ q232) (fun _ h9 => h9) rfl (by decide +kernel) rfl rfl (Nat.le_of_ble_eq_true rfl) dX3_begins_19 (fun H locs hP hD hS => ?_)
  have hP : va_P G.1 vwCl [(p, .inr (0, [.ref pf, .ref pt, .ref pw, .ref pc, .ref po, .int k, .int 0, .int (k - 1), .int 0])), (pf, .inl (G.2 0, 60, .inl f)), (pt, .inl (G.2 0, 60, .inl t)), (pw, .inl (G.2 0, 16, .inl w)), (pc, .inl (G.2 0, 16, .inl c)), (po, .inl (G.2 1, 60, .inl o))] H := hP
  have hD : va_D AA [(p, .inr (0, [.ref pf, .ref pt, .ref pw, .ref pc, .ref po, .int k, .int 0, .int (k - 1), .int 0])), (pf, .inl (G.2 0, 60, .inl f)), (pt, .inl (G.2 0, 60, .inl t)), (pw, .inl (G.2 0, 16, .inl w)), (pc, .inl (G.2 0, 16, .inl c)), (po, .inl (G.2 1, 60, .inl o))] := hD
  refine lv_iconst (v := 0) hx hb dX3_begins_22 (by decide) ?_
  refine lv_istore_n (lv' := [(2, .int 0), (0, .ref p), (1, .int k)]) hx hb dX3_begins_23 rfl hl (by decide) rfl (fun ls hl => ?_)
  replace h := h (fun (a_15 : Nat → Int32) => ∀ (H : Heap) (locs : List Loc) (ls : Array Slot), va_P G.1 vwCl [(p, .inr (0, [.ref pf, .ref pt, .ref pw, .ref pc, .ref po, .int k, .int 0, .int (k - 1), .int 0])), (pf, .inl (G.2 0, 60, .inl f)), (pt, .inl (G.2 0, 60, .inl t)), (pw, .inl (G.2 0, 16, .inl w)), (pc, .inl (G.2 0, 16, .inl a_15)), (po, .inl (G.2 1, 60, .inl o))] H → va_D AA [(p, .inr (0, [.ref pf, .ref pt, .ref pw, .ref pc, .ref po, .int k, .int 0, .int (k - 1), .int 0])), (pf, .inl (G.2 0, 60, .inl f)), (pt, .inl (G.2 0, 60, .inl t)), (pw, .inl (G.2 0, 16, .inl w)), (pc, .inl (G.2 0, 16, .inl a_15)), (po, .inl (G.2 1, 60, .inl o))] → va_S AA sS.heap H locs → lv_has ls 3 [(0, .ref p)] → W pp lL eE RX3_begins sS mM ar below meth cC H locs 0 0 QQ (F0 mM 43 ls [])) (by
      clear h
      intro a_15 h H locs ls hP hD hS hl
      refine lv_aload_n hx hb dX3_begins_43 rfl (lv_at hl 0 rfl) ?_
      have hPc := hP.sub (ws' := [(p, .inr (0, [.ref pf, .ref pt, .ref pw, .ref pc, .ref po, .int k, .int 0, .int (k - 1), .int 0])), (pf, .inl (G.2 0, 60, .inl f)), (pt, .inl (G.2 0, 60, .inl t)), (pw, .inl (G.2 0, 16, .inl w)), (pc, .inl (G.2 0, 16, .inl a_15)), (po, .inl (G.2 1, 60, .inl o))]) [0, 1, 2, 3, 4, 5] rfl
      have hDc := hD.sub (ws' := [(p, .inr (0, [.ref pf, .ref pt, .ref pw, .ref pc, .ref po, .int k, .int 0, .int (k - 1), .int 0])), (pf, .inl (G.2 0, 60, .inl f)), (pt, .inl (G.2 0, 60, .inl t)), (pw, .inl (G.2 0, 16, .inl w)), (pc, .inl (G.2 0, 16, .inl a_15)), (po, .inl (G.2 1, 60, .inl o))]) [0, 1, 2, 3, 4, 5] (by decide) rfl
      refine gx_v (G := G) (wc := [(p, .inr (0, [.ref pf, .ref pt, .ref pw, .ref pc, .ref po, .int k, .int 0, .int (k - 1), .int 0])), (pf, .inl (G.2 0, 60, .inl f)), (pt, .inl (G.2 0, 60, .inl t)), (pw, .inl (G.2 0, 16, .inl w)), (pc, .inl (G.2 0, 16, .inl a_15)), (po, .inl (G.2 1, 60, .inl o))]) (wr := []) (va_runV (As := []) (rest := []) ⟨hx, hb, hml, hown, hts⟩ (ct_X3_rows lL G p pf pt pw pc po f t w a_15 o k 0 (k - 1) 0 h.1 _) (cwV 0 hts (lw_V q460 q462 qs1 q166 q463) rfl rfl rfl (by decide +kernel) ⟨Nat.le_of_ble_eq_true rfl, Nat.le_of_ble_eq_true rfl⟩) (gx_preV hK hPc hDc 0 0 rfl rfl) rfl rfl hl.1 rfl (lv_room (Nat.le_of_ble_eq_true rfl)) dX3_begins_44 ⟨Nat.le_of_ble_eq_true rfl, Nat.le_of_ble_eq_true rfl⟩) hP hD hS hA [0, 1, 2, 3, 4, 5] [] rfl rfl (by decide) (by decide) (fun u_16 H locs hw_16 hP hD hS => ?_)
      replace h := h.2
      obtain ⟨w_16, rfl⟩ : ∃ z__, z__ = u_16 := ⟨_, rfl⟩
      have hP : va_P G.1 vwCl [(p, .inr (0, [.ref pf, .ref pt, .ref pw, .ref pc, .ref po, .int k, .int 0, .int (k - 1), .int 0])), (pf, .inl (G.2 0, 60, .inl f)), (pt, .inl (G.2 0, 60, .inl t)), (pw, .inl (G.2 0, 16, .inl w_16)), (pc, .inl (G.2 0, 16, .inl a_15)), (po, .inl (G.2 1, 60, .inl o))] H := hP
      have hD : va_D AA [(p, .inr (0, [.ref pf, .ref pt, .ref pw, .ref pc, .ref po, .int k, .int 0, .int (k - 1), .int 0])), (pf, .inl (G.2 0, 60, .inl f)), (pt, .inl (G.2 0, 60, .inl t)), (pw, .inl (G.2 0, 16, .inl w_16)), (pc, .inl (G.2 0, 16, .inl a_15)), (po, .inl (G.2 1, 60, .inl o))] := hD
      replace h := h w_16 hw_16
      refine lv_aload_n hx hb dX3_begins_47 rfl (lv_at hl 0 rfl) ?_
      subst hQQ; exact gx_aret (w_16, a_15, k, 0, (k - 1), 0) hx hb hr hlocks hAe hP hD hS (Nat.le_of_ble_eq_true rfl) (Nat.le_of_ble_eq_true rfl) rfl h dX3_begins_48)
  refine h (fun (x2_18 : Int32) (a_19 : Nat → Int32) => ∀ (H : Heap) (locs : List Loc) (ls : Array Slot), va_P G.1 vwCl [(p, .inr (0, [.ref pf, .ref pt, .ref pw, .ref pc, .ref po, .int k, .int 0, .int (k - 1), .int 0])), (pf, .inl (G.2 0, 60, .inl f)), (pt, .inl (G.2 0, 60, .inl t)), (pw, .inl (G.2 0, 16, .inl w)), (pc, .inl (G.2 0, 16, .inl a_19)), (po, .inl (G.2 1, 60, .inl o))] H → va_D AA [(p, .inr (0, [.ref pf, .ref pt, .ref pw, .ref pc, .ref po, .int k, .int 0, .int (k - 1), .int 0])), (pf, .inl (G.2 0, 60, .inl f)), (pt, .inl (G.2 0, 60, .inl t)), (pw, .inl (G.2 0, 16, .inl w)), (pc, .inl (G.2 0, 16, .inl a_19)), (po, .inl (G.2 1, 60, .inl o))] → va_S AA sS.heap H locs → lv_has ls 3 [(2, .int x2_18), (0, .ref p)] → W pp lL eE RX3_begins sS mM ar below meth cC H locs 0 0 QQ (F0 mM 24 ls [])) ?_  _ _ _ hP hD hS (lv_sub hl [0, 1] rfl)
  clear h
  intro x2_18 a_19 h H locs ls hP hD hS hl
  refine lv_iload_n hx hb dX3_begins_24 rfl (lv_at hl 0 rfl) ?_
  refine lv_bipush (v := 16) hx hb dX3_begins_25 (by decide) ?_
  refine lv_icmp_ge (tgt := 43) hx hb dX3_begins_27 (by decide) (fun c_21 => ?_) (fun c_21 => ?_)
  · replace h := h.1 c_21
    exact h _ _ _ hP hD hS (lv_sub hl [1] rfl)
  · replace h := h.2 c_21
    refine lv_aload_n hx hb dX3_begins_30 rfl (lv_at hl 1 rfl) ?_
    refine va_get (D := G.1) (ci := 0) (v := .ref pc) (C := RX3) (T := TX3) (N := 9) hx hb hts in_X3 hown hK.1 hP 0 rfl rfl 3 (by decide) (hts _ q220) (fun _ h9 => h9) rfl dX3_begins_31 ?_
    refine lv_iload_n hx hb dX3_begins_34 rfl (lv_at hl 0 rfl) ?_
    refine lv_iconst (v := 1) hx hb dX3_begins_35 (by decide) ?_
    have b_22 := h.1
    refine va_iast hx hb hK.1 hP hD hS 4 0 rfl rfl b_22 dX3_begins_36 (fun H locs hP hD hS => ?_)
    replace h := h.2
    obtain ⟨u_23, eu_23⟩ : ∃ z__, z__ = upd a_19 x2_18.toNatClampNeg 1 := ⟨_, rfl⟩
    replace h := h u_23 eu_23
    have hP : va_P G.1 vwCl [(p, .inr (0, [.ref pf, .ref pt, .ref pw, .ref pc, .ref po, .int k, .int 0, .int (k - 1), .int 0])), (pf, .inl (G.2 0, 60, .inl f)), (pt, .inl (G.2 0, 60, .inl t)), (pw, .inl (G.2 0, 16, .inl w)), (pc, .inl (G.2 0, 16, .inl u_23)), (po, .inl (G.2 1, 60, .inl o))] H := by rw [eu_23]; exact hP
    have hD : va_D AA [(p, .inr (0, [.ref pf, .ref pt, .ref pw, .ref pc, .ref po, .int k, .int 0, .int (k - 1), .int 0])), (pf, .inl (G.2 0, 60, .inl f)), (pt, .inl (G.2 0, 60, .inl t)), (pw, .inl (G.2 0, 16, .inl w)), (pc, .inl (G.2 0, 16, .inl u_23)), (po, .inl (G.2 1, 60, .inl o))] := by rw [eu_23]; exact hD
    refine lv_iinc (v := x2_18 + 1) (lv' := [(2, .int (x2_18 + 1)), (0, .ref p)]) hx hb dX3_begins_37 hl (k := 0) rfl rfl (by decide) rfl (fun ls hl => ?_)
    refine lv_goto (tgt := 24) hx hb dX3_begins_40 (by decide) ?_
    exact h _ _ _ hP hD hS hl
theorem ct_X3_begins (lL : Launch) (G : GE) (p pf pt pw pc po : Nat) (f t w c o : Nat → Int32) (nd rt ex mn k : Int32) (hp : pr_X3_begins f t w c o nd rt ex mn k) : CtR lL yX3_begins (ws_ yX3_begins cX3_begins 3 (some (.object "GateLifter$Net"))) RX3_begins G [.ref p, .int k] [(p, .inr (0, [.ref pf, .ref pt, .ref pw, .ref pc, .ref po, .int nd, .int rt, .int ex, .int mn])), (pf, .inl (G.2 0, 60, .inl f)), (pt, .inl (G.2 0, 60, .inl t)), (pw, .inl (G.2 0, 16, .inl w)), (pc, .inl (G.2 0, 16, .inl c)), (po, .inl (G.2 1, 60, .inl o))] (fun ra => ra = p) (fun (uu_ : (Nat → Int32) × (Nat → Int32) × Int32 × Int32 × Int32 × Int32) => ps_X3_begins f t w c o nd rt ex mn k uu_.1 uu_.2.1 uu_.2.2.1 uu_.2.2.2.1 uu_.2.2.2.2.1 uu_.2.2.2.2.2) (fun (uu_ : (Nat → Int32) × (Nat → Int32) × Int32 × Int32 × Int32 × Int32) (ra : Nat) => [(p, .inr (0, [.ref pf, .ref pt, .ref pw, .ref pc, .ref po, .int uu_.2.2.1, .int uu_.2.2.2.1, .int uu_.2.2.2.2.1, .int uu_.2.2.2.2.2])), (pf, .inl (G.2 0, 60, .inl f)), (pt, .inl (G.2 0, 60, .inl t)), (pw, .inl (G.2 0, 16, .inl uu_.1)), (pc, .inl (G.2 0, 16, .inl uu_.2.1)), (po, .inl (G.2 1, 60, .inl o))]) :=
  wk_X3_begins lL G p pf pt pw pc po f t w c o nd rt ex mn k _ (pf_X3_begins f t w c o nd rt ex mn k hp)
abbrev RX3_be : Room := ({ frames := 1, cells := 0, slots := 0, locals := 60 } : Room)
set_option maxHeartbeats 4000000 in
set_option maxRecDepth 100000 in
theorem wk_X3_be (lL : Launch) (G : GE) (p pf pt pw pc po q qf qt qw qc qo : Nat) (f t w c o : Nat → Int32) (nd rt ex mn : Int32) (f2 t2 w2 c2 o2 : Nat → Int32) (nd2 rt2 ex2 mn2 : Int32) (Q : (Nat → Int32) → (Nat → Int32) → (Nat → Int32) → (Nat → Int32) → (Nat → Int32) → Int32 → Int32 → Int32 → Int32 → Prop) (h : wp_X3_be f t w c o nd rt ex mn f2 t2 w2 c2 o2 nd2 rt2 ex2 mn2 Q) : CtV lL yX3_be (ws_ yX3_be cX3_be 2 none) RX3_be G [.ref p, .ref q] [(p, .inr (0, [.ref pf, .ref pt, .ref pw, .ref pc, .ref po, .int nd, .int rt, .int ex, .int mn])), (pf, .inl (G.2 0, 60, .inl f)), (pt, .inl (G.2 0, 60, .inl t)), (pw, .inl (G.2 0, 16, .inl w)), (pc, .inl (G.2 0, 16, .inl c)), (po, .inl (G.2 1, 60, .inl o)), (q, .inr (0, [.ref qf, .ref qt, .ref qw, .ref qc, .ref qo, .int nd2, .int rt2, .int ex2, .int mn2])), (qf, .inl (G.2 0, 60, .inl f2)), (qt, .inl (G.2 0, 60, .inl t2)), (qw, .inl (G.2 0, 16, .inl w2)), (qc, .inl (G.2 0, 16, .inl c2)), (qo, .inl (G.2 1, 60, .inl o2))] (fun (uu_ : (Nat → Int32) × (Nat → Int32) × (Nat → Int32) × (Nat → Int32) × (Nat → Int32) × Int32 × Int32 × Int32 × Int32) => Q uu_.1 uu_.2.1 uu_.2.2.1 uu_.2.2.2.1 uu_.2.2.2.2.1 uu_.2.2.2.2.2.1 uu_.2.2.2.2.2.2.1 uu_.2.2.2.2.2.2.2.1 uu_.2.2.2.2.2.2.2.2) (fun (uu_ : (Nat → Int32) × (Nat → Int32) × (Nat → Int32) × (Nat → Int32) × (Nat → Int32) × Int32 × Int32 × Int32 × Int32) => [(p, .inr (0, [.ref pf, .ref pt, .ref pw, .ref pc, .ref po, .int uu_.2.2.2.2.2.1, .int uu_.2.2.2.2.2.2.1, .int uu_.2.2.2.2.2.2.2.1, .int uu_.2.2.2.2.2.2.2.2])), (pf, .inl (G.2 0, 60, .inl uu_.1)), (pt, .inl (G.2 0, 60, .inl uu_.2.1)), (pw, .inl (G.2 0, 16, .inl uu_.2.2.1)), (pc, .inl (G.2 0, 16, .inl uu_.2.2.2.1)), (po, .inl (G.2 1, 60, .inl uu_.2.2.2.2.1)), (q, .inr (0, [.ref qf, .ref qt, .ref qw, .ref qc, .ref qo, .int nd2, .int rt2, .int ex2, .int mn2])), (qf, .inl (G.2 0, 60, .inl f2)), (qt, .inl (G.2 0, 60, .inl t2)), (qw, .inl (G.2 0, 16, .inl w2)), (qc, .inl (G.2 0, 16, .inl c2)), (qo, .inl (G.2 1, 60, .inl o2))]) := by
  refine gx_of (cc := cX3_be) (maxL := 2) (ret := none) (by decide) (Nat.le_of_ble_eq_true rfl) ?_
  intro pp eE sS mM ar below meth cC AA ls QQ hx hb hr hml hts hown hlocks hnm hK hAe hQQ hP hD hA hS hl
  have hl : lv_has ls 2 [(0, .ref p), (1, .ref q)] := hl
  refine lv_aload_n hx hb dX3_be_0 rfl (lv_at hl 1 rfl) ?_
  refine va_get (D := G.1) (ci := 0) (v := .ref qf) (C := RX3) (T := TX3) (N := 9) hx hb hts in_X3 hown hK.1 hP 6 rfl rfl 0 (by decide) (hts _ q213) (fun _ h9 => h9) rfl dX3_be_1 ?_
  refine lv_iconst (v := 0) hx hb dX3_be_4 (by decide) ?_
  refine lv_aload_n hx hb dX3_be_5 rfl (lv_at hl 0 rfl) ?_
  refine va_get (D := G.1) (ci := 0) (v := .ref pf) (C := RX3) (T := TX3) (N := 9) hx hb hts in_X3 hown hK.1 hP 0 rfl rfl 0 (by decide) (hts _ q213) (fun _ h9 => h9) rfl dX3_be_6 ?_
  refine lv_iconst (v := 0) hx hb dX3_be_9 (by decide) ?_
  refine lv_bipush (v := 60) hx hb dX3_be_10 (by decide) ?_
  refine va_copyi hx hb (by rw [hml]; exact hl.1.symm) hown (hts _ q726) (hts _ q470) (hts _ q469) (hts _ q177) hK.1 hP hD hS 7 1 0 0 rfl rfl rfl rfl rfl (by decide) (by decide) (by decide) (Nat.le_of_ble_eq_true rfl) (Nat.le_of_ble_eq_true rfl) (fun _ _ => rfl) (Nat.le_of_ble_eq_true rfl) (Nat.le_of_ble_eq_true rfl) dX3_be_12 (fun H locs hP hD hS => ?_)
  have hP : va_P G.1 vwCl [(p, .inr (0, [.ref pf, .ref pt, .ref pw, .ref pc, .ref po, .int nd, .int rt, .int ex, .int mn])), (pf, .inl (G.2 0, 60, .inl (va_cpy f2 f 0 0 60))), (pt, .inl (G.2 0, 60, .inl t)), (pw, .inl (G.2 0, 16, .inl w)), (pc, .inl (G.2 0, 16, .inl c)), (po, .inl (G.2 1, 60, .inl o)), (q, .inr (0, [.ref qf, .ref qt, .ref qw, .ref qc, .ref qo, .int nd2, .int rt2, .int ex2, .int mn2])), (qf, .inl (G.2 0, 60, .inl f2)), (qt, .inl (G.2 0, 60, .inl t2)), (qw, .inl (G.2 0, 16, .inl w2)), (qc, .inl (G.2 0, 16, .inl c2)), (qo, .inl (G.2 1, 60, .inl o2))] H := hP
  have hD : va_D AA [(p, .inr (0, [.ref pf, .ref pt, .ref pw, .ref pc, .ref po, .int nd, .int rt, .int ex, .int mn])), (pf, .inl (G.2 0, 60, .inl (va_cpy f2 f 0 0 60))), (pt, .inl (G.2 0, 60, .inl t)), (pw, .inl (G.2 0, 16, .inl w)), (pc, .inl (G.2 0, 16, .inl c)), (po, .inl (G.2 1, 60, .inl o)), (q, .inr (0, [.ref qf, .ref qt, .ref qw, .ref qc, .ref qo, .int nd2, .int rt2, .int ex2, .int mn2])), (qf, .inl (G.2 0, 60, .inl f2)), (qt, .inl (G.2 0, 60, .inl t2)), (qw, .inl (G.2 0, 16, .inl w2)), (qc, .inl (G.2 0, 16, .inl c2)), (qo, .inl (G.2 1, 60, .inl o2))] := hD
  refine lv_aload_n hx hb dX3_be_15 rfl (lv_at hl 1 rfl) ?_
  refine va_get (D := G.1) (ci := 0) (v := .ref qt) (C := RX3) (T := TX3) (N := 9) hx hb hts in_X3 hown hK.1 hP 6 rfl rfl 1 (by decide) (hts _ q215) (fun _ h9 => h9) rfl dX3_be_16 ?_
  refine lv_iconst (v := 0) hx hb dX3_be_19 (by decide) ?_
  refine lv_aload_n hx hb dX3_be_20 rfl (lv_at hl 0 rfl) ?_
  refine va_get (D := G.1) (ci := 0) (v := .ref pt) (C := RX3) (T := TX3) (N := 9) hx hb hts in_X3 hown hK.1 hP 0 rfl rfl 1 (by decide) (hts _ q215) (fun _ h9 => h9) rfl dX3_be_21 ?_
  refine lv_iconst (v := 0) hx hb dX3_be_24 (by decide) ?_
  refine lv_bipush (v := 60) hx hb dX3_be_25 (by decide) ?_
  refine va_copyi hx hb (by rw [hml]; exact hl.1.symm) hown (hts _ q726) (hts _ q470) (hts _ q469) (hts _ q177) hK.1 hP hD hS 8 2 0 0 rfl rfl rfl rfl rfl (by decide) (by decide) (by decide) (Nat.le_of_ble_eq_true rfl) (Nat.le_of_ble_eq_true rfl) (fun _ _ => rfl) (Nat.le_of_ble_eq_true rfl) (Nat.le_of_ble_eq_true rfl) dX3_be_27 (fun H locs hP hD hS => ?_)
  have hP : va_P G.1 vwCl [(p, .inr (0, [.ref pf, .ref pt, .ref pw, .ref pc, .ref po, .int nd, .int rt, .int ex, .int mn])), (pf, .inl (G.2 0, 60, .inl (va_cpy f2 f 0 0 60))), (pt, .inl (G.2 0, 60, .inl (va_cpy t2 t 0 0 60))), (pw, .inl (G.2 0, 16, .inl w)), (pc, .inl (G.2 0, 16, .inl c)), (po, .inl (G.2 1, 60, .inl o)), (q, .inr (0, [.ref qf, .ref qt, .ref qw, .ref qc, .ref qo, .int nd2, .int rt2, .int ex2, .int mn2])), (qf, .inl (G.2 0, 60, .inl f2)), (qt, .inl (G.2 0, 60, .inl t2)), (qw, .inl (G.2 0, 16, .inl w2)), (qc, .inl (G.2 0, 16, .inl c2)), (qo, .inl (G.2 1, 60, .inl o2))] H := hP
  have hD : va_D AA [(p, .inr (0, [.ref pf, .ref pt, .ref pw, .ref pc, .ref po, .int nd, .int rt, .int ex, .int mn])), (pf, .inl (G.2 0, 60, .inl (va_cpy f2 f 0 0 60))), (pt, .inl (G.2 0, 60, .inl (va_cpy t2 t 0 0 60))), (pw, .inl (G.2 0, 16, .inl w)), (pc, .inl (G.2 0, 16, .inl c)), (po, .inl (G.2 1, 60, .inl o)), (q, .inr (0, [.ref qf, .ref qt, .ref qw, .ref qc, .ref qo, .int nd2, .int rt2, .int ex2, .int mn2])), (qf, .inl (G.2 0, 60, .inl f2)), (qt, .inl (G.2 0, 60, .inl t2)), (qw, .inl (G.2 0, 16, .inl w2)), (qc, .inl (G.2 0, 16, .inl c2)), (qo, .inl (G.2 1, 60, .inl o2))] := hD
  refine lv_aload_n hx hb dX3_be_30 rfl (lv_at hl 1 rfl) ?_
  refine va_get (D := G.1) (ci := 0) (v := .ref qo) (C := RX3) (T := TX3) (N := 9) hx hb hts in_X3 hown hK.1 hP 6 rfl rfl 4 (by decide) (hts _ q222) (fun _ h9 => h9) rfl dX3_be_31 ?_
  refine lv_iconst (v := 0) hx hb dX3_be_34 (by decide) ?_
  refine lv_aload_n hx hb dX3_be_35 rfl (lv_at hl 0 rfl) ?_
  refine va_get (D := G.1) (ci := 0) (v := .ref po) (C := RX3) (T := TX3) (N := 9) hx hb hts in_X3 hown hK.1 hP 0 rfl rfl 4 (by decide) (hts _ q222) (fun _ h9 => h9) rfl dX3_be_36 ?_
  refine lv_iconst (v := 0) hx hb dX3_be_39 (by decide) ?_
  refine lv_bipush (v := 60) hx hb dX3_be_40 (by decide) ?_
  refine va_copyi hx hb (by rw [hml]; exact hl.1.symm) hown (hts _ q726) (hts _ q470) (hts _ q469) (hts _ q177) hK.1 hP hD hS 11 5 1 1 rfl rfl rfl rfl rfl (by decide) (by decide) (by decide) (Nat.le_of_ble_eq_true rfl) (Nat.le_of_ble_eq_true rfl) (fun i hi => h.1 i (Nat.lt_of_lt_of_le hi (Nat.le_of_ble_eq_true rfl))) (Nat.le_of_ble_eq_true rfl) (Nat.le_of_ble_eq_true rfl) dX3_be_42 (fun H locs hP hD hS => ?_)
  replace h := h.2
  have hP : va_P G.1 vwCl [(p, .inr (0, [.ref pf, .ref pt, .ref pw, .ref pc, .ref po, .int nd, .int rt, .int ex, .int mn])), (pf, .inl (G.2 0, 60, .inl (va_cpy f2 f 0 0 60))), (pt, .inl (G.2 0, 60, .inl (va_cpy t2 t 0 0 60))), (pw, .inl (G.2 0, 16, .inl w)), (pc, .inl (G.2 0, 16, .inl c)), (po, .inl (G.2 1, 60, .inl (va_cpy o2 o 0 0 60))), (q, .inr (0, [.ref qf, .ref qt, .ref qw, .ref qc, .ref qo, .int nd2, .int rt2, .int ex2, .int mn2])), (qf, .inl (G.2 0, 60, .inl f2)), (qt, .inl (G.2 0, 60, .inl t2)), (qw, .inl (G.2 0, 16, .inl w2)), (qc, .inl (G.2 0, 16, .inl c2)), (qo, .inl (G.2 1, 60, .inl o2))] H := hP
  have hD : va_D AA [(p, .inr (0, [.ref pf, .ref pt, .ref pw, .ref pc, .ref po, .int nd, .int rt, .int ex, .int mn])), (pf, .inl (G.2 0, 60, .inl (va_cpy f2 f 0 0 60))), (pt, .inl (G.2 0, 60, .inl (va_cpy t2 t 0 0 60))), (pw, .inl (G.2 0, 16, .inl w)), (pc, .inl (G.2 0, 16, .inl c)), (po, .inl (G.2 1, 60, .inl (va_cpy o2 o 0 0 60))), (q, .inr (0, [.ref qf, .ref qt, .ref qw, .ref qc, .ref qo, .int nd2, .int rt2, .int ex2, .int mn2])), (qf, .inl (G.2 0, 60, .inl f2)), (qt, .inl (G.2 0, 60, .inl t2)), (qw, .inl (G.2 0, 16, .inl w2)), (qc, .inl (G.2 0, 16, .inl c2)), (qo, .inl (G.2 1, 60, .inl o2))] := hD
  refine lv_aload_n hx hb dX3_be_45 rfl (lv_at hl 1 rfl) ?_
  refine va_get (D := G.1) (ci := 0) (v := .ref qw) (C := RX3) (T := TX3) (N := 9) hx hb hts in_X3 hown hK.1 hP 6 rfl rfl 2 (by decide) (hts _ q217) (fun _ h9 => h9) rfl dX3_be_46 ?_
  refine lv_iconst (v := 0) hx hb dX3_be_49 (by decide) ?_
  refine lv_aload_n hx hb dX3_be_50 rfl (lv_at hl 0 rfl) ?_
  refine va_get (D := G.1) (ci := 0) (v := .ref pw) (C := RX3) (T := TX3) (N := 9) hx hb hts in_X3 hown hK.1 hP 0 rfl rfl 2 (by decide) (hts _ q217) (fun _ h9 => h9) rfl dX3_be_51 ?_
  refine lv_iconst (v := 0) hx hb dX3_be_54 (by decide) ?_
  refine lv_bipush (v := 16) hx hb dX3_be_55 (by decide) ?_
  refine va_copyi hx hb (by rw [hml]; exact hl.1.symm) hown (hts _ q726) (hts _ q470) (hts _ q469) (hts _ q177) hK.1 hP hD hS 9 3 0 0 rfl rfl rfl rfl rfl (by decide) (by decide) (by decide) (Nat.le_of_ble_eq_true rfl) (Nat.le_of_ble_eq_true rfl) (fun _ _ => rfl) (Nat.le_of_ble_eq_true rfl) (Nat.le_of_ble_eq_true rfl) dX3_be_57 (fun H locs hP hD hS => ?_)
  have hP : va_P G.1 vwCl [(p, .inr (0, [.ref pf, .ref pt, .ref pw, .ref pc, .ref po, .int nd, .int rt, .int ex, .int mn])), (pf, .inl (G.2 0, 60, .inl (va_cpy f2 f 0 0 60))), (pt, .inl (G.2 0, 60, .inl (va_cpy t2 t 0 0 60))), (pw, .inl (G.2 0, 16, .inl (va_cpy w2 w 0 0 16))), (pc, .inl (G.2 0, 16, .inl c)), (po, .inl (G.2 1, 60, .inl (va_cpy o2 o 0 0 60))), (q, .inr (0, [.ref qf, .ref qt, .ref qw, .ref qc, .ref qo, .int nd2, .int rt2, .int ex2, .int mn2])), (qf, .inl (G.2 0, 60, .inl f2)), (qt, .inl (G.2 0, 60, .inl t2)), (qw, .inl (G.2 0, 16, .inl w2)), (qc, .inl (G.2 0, 16, .inl c2)), (qo, .inl (G.2 1, 60, .inl o2))] H := hP
  have hD : va_D AA [(p, .inr (0, [.ref pf, .ref pt, .ref pw, .ref pc, .ref po, .int nd, .int rt, .int ex, .int mn])), (pf, .inl (G.2 0, 60, .inl (va_cpy f2 f 0 0 60))), (pt, .inl (G.2 0, 60, .inl (va_cpy t2 t 0 0 60))), (pw, .inl (G.2 0, 16, .inl (va_cpy w2 w 0 0 16))), (pc, .inl (G.2 0, 16, .inl c)), (po, .inl (G.2 1, 60, .inl (va_cpy o2 o 0 0 60))), (q, .inr (0, [.ref qf, .ref qt, .ref qw, .ref qc, .ref qo, .int nd2, .int rt2, .int ex2, .int mn2])), (qf, .inl (G.2 0, 60, .inl f2)), (qt, .inl (G.2 0, 60, .inl t2)), (qw, .inl (G.2 0, 16, .inl w2)), (qc, .inl (G.2 0, 16, .inl c2)), (qo, .inl (G.2 1, 60, .inl o2))] := hD
  refine lv_aload_n hx hb dX3_be_60 rfl (lv_at hl 1 rfl) ?_
  refine va_get (D := G.1) (ci := 0) (v := .ref qc) (C := RX3) (T := TX3) (N := 9) hx hb hts in_X3 hown hK.1 hP 6 rfl rfl 3 (by decide) (hts _ q220) (fun _ h9 => h9) rfl dX3_be_61 ?_
  refine lv_iconst (v := 0) hx hb dX3_be_64 (by decide) ?_
  refine lv_aload_n hx hb dX3_be_65 rfl (lv_at hl 0 rfl) ?_
  refine va_get (D := G.1) (ci := 0) (v := .ref pc) (C := RX3) (T := TX3) (N := 9) hx hb hts in_X3 hown hK.1 hP 0 rfl rfl 3 (by decide) (hts _ q220) (fun _ h9 => h9) rfl dX3_be_66 ?_
  refine lv_iconst (v := 0) hx hb dX3_be_69 (by decide) ?_
  refine lv_bipush (v := 16) hx hb dX3_be_70 (by decide) ?_
  refine va_copyi hx hb (by rw [hml]; exact hl.1.symm) hown (hts _ q726) (hts _ q470) (hts _ q469) (hts _ q177) hK.1 hP hD hS 10 4 0 0 rfl rfl rfl rfl rfl (by decide) (by decide) (by decide) (Nat.le_of_ble_eq_true rfl) (Nat.le_of_ble_eq_true rfl) (fun _ _ => rfl) (Nat.le_of_ble_eq_true rfl) (Nat.le_of_ble_eq_true rfl) dX3_be_72 (fun H locs hP hD hS => ?_)
  have hP : va_P G.1 vwCl [(p, .inr (0, [.ref pf, .ref pt, .ref pw, .ref pc, .ref po, .int nd, .int rt, .int ex, .int mn])), (pf, .inl (G.2 0, 60, .inl (va_cpy f2 f 0 0 60))), (pt, .inl (G.2 0, 60, .inl (va_cpy t2 t 0 0 60))), (pw, .inl (G.2 0, 16, .inl (va_cpy w2 w 0 0 16))), (pc, .inl (G.2 0, 16, .inl (va_cpy c2 c 0 0 16))), (po, .inl (G.2 1, 60, .inl (va_cpy o2 o 0 0 60))), (q, .inr (0, [.ref qf, .ref qt, .ref qw, .ref qc, .ref qo, .int nd2, .int rt2, .int ex2, .int mn2])), (qf, .inl (G.2 0, 60, .inl f2)), (qt, .inl (G.2 0, 60, .inl t2)), (qw, .inl (G.2 0, 16, .inl w2)), (qc, .inl (G.2 0, 16, .inl c2)), (qo, .inl (G.2 1, 60, .inl o2))] H := hP
  have hD : va_D AA [(p, .inr (0, [.ref pf, .ref pt, .ref pw, .ref pc, .ref po, .int nd, .int rt, .int ex, .int mn])), (pf, .inl (G.2 0, 60, .inl (va_cpy f2 f 0 0 60))), (pt, .inl (G.2 0, 60, .inl (va_cpy t2 t 0 0 60))), (pw, .inl (G.2 0, 16, .inl (va_cpy w2 w 0 0 16))), (pc, .inl (G.2 0, 16, .inl (va_cpy c2 c 0 0 16))), (po, .inl (G.2 1, 60, .inl (va_cpy o2 o 0 0 60))), (q, .inr (0, [.ref qf, .ref qt, .ref qw, .ref qc, .ref qo, .int nd2, .int rt2, .int ex2, .int mn2])), (qf, .inl (G.2 0, 60, .inl f2)), (qt, .inl (G.2 0, 60, .inl t2)), (qw, .inl (G.2 0, 16, .inl w2)), (qc, .inl (G.2 0, 16, .inl c2)), (qo, .inl (G.2 1, 60, .inl o2))] := hD
  refine lv_aload_n hx hb dX3_be_75 rfl (lv_at hl 0 rfl) ?_
  refine lv_aload_n hx hb dX3_be_76 rfl (lv_at hl 1 rfl) ?_
  refine va_get (D := G.1) (ci := 0) (v := .int nd2) (C := RX3) (T := TX3) (N := 9) hx hb hts in_X3 hown hK.1 hP 6 rfl rfl 5 (by decide) (hts _ q224) (fun _ h9 => h9) rfl dX3_be_77 ?_
  refine va_put (D := G.1) (ci := 0) (v := .int nd2) (ty := .int) (C := RX3) (T := TX3) (N := 9) hx hb hts in_X3 tyX3 tyX3_ok nmX3 hown hK.1 hP hD hS 0 rfl rfl 5 (by decide) (hts _ q224) (fun _ h9 => h9) rfl (by decide +kernel) rfl rfl (Nat.le_of_ble_eq_true rfl) dX3_be_80 (fun H locs hP hD hS => ?_)
  have hP : va_P G.1 vwCl [(p, .inr (0, [.ref pf, .ref pt, .ref pw, .ref pc, .ref po, .int nd2, .int rt, .int ex, .int mn])), (pf, .inl (G.2 0, 60, .inl (va_cpy f2 f 0 0 60))), (pt, .inl (G.2 0, 60, .inl (va_cpy t2 t 0 0 60))), (pw, .inl (G.2 0, 16, .inl (va_cpy w2 w 0 0 16))), (pc, .inl (G.2 0, 16, .inl (va_cpy c2 c 0 0 16))), (po, .inl (G.2 1, 60, .inl (va_cpy o2 o 0 0 60))), (q, .inr (0, [.ref qf, .ref qt, .ref qw, .ref qc, .ref qo, .int nd2, .int rt2, .int ex2, .int mn2])), (qf, .inl (G.2 0, 60, .inl f2)), (qt, .inl (G.2 0, 60, .inl t2)), (qw, .inl (G.2 0, 16, .inl w2)), (qc, .inl (G.2 0, 16, .inl c2)), (qo, .inl (G.2 1, 60, .inl o2))] H := hP
  have hD : va_D AA [(p, .inr (0, [.ref pf, .ref pt, .ref pw, .ref pc, .ref po, .int nd2, .int rt, .int ex, .int mn])), (pf, .inl (G.2 0, 60, .inl (va_cpy f2 f 0 0 60))), (pt, .inl (G.2 0, 60, .inl (va_cpy t2 t 0 0 60))), (pw, .inl (G.2 0, 16, .inl (va_cpy w2 w 0 0 16))), (pc, .inl (G.2 0, 16, .inl (va_cpy c2 c 0 0 16))), (po, .inl (G.2 1, 60, .inl (va_cpy o2 o 0 0 60))), (q, .inr (0, [.ref qf, .ref qt, .ref qw, .ref qc, .ref qo, .int nd2, .int rt2, .int ex2, .int mn2])), (qf, .inl (G.2 0, 60, .inl f2)), (qt, .inl (G.2 0, 60, .inl t2)), (qw, .inl (G.2 0, 16, .inl w2)), (qc, .inl (G.2 0, 16, .inl c2)), (qo, .inl (G.2 1, 60, .inl o2))] := hD
  refine lv_aload_n hx hb dX3_be_83 rfl (lv_at hl 0 rfl) ?_
  refine lv_aload_n hx hb dX3_be_84 rfl (lv_at hl 1 rfl) ?_
  refine va_get (D := G.1) (ci := 0) (v := .int rt2) (C := RX3) (T := TX3) (N := 9) hx hb hts in_X3 hown hK.1 hP 6 rfl rfl 6 (by decide) (hts _ q227) (fun _ h9 => h9) rfl dX3_be_85 ?_
  refine va_put (D := G.1) (ci := 0) (v := .int rt2) (ty := .int) (C := RX3) (T := TX3) (N := 9) hx hb hts in_X3 tyX3 tyX3_ok nmX3 hown hK.1 hP hD hS 0 rfl rfl 6 (by decide) (hts _ q227) (fun _ h9 => h9) rfl (by decide +kernel) rfl rfl (Nat.le_of_ble_eq_true rfl) dX3_be_88 (fun H locs hP hD hS => ?_)
  have hP : va_P G.1 vwCl [(p, .inr (0, [.ref pf, .ref pt, .ref pw, .ref pc, .ref po, .int nd2, .int rt2, .int ex, .int mn])), (pf, .inl (G.2 0, 60, .inl (va_cpy f2 f 0 0 60))), (pt, .inl (G.2 0, 60, .inl (va_cpy t2 t 0 0 60))), (pw, .inl (G.2 0, 16, .inl (va_cpy w2 w 0 0 16))), (pc, .inl (G.2 0, 16, .inl (va_cpy c2 c 0 0 16))), (po, .inl (G.2 1, 60, .inl (va_cpy o2 o 0 0 60))), (q, .inr (0, [.ref qf, .ref qt, .ref qw, .ref qc, .ref qo, .int nd2, .int rt2, .int ex2, .int mn2])), (qf, .inl (G.2 0, 60, .inl f2)), (qt, .inl (G.2 0, 60, .inl t2)), (qw, .inl (G.2 0, 16, .inl w2)), (qc, .inl (G.2 0, 16, .inl c2)), (qo, .inl (G.2 1, 60, .inl o2))] H := hP
  have hD : va_D AA [(p, .inr (0, [.ref pf, .ref pt, .ref pw, .ref pc, .ref po, .int nd2, .int rt2, .int ex, .int mn])), (pf, .inl (G.2 0, 60, .inl (va_cpy f2 f 0 0 60))), (pt, .inl (G.2 0, 60, .inl (va_cpy t2 t 0 0 60))), (pw, .inl (G.2 0, 16, .inl (va_cpy w2 w 0 0 16))), (pc, .inl (G.2 0, 16, .inl (va_cpy c2 c 0 0 16))), (po, .inl (G.2 1, 60, .inl (va_cpy o2 o 0 0 60))), (q, .inr (0, [.ref qf, .ref qt, .ref qw, .ref qc, .ref qo, .int nd2, .int rt2, .int ex2, .int mn2])), (qf, .inl (G.2 0, 60, .inl f2)), (qt, .inl (G.2 0, 60, .inl t2)), (qw, .inl (G.2 0, 16, .inl w2)), (qc, .inl (G.2 0, 16, .inl c2)), (qo, .inl (G.2 1, 60, .inl o2))] := hD
  refine lv_aload_n hx hb dX3_be_91 rfl (lv_at hl 0 rfl) ?_
  refine lv_aload_n hx hb dX3_be_92 rfl (lv_at hl 1 rfl) ?_
  refine va_get (D := G.1) (ci := 0) (v := .int ex2) (C := RX3) (T := TX3) (N := 9) hx hb hts in_X3 hown hK.1 hP 6 rfl rfl 7 (by decide) (hts _ q230) (fun _ h9 => h9) rfl dX3_be_93 ?_
  refine va_put (D := G.1) (ci := 0) (v := .int ex2) (ty := .int) (C := RX3) (T := TX3) (N := 9) hx hb hts in_X3 tyX3 tyX3_ok nmX3 hown hK.1 hP hD hS 0 rfl rfl 7 (by decide) (hts _ q230) (fun _ h9 => h9) rfl (by decide +kernel) rfl rfl (Nat.le_of_ble_eq_true rfl) dX3_be_96 (fun H locs hP hD hS => ?_)
  have hP : va_P G.1 vwCl [(p, .inr (0, [.ref pf, .ref pt, .ref pw, .ref pc, .ref po, .int nd2, .int rt2, .int ex2, .int mn])), (pf, .inl (G.2 0, 60, .inl (va_cpy f2 f 0 0 60))), (pt, .inl (G.2 0, 60, .inl (va_cpy t2 t 0 0 60))), (pw, .inl (G.2 0, 16, .inl (va_cpy w2 w 0 0 16))), (pc, .inl (G.2 0, 16, .inl (va_cpy c2 c 0 0 16))), (po, .inl (G.2 1, 60, .inl (va_cpy o2 o 0 0 60))), (q, .inr (0, [.ref qf, .ref qt, .ref qw, .ref qc, .ref qo, .int nd2, .int rt2, .int ex2, .int mn2])), (qf, .inl (G.2 0, 60, .inl f2)), (qt, .inl (G.2 0, 60, .inl t2)), (qw, .inl (G.2 0, 16, .inl w2)), (qc, .inl (G.2 0, 16, .inl c2)), (qo, .inl (G.2 1, 60, .inl o2))] H := hP
  have hD : va_D AA [(p, .inr (0, [.ref pf, .ref pt, .ref pw, .ref pc, .ref po, .int nd2, .int rt2, .int ex2, .int mn])), (pf, .inl (G.2 0, 60, .inl (va_cpy f2 f 0 0 60))), (pt, .inl (G.2 0, 60, .inl (va_cpy t2 t 0 0 60))), (pw, .inl (G.2 0, 16, .inl (va_cpy w2 w 0 0 16))), (pc, .inl (G.2 0, 16, .inl (va_cpy c2 c 0 0 16))), (po, .inl (G.2 1, 60, .inl (va_cpy o2 o 0 0 60))), (q, .inr (0, [.ref qf, .ref qt, .ref qw, .ref qc, .ref qo, .int nd2, .int rt2, .int ex2, .int mn2])), (qf, .inl (G.2 0, 60, .inl f2)), (qt, .inl (G.2 0, 60, .inl t2)), (qw, .inl (G.2 0, 16, .inl w2)), (qc, .inl (G.2 0, 16, .inl c2)), (qo, .inl (G.2 1, 60, .inl o2))] := hD
  refine lv_aload_n hx hb dX3_be_99 rfl (lv_at hl 0 rfl) ?_
  refine lv_aload_n hx hb dX3_be_100 rfl (lv_at hl 1 rfl) ?_
  refine va_get (D := G.1) (ci := 0) (v := .int mn2) (C := RX3) (T := TX3) (N := 9) hx hb hts in_X3 hown hK.1 hP 6 rfl rfl 8 (by decide) (hts _ q232) (fun _ h9 => h9) rfl dX3_be_101 ?_
  refine va_put (D := G.1) (ci := 0) (v := .int mn2) (ty := .int) (C := RX3) (T := TX3) (N := 9) hx hb hts in_X3 tyX3 tyX3_ok nmX3 hown hK.1 hP hD hS 0 rfl rfl 8 (by decide) (hts _ q232) (fun _ h9 => h9) rfl (by decide +kernel) rfl rfl (Nat.le_of_ble_eq_true rfl) dX3_be_104 (fun H locs hP hD hS => ?_)
  have hP : va_P G.1 vwCl [(p, .inr (0, [.ref pf, .ref pt, .ref pw, .ref pc, .ref po, .int nd2, .int rt2, .int ex2, .int mn2])), (pf, .inl (G.2 0, 60, .inl (va_cpy f2 f 0 0 60))), (pt, .inl (G.2 0, 60, .inl (va_cpy t2 t 0 0 60))), (pw, .inl (G.2 0, 16, .inl (va_cpy w2 w 0 0 16))), (pc, .inl (G.2 0, 16, .inl (va_cpy c2 c 0 0 16))), (po, .inl (G.2 1, 60, .inl (va_cpy o2 o 0 0 60))), (q, .inr (0, [.ref qf, .ref qt, .ref qw, .ref qc, .ref qo, .int nd2, .int rt2, .int ex2, .int mn2])), (qf, .inl (G.2 0, 60, .inl f2)), (qt, .inl (G.2 0, 60, .inl t2)), (qw, .inl (G.2 0, 16, .inl w2)), (qc, .inl (G.2 0, 16, .inl c2)), (qo, .inl (G.2 1, 60, .inl o2))] H := hP
  have hD : va_D AA [(p, .inr (0, [.ref pf, .ref pt, .ref pw, .ref pc, .ref po, .int nd2, .int rt2, .int ex2, .int mn2])), (pf, .inl (G.2 0, 60, .inl (va_cpy f2 f 0 0 60))), (pt, .inl (G.2 0, 60, .inl (va_cpy t2 t 0 0 60))), (pw, .inl (G.2 0, 16, .inl (va_cpy w2 w 0 0 16))), (pc, .inl (G.2 0, 16, .inl (va_cpy c2 c 0 0 16))), (po, .inl (G.2 1, 60, .inl (va_cpy o2 o 0 0 60))), (q, .inr (0, [.ref qf, .ref qt, .ref qw, .ref qc, .ref qo, .int nd2, .int rt2, .int ex2, .int mn2])), (qf, .inl (G.2 0, 60, .inl f2)), (qt, .inl (G.2 0, 60, .inl t2)), (qw, .inl (G.2 0, 16, .inl w2)), (qc, .inl (G.2 0, 16, .inl c2)), (qo, .inl (G.2 1, 60, .inl o2))] := hD
  subst hQQ; exact gx_vret (va_cpy f2 f 0 0 60, va_cpy t2 t 0 0 60, va_cpy w2 w 0 0 16, va_cpy c2 c 0 0 16, va_cpy o2 o 0 0 60, nd2, rt2, ex2, mn2) hx hb hr hlocks hAe hP hD hS (Nat.le_of_ble_eq_true rfl) (Nat.le_of_ble_eq_true rfl) h dX3_be_107
theorem ct_X3_be (lL : Launch) (G : GE) (p pf pt pw pc po q qf qt qw qc qo : Nat) (f t w c o : Nat → Int32) (nd rt ex mn : Int32) (f2 t2 w2 c2 o2 : Nat → Int32) (nd2 rt2 ex2 mn2 : Int32) (hp : pr_X3_be f t w c o nd rt ex mn f2 t2 w2 c2 o2 nd2 rt2 ex2 mn2) : CtV lL yX3_be (ws_ yX3_be cX3_be 2 none) RX3_be G [.ref p, .ref q] [(p, .inr (0, [.ref pf, .ref pt, .ref pw, .ref pc, .ref po, .int nd, .int rt, .int ex, .int mn])), (pf, .inl (G.2 0, 60, .inl f)), (pt, .inl (G.2 0, 60, .inl t)), (pw, .inl (G.2 0, 16, .inl w)), (pc, .inl (G.2 0, 16, .inl c)), (po, .inl (G.2 1, 60, .inl o)), (q, .inr (0, [.ref qf, .ref qt, .ref qw, .ref qc, .ref qo, .int nd2, .int rt2, .int ex2, .int mn2])), (qf, .inl (G.2 0, 60, .inl f2)), (qt, .inl (G.2 0, 60, .inl t2)), (qw, .inl (G.2 0, 16, .inl w2)), (qc, .inl (G.2 0, 16, .inl c2)), (qo, .inl (G.2 1, 60, .inl o2))] (fun (uu_ : (Nat → Int32) × (Nat → Int32) × (Nat → Int32) × (Nat → Int32) × (Nat → Int32) × Int32 × Int32 × Int32 × Int32) => ps_X3_be f t w c o nd rt ex mn f2 t2 w2 c2 o2 nd2 rt2 ex2 mn2 uu_.1 uu_.2.1 uu_.2.2.1 uu_.2.2.2.1 uu_.2.2.2.2.1 uu_.2.2.2.2.2.1 uu_.2.2.2.2.2.2.1 uu_.2.2.2.2.2.2.2.1 uu_.2.2.2.2.2.2.2.2) (fun (uu_ : (Nat → Int32) × (Nat → Int32) × (Nat → Int32) × (Nat → Int32) × (Nat → Int32) × Int32 × Int32 × Int32 × Int32) => [(p, .inr (0, [.ref pf, .ref pt, .ref pw, .ref pc, .ref po, .int uu_.2.2.2.2.2.1, .int uu_.2.2.2.2.2.2.1, .int uu_.2.2.2.2.2.2.2.1, .int uu_.2.2.2.2.2.2.2.2])), (pf, .inl (G.2 0, 60, .inl uu_.1)), (pt, .inl (G.2 0, 60, .inl uu_.2.1)), (pw, .inl (G.2 0, 16, .inl uu_.2.2.1)), (pc, .inl (G.2 0, 16, .inl uu_.2.2.2.1)), (po, .inl (G.2 1, 60, .inl uu_.2.2.2.2.1)), (q, .inr (0, [.ref qf, .ref qt, .ref qw, .ref qc, .ref qo, .int nd2, .int rt2, .int ex2, .int mn2])), (qf, .inl (G.2 0, 60, .inl f2)), (qt, .inl (G.2 0, 60, .inl t2)), (qw, .inl (G.2 0, 16, .inl w2)), (qc, .inl (G.2 0, 16, .inl c2)), (qo, .inl (G.2 1, 60, .inl o2))]) :=
  wk_X3_be lL G p pf pt pw pc po q qf qt qw qc qo f t w c o nd rt ex mn f2 t2 w2 c2 o2 nd2 rt2 ex2 mn2 _ (pf_X3_be f t w c o nd rt ex mn f2 t2 w2 c2 o2 nd2 rt2 ex2 mn2 hp)
abbrev RX3_tells : Room := ({ frames := 2, cells := 0, slots := 0, locals := 33 } : Room)
set_option maxHeartbeats 4000000 in
set_option maxRecDepth 100000 in
theorem wk_X3_tells (lL : Launch) (G : GE) (p pf pt pw pc po : Nat) (f t w c o : Nat → Int32) (nd rt ex mn k z : Int32) (Q : Int32 → Int32 → Int32 → Prop) (h : wp_X3_tells f t w c o nd rt ex mn k z Q) : CtI lL yX3_tells (ws_ yX3_tells cX3_tells 3 (some .int)) RX3_tells G [.ref p, .int k, .int z] [(p, .inr (0, [.ref pf, .ref pt, .ref pw, .ref pc, .ref po, .int nd, .int rt, .int ex, .int mn])), (pf, .inl (G.2 0, 60, .inl f)), (pt, .inl (G.2 0, 60, .inl t)), (pw, .inl (G.2 0, 16, .inl w)), (pc, .inl (G.2 0, 16, .inl c)), (po, .inl (G.2 1, 60, .inl o))] (fun (rr_ : Int32) (uu_ : Int32 × Int32) => Q rr_ uu_.1 uu_.2) (fun (uu_ : Int32 × Int32) => [(p, .inr (0, [.ref pf, .ref pt, .ref pw, .ref pc, .ref po, .int nd, .int uu_.1, .int uu_.2, .int mn])), (pf, .inl (G.2 0, 60, .inl f)), (pt, .inl (G.2 0, 60, .inl t)), (pw, .inl (G.2 0, 16, .inl w)), (pc, .inl (G.2 0, 16, .inl c)), (po, .inl (G.2 1, 60, .inl o))]) := by
  refine gx_of (cc := cX3_tells) (maxL := 3) (ret := (some .int)) (by decide) (Nat.le_of_ble_eq_true rfl) ?_
  intro pp eE sS mM ar below meth cC AA ls QQ hx hb hr hml hts hown hlocks hnm hK hAe hQQ hP hD hA hS hl
  have hl : lv_has ls 3 [(0, .ref p), (1, .int k), (2, .int z)] := hl
  refine lv_aload_n hx hb dX3_tells_0 rfl (lv_at hl 0 rfl) ?_
  refine lv_iload_n hx hb dX3_tells_1 rfl (lv_at hl 1 rfl) ?_
  have hPc := hP.sub (ws' := [(p, .inr (0, [.ref pf, .ref pt, .ref pw, .ref pc, .ref po, .int nd, .int rt, .int ex, .int mn])), (pf, .inl (G.2 0, 60, .inl f)), (pt, .inl (G.2 0, 60, .inl t)), (pw, .inl (G.2 0, 16, .inl w)), (pc, .inl (G.2 0, 16, .inl c)), (po, .inl (G.2 1, 60, .inl o))]) [0, 1, 2, 3, 4, 5] rfl
  have hDc := hD.sub (ws' := [(p, .inr (0, [.ref pf, .ref pt, .ref pw, .ref pc, .ref po, .int nd, .int rt, .int ex, .int mn])), (pf, .inl (G.2 0, 60, .inl f)), (pt, .inl (G.2 0, 60, .inl t)), (pw, .inl (G.2 0, 16, .inl w)), (pc, .inl (G.2 0, 16, .inl c)), (po, .inl (G.2 1, 60, .inl o))]) [0, 1, 2, 3, 4, 5] (by decide) rfl
  refine gx_i (G := G) (wc := [(p, .inr (0, [.ref pf, .ref pt, .ref pw, .ref pc, .ref po, .int nd, .int rt, .int ex, .int mn])), (pf, .inl (G.2 0, 60, .inl f)), (pt, .inl (G.2 0, 60, .inl t)), (pw, .inl (G.2 0, 16, .inl w)), (pc, .inl (G.2 0, 16, .inl c)), (po, .inl (G.2 1, 60, .inl o))]) (wr := []) (va_runV (As := [.int k]) (rest := []) ⟨hx, hb, hml, hown, hts⟩ (ct_X3_isNode lL G p pf pt pw pc po f t w c o nd rt ex mn k _) (cwV 1 hts (lw_V q1258 q1259 q1260 q166 q1261) rfl rfl rfl (by decide +kernel) ⟨Nat.le_of_ble_eq_true rfl, Nat.le_of_ble_eq_true rfl⟩) (gx_preV hK hPc hDc 0 0 rfl rfl) rfl rfl hl.1 rfl (lv_room (Nat.le_of_ble_eq_true rfl)) dX3_tells_2 ⟨Nat.le_of_ble_eq_true rfl, Nat.le_of_ble_eq_true rfl⟩) hP hD hS hA [0, 1, 2, 3, 4, 5] [] rfl rfl (by decide) (by decide) (fun r_1 u_1 H locs hw_1 hP hD hS => ?_)
  have hP : va_P G.1 vwCl [(p, .inr (0, [.ref pf, .ref pt, .ref pw, .ref pc, .ref po, .int nd, .int rt, .int ex, .int mn])), (pf, .inl (G.2 0, 60, .inl f)), (pt, .inl (G.2 0, 60, .inl t)), (pw, .inl (G.2 0, 16, .inl w)), (pc, .inl (G.2 0, 16, .inl c)), (po, .inl (G.2 1, 60, .inl o))] H := hP
  have hD : va_D AA [(p, .inr (0, [.ref pf, .ref pt, .ref pw, .ref pc, .ref po, .int nd, .int rt, .int ex, .int mn])), (pf, .inl (G.2 0, 60, .inl f)), (pt, .inl (G.2 0, 60, .inl t)), (pw, .inl (G.2 0, 16, .inl w)), (pc, .inl (G.2 0, 16, .inl c)), (po, .inl (G.2 1, 60, .inl o))] := hD
  replace h := h r_1 hw_1
  refine lv_if_ne (tgt := 10) hx hb dX3_tells_5 (by decide) (fun c_2 => ?_) (fun c_2 => ?_)
  · replace h := h.1 c_2
    refine lv_iload_n hx hb dX3_tells_10 rfl (lv_at hl 2 rfl) ?_
    replace h := h (fun (t_4 : Int32) => ∀ (H : Heap) (locs : List Loc) (ls : Array Slot), va_P G.1 vwCl [(p, .inr (0, [.ref pf, .ref pt, .ref pw, .ref pc, .ref po, .int nd, .int rt, .int ex, .int mn])), (pf, .inl (G.2 0, 60, .inl f)), (pt, .inl (G.2 0, 60, .inl t)), (pw, .inl (G.2 0, 16, .inl w)), (pc, .inl (G.2 0, 16, .inl c)), (po, .inl (G.2 1, 60, .inl o))] H → va_D AA [(p, .inr (0, [.ref pf, .ref pt, .ref pw, .ref pc, .ref po, .int nd, .int rt, .int ex, .int mn])), (pf, .inl (G.2 0, 60, .inl f)), (pt, .inl (G.2 0, 60, .inl t)), (pw, .inl (G.2 0, 16, .inl w)), (pc, .inl (G.2 0, 16, .inl c)), (po, .inl (G.2 1, 60, .inl o))] → va_S AA sS.heap H locs → lv_has ls 3 [(0, .ref p), (1, .int k), (2, .int z)] → W pp lL eE RX3_tells sS mM ar below meth cC H locs 0 0 QQ (F0 mM 25 ls [.int t_4])) (by
        clear h
        intro t_4 h H locs ls hP hD hS hl
        refine lv_iload_n hx hb dX3_tells_25 rfl (lv_at hl 1 rfl) ?_
        refine lv_icmp_ne (tgt := 31) hx hb dX3_tells_26 (by decide) (fun c_5 => ?_) (fun c_5 => ?_)
        · replace h := h.1 c_5
          refine lv_iload_n hx hb dX3_tells_31 rfl (lv_at hl 2 rfl) ?_
          refine lv_if_eq (tgt := 43) hx hb dX3_tells_32 (by decide) (fun c_6 => ?_) (fun c_6 => ?_)
          · replace h := h.1 c_6
            refine lv_aload_n hx hb dX3_tells_43 rfl (lv_at hl 0 rfl) ?_
            refine lv_iload_n hx hb dX3_tells_44 rfl (lv_at hl 1 rfl) ?_
            refine va_put (D := G.1) (ci := 0) (v := .int k) (ty := .int) (C := RX3) (T := TX3) (N := 9) hx hb hts in_X3 tyX3 tyX3_ok nmX3 hown hK.1 hP hD hS 0 rfl rfl 6 (by decide) (hts _ q227) (fun _ h9 => h9) rfl (by decide +kernel) rfl rfl (Nat.le_of_ble_eq_true rfl) dX3_tells_45 (fun H locs hP hD hS => ?_)
            have hP : va_P G.1 vwCl [(p, .inr (0, [.ref pf, .ref pt, .ref pw, .ref pc, .ref po, .int nd, .int k, .int ex, .int mn])), (pf, .inl (G.2 0, 60, .inl f)), (pt, .inl (G.2 0, 60, .inl t)), (pw, .inl (G.2 0, 16, .inl w)), (pc, .inl (G.2 0, 16, .inl c)), (po, .inl (G.2 1, 60, .inl o))] H := hP
            have hD : va_D AA [(p, .inr (0, [.ref pf, .ref pt, .ref pw, .ref pc, .ref po, .int nd, .int k, .int ex, .int mn])), (pf, .inl (G.2 0, 60, .inl f)), (pt, .inl (G.2 0, 60, .inl t)), (pw, .inl (G.2 0, 16, .inl w)), (pc, .inl (G.2 0, 16, .inl c)), (po, .inl (G.2 1, 60, .inl o))] := hD
            refine lv_iconst (v := 0) hx hb dX3_tells_48 (by decide) ?_
            subst hQQ; exact gx_iret (k, ex) hx hb hr hlocks hAe hP hD hS (Nat.le_of_ble_eq_true rfl) (Nat.le_of_ble_eq_true rfl) h dX3_tells_49
          · replace h := h.2 c_6
            refine lv_aload_n hx hb dX3_tells_35 rfl (lv_at hl 0 rfl) ?_
            refine lv_iload_n hx hb dX3_tells_36 rfl (lv_at hl 1 rfl) ?_
            refine va_put (D := G.1) (ci := 0) (v := .int k) (ty := .int) (C := RX3) (T := TX3) (N := 9) hx hb hts in_X3 tyX3 tyX3_ok nmX3 hown hK.1 hP hD hS 0 rfl rfl 7 (by decide) (hts _ q230) (fun _ h9 => h9) rfl (by decide +kernel) rfl rfl (Nat.le_of_ble_eq_true rfl) dX3_tells_37 (fun H locs hP hD hS => ?_)
            have hP : va_P G.1 vwCl [(p, .inr (0, [.ref pf, .ref pt, .ref pw, .ref pc, .ref po, .int nd, .int rt, .int k, .int mn])), (pf, .inl (G.2 0, 60, .inl f)), (pt, .inl (G.2 0, 60, .inl t)), (pw, .inl (G.2 0, 16, .inl w)), (pc, .inl (G.2 0, 16, .inl c)), (po, .inl (G.2 1, 60, .inl o))] H := hP
            have hD : va_D AA [(p, .inr (0, [.ref pf, .ref pt, .ref pw, .ref pc, .ref po, .int nd, .int rt, .int k, .int mn])), (pf, .inl (G.2 0, 60, .inl f)), (pt, .inl (G.2 0, 60, .inl t)), (pw, .inl (G.2 0, 16, .inl w)), (pc, .inl (G.2 0, 16, .inl c)), (po, .inl (G.2 1, 60, .inl o))] := hD
            refine lv_goto (tgt := 48) hx hb dX3_tells_40 (by decide) ?_
            refine lv_iconst (v := 0) hx hb dX3_tells_48 (by decide) ?_
            subst hQQ; exact gx_iret (rt, k) hx hb hr hlocks hAe hP hD hS (Nat.le_of_ble_eq_true rfl) (Nat.le_of_ble_eq_true rfl) h dX3_tells_49
        · replace h := h.2 c_5
          refine lv_iconst (v := 4) hx hb dX3_tells_29 (by decide) ?_
          subst hQQ; exact gx_iret (rt, ex) hx hb hr hlocks hAe hP hD hS (Nat.le_of_ble_eq_true rfl) (Nat.le_of_ble_eq_true rfl) h dX3_tells_30)
    refine lv_if_eq (tgt := 21) hx hb dX3_tells_11 (by decide) (fun c_8 => ?_) (fun c_8 => ?_)
    · replace h := h.1 c_8
      refine lv_aload_n hx hb dX3_tells_21 rfl (lv_at hl 0 rfl) ?_
      refine va_get (D := G.1) (ci := 0) (v := .int rt) (C := RX3) (T := TX3) (N := 9) hx hb hts in_X3 hown hK.1 hP 0 rfl rfl 6 (by decide) (hts _ q227) (fun _ h9 => h9) rfl dX3_tells_22 ?_
      exact h _ _ _ hP hD hS hl
    · replace h := h.2 c_8
      refine lv_aload_n hx hb dX3_tells_14 rfl (lv_at hl 0 rfl) ?_
      refine va_get (D := G.1) (ci := 0) (v := .int ex) (C := RX3) (T := TX3) (N := 9) hx hb hts in_X3 hown hK.1 hP 0 rfl rfl 7 (by decide) (hts _ q230) (fun _ h9 => h9) rfl dX3_tells_15 ?_
      refine lv_goto (tgt := 25) hx hb dX3_tells_18 (by decide) ?_
      exact h _ _ _ hP hD hS hl
  · replace h := h.2 c_2
    refine lv_iconst (v := 1) hx hb dX3_tells_8 (by decide) ?_
    subst hQQ; exact gx_iret (rt, ex) hx hb hr hlocks hAe hP hD hS (Nat.le_of_ble_eq_true rfl) (Nat.le_of_ble_eq_true rfl) h dX3_tells_9
theorem ct_X3_tells (lL : Launch) (G : GE) (p pf pt pw pc po : Nat) (f t w c o : Nat → Int32) (nd rt ex mn k z : Int32) : CtI lL yX3_tells (ws_ yX3_tells cX3_tells 3 (some .int)) RX3_tells G [.ref p, .int k, .int z] [(p, .inr (0, [.ref pf, .ref pt, .ref pw, .ref pc, .ref po, .int nd, .int rt, .int ex, .int mn])), (pf, .inl (G.2 0, 60, .inl f)), (pt, .inl (G.2 0, 60, .inl t)), (pw, .inl (G.2 0, 16, .inl w)), (pc, .inl (G.2 0, 16, .inl c)), (po, .inl (G.2 1, 60, .inl o))] (fun (rr_ : Int32) (uu_ : Int32 × Int32) => ps_X3_tells f t w c o nd rt ex mn k z rr_ uu_.1 uu_.2) (fun (uu_ : Int32 × Int32) => [(p, .inr (0, [.ref pf, .ref pt, .ref pw, .ref pc, .ref po, .int nd, .int uu_.1, .int uu_.2, .int mn])), (pf, .inl (G.2 0, 60, .inl f)), (pt, .inl (G.2 0, 60, .inl t)), (pw, .inl (G.2 0, 16, .inl w)), (pc, .inl (G.2 0, 16, .inl c)), (po, .inl (G.2 1, 60, .inl o))]) :=
  wk_X3_tells lL G p pf pt pw pc po f t w c o nd rt ex mn k z _ (pf_X3_tells f t w c o nd rt ex mn k z)
abbrev RX3_asks : Room := ({ frames := 2, cells := 0, slots := 0, locals := 33 } : Room)
set_option maxHeartbeats 4000000 in
set_option maxRecDepth 100000 in
theorem wk_X3_asks (lL : Launch) (G : GE) (p pf pt pw pc po : Nat) (f t w c o : Nat → Int32) (nd rt ex mn k z : Int32) (Q : Int32 → (Nat → Int32) → Prop) (h : wp_X3_asks f t w c o nd rt ex mn k z Q) : CtI lL yX3_asks (ws_ yX3_asks cX3_asks 3 (some .int)) RX3_asks G [.ref p, .int k, .int z] [(p, .inr (0, [.ref pf, .ref pt, .ref pw, .ref pc, .ref po, .int nd, .int rt, .int ex, .int mn])), (pf, .inl (G.2 0, 60, .inl f)), (pt, .inl (G.2 0, 60, .inl t)), (pw, .inl (G.2 0, 16, .inl w)), (pc, .inl (G.2 0, 16, .inl c)), (po, .inl (G.2 1, 60, .inl o))] (fun (rr_ : Int32) (uu_ : (Nat → Int32)) => Q rr_ uu_) (fun (uu_ : (Nat → Int32)) => [(p, .inr (0, [.ref pf, .ref pt, .ref pw, .ref pc, .ref po, .int nd, .int rt, .int ex, .int mn])), (pf, .inl (G.2 0, 60, .inl f)), (pt, .inl (G.2 0, 60, .inl t)), (pw, .inl (G.2 0, 16, .inl w)), (pc, .inl (G.2 0, 16, .inl uu_)), (po, .inl (G.2 1, 60, .inl o))]) := by
  refine gx_of (cc := cX3_asks) (maxL := 3) (ret := (some .int)) (by decide) (Nat.le_of_ble_eq_true rfl) ?_
  intro pp eE sS mM ar below meth cC AA ls QQ hx hb hr hml hts hown hlocks hnm hK hAe hQQ hP hD hA hS hl
  have hl : lv_has ls 3 [(0, .ref p), (1, .int k), (2, .int z)] := hl
  refine lv_aload_n hx hb dX3_asks_0 rfl (lv_at hl 0 rfl) ?_
  refine lv_iload_n hx hb dX3_asks_1 rfl (lv_at hl 1 rfl) ?_
  have hPc := hP.sub (ws' := [(p, .inr (0, [.ref pf, .ref pt, .ref pw, .ref pc, .ref po, .int nd, .int rt, .int ex, .int mn])), (pf, .inl (G.2 0, 60, .inl f)), (pt, .inl (G.2 0, 60, .inl t)), (pw, .inl (G.2 0, 16, .inl w)), (pc, .inl (G.2 0, 16, .inl c)), (po, .inl (G.2 1, 60, .inl o))]) [0, 1, 2, 3, 4, 5] rfl
  have hDc := hD.sub (ws' := [(p, .inr (0, [.ref pf, .ref pt, .ref pw, .ref pc, .ref po, .int nd, .int rt, .int ex, .int mn])), (pf, .inl (G.2 0, 60, .inl f)), (pt, .inl (G.2 0, 60, .inl t)), (pw, .inl (G.2 0, 16, .inl w)), (pc, .inl (G.2 0, 16, .inl c)), (po, .inl (G.2 1, 60, .inl o))]) [0, 1, 2, 3, 4, 5] (by decide) rfl
  refine gx_i (G := G) (wc := [(p, .inr (0, [.ref pf, .ref pt, .ref pw, .ref pc, .ref po, .int nd, .int rt, .int ex, .int mn])), (pf, .inl (G.2 0, 60, .inl f)), (pt, .inl (G.2 0, 60, .inl t)), (pw, .inl (G.2 0, 16, .inl w)), (pc, .inl (G.2 0, 16, .inl c)), (po, .inl (G.2 1, 60, .inl o))]) (wr := []) (va_runV (As := [.int k]) (rest := []) ⟨hx, hb, hml, hown, hts⟩ (ct_X3_isNode lL G p pf pt pw pc po f t w c o nd rt ex mn k _) (cwV 1 hts (lw_V q1258 q1259 q1260 q166 q1261) rfl rfl rfl (by decide +kernel) ⟨Nat.le_of_ble_eq_true rfl, Nat.le_of_ble_eq_true rfl⟩) (gx_preV hK hPc hDc 0 0 rfl rfl) rfl rfl hl.1 rfl (lv_room (Nat.le_of_ble_eq_true rfl)) dX3_asks_2 ⟨Nat.le_of_ble_eq_true rfl, Nat.le_of_ble_eq_true rfl⟩) hP hD hS hA [0, 1, 2, 3, 4, 5] [] rfl rfl (by decide) (by decide) (fun r_1 u_1 H locs hw_1 hP hD hS => ?_)
  have hP : va_P G.1 vwCl [(p, .inr (0, [.ref pf, .ref pt, .ref pw, .ref pc, .ref po, .int nd, .int rt, .int ex, .int mn])), (pf, .inl (G.2 0, 60, .inl f)), (pt, .inl (G.2 0, 60, .inl t)), (pw, .inl (G.2 0, 16, .inl w)), (pc, .inl (G.2 0, 16, .inl c)), (po, .inl (G.2 1, 60, .inl o))] H := hP
  have hD : va_D AA [(p, .inr (0, [.ref pf, .ref pt, .ref pw, .ref pc, .ref po, .int nd, .int rt, .int ex, .int mn])), (pf, .inl (G.2 0, 60, .inl f)), (pt, .inl (G.2 0, 60, .inl t)), (pw, .inl (G.2 0, 16, .inl w)), (pc, .inl (G.2 0, 16, .inl c)), (po, .inl (G.2 1, 60, .inl o))] := hD
  replace h := h r_1 hw_1
  refine lv_if_ne (tgt := 10) hx hb dX3_asks_5 (by decide) (fun c_2 => ?_) (fun c_2 => ?_)
  · replace h := h.1 c_2
    refine lv_aload_n hx hb dX3_asks_10 rfl (lv_at hl 0 rfl) ?_
    refine va_get (D := G.1) (ci := 0) (v := .ref pc) (C := RX3) (T := TX3) (N := 9) hx hb hts in_X3 hown hK.1 hP 0 rfl rfl 3 (by decide) (hts _ q220) (fun _ h9 => h9) rfl dX3_asks_11 ?_
    refine lv_iload_n hx hb dX3_asks_14 rfl (lv_at hl 1 rfl) ?_
    have b_3 := h.1
    refine va_iald hx hb hK.1 hP 4 0 rfl rfl b_3 dX3_asks_15 ?_
    replace h := h.2
    refine lv_iload_n hx hb dX3_asks_16 rfl (lv_at hl 2 rfl) ?_
    refine lv_icmp_ne (tgt := 22) hx hb dX3_asks_17 (by decide) (fun c_4 => ?_) (fun c_4 => ?_)
    · replace h := h.1 c_4
      refine lv_aload_n hx hb dX3_asks_22 rfl (lv_at hl 0 rfl) ?_
      refine va_get (D := G.1) (ci := 0) (v := .ref pc) (C := RX3) (T := TX3) (N := 9) hx hb hts in_X3 hown hK.1 hP 0 rfl rfl 3 (by decide) (hts _ q220) (fun _ h9 => h9) rfl dX3_asks_23 ?_
      refine lv_iload_n hx hb dX3_asks_26 rfl (lv_at hl 1 rfl) ?_
      refine lv_iload_n hx hb dX3_asks_27 rfl (lv_at hl 2 rfl) ?_
      refine va_iast hx hb hK.1 hP hD hS 4 0 rfl rfl b_3 dX3_asks_28 (fun H locs hP hD hS => ?_)
      obtain ⟨u_5, eu_5⟩ : ∃ z__, z__ = upd c k.toNatClampNeg z := ⟨_, rfl⟩
      replace h := h u_5 eu_5
      have hP : va_P G.1 vwCl [(p, .inr (0, [.ref pf, .ref pt, .ref pw, .ref pc, .ref po, .int nd, .int rt, .int ex, .int mn])), (pf, .inl (G.2 0, 60, .inl f)), (pt, .inl (G.2 0, 60, .inl t)), (pw, .inl (G.2 0, 16, .inl w)), (pc, .inl (G.2 0, 16, .inl u_5)), (po, .inl (G.2 1, 60, .inl o))] H := by rw [eu_5]; exact hP
      have hD : va_D AA [(p, .inr (0, [.ref pf, .ref pt, .ref pw, .ref pc, .ref po, .int nd, .int rt, .int ex, .int mn])), (pf, .inl (G.2 0, 60, .inl f)), (pt, .inl (G.2 0, 60, .inl t)), (pw, .inl (G.2 0, 16, .inl w)), (pc, .inl (G.2 0, 16, .inl u_5)), (po, .inl (G.2 1, 60, .inl o))] := by rw [eu_5]; exact hD
      refine lv_iconst (v := 0) hx hb dX3_asks_29 (by decide) ?_
      subst hQQ; exact gx_iret u_5 hx hb hr hlocks hAe hP hD hS (Nat.le_of_ble_eq_true rfl) (Nat.le_of_ble_eq_true rfl) h dX3_asks_30
    · replace h := h.2 c_4
      refine lv_iconst (v := 4) hx hb dX3_asks_20 (by decide) ?_
      subst hQQ; exact gx_iret c hx hb hr hlocks hAe hP hD hS (Nat.le_of_ble_eq_true rfl) (Nat.le_of_ble_eq_true rfl) h dX3_asks_21
  · replace h := h.2 c_2
    refine lv_iconst (v := 1) hx hb dX3_asks_8 (by decide) ?_
    subst hQQ; exact gx_iret c hx hb hr hlocks hAe hP hD hS (Nat.le_of_ble_eq_true rfl) (Nat.le_of_ble_eq_true rfl) h dX3_asks_9
theorem ct_X3_asks (lL : Launch) (G : GE) (p pf pt pw pc po : Nat) (f t w c o : Nat → Int32) (nd rt ex mn k z : Int32) (hp : pr_X3_asks f t w c o nd rt ex mn k z) : CtI lL yX3_asks (ws_ yX3_asks cX3_asks 3 (some .int)) RX3_asks G [.ref p, .int k, .int z] [(p, .inr (0, [.ref pf, .ref pt, .ref pw, .ref pc, .ref po, .int nd, .int rt, .int ex, .int mn])), (pf, .inl (G.2 0, 60, .inl f)), (pt, .inl (G.2 0, 60, .inl t)), (pw, .inl (G.2 0, 16, .inl w)), (pc, .inl (G.2 0, 16, .inl c)), (po, .inl (G.2 1, 60, .inl o))] (fun (rr_ : Int32) (uu_ : (Nat → Int32)) => ps_X3_asks f t w c o nd rt ex mn k z rr_ uu_) (fun (uu_ : (Nat → Int32)) => [(p, .inr (0, [.ref pf, .ref pt, .ref pw, .ref pc, .ref po, .int nd, .int rt, .int ex, .int mn])), (pf, .inl (G.2 0, 60, .inl f)), (pt, .inl (G.2 0, 60, .inl t)), (pw, .inl (G.2 0, 16, .inl w)), (pc, .inl (G.2 0, 16, .inl uu_)), (po, .inl (G.2 1, 60, .inl o))]) :=
  wk_X3_asks lL G p pf pt pw pc po f t w c o nd rt ex mn k z _ (pf_X3_asks f t w c o nd rt ex mn k z hp)
abbrev RX3_lays : Room := ({ frames := 2, cells := 0, slots := 0, locals := 33 } : Room)
set_option maxHeartbeats 4000000 in
set_option maxRecDepth 100000 in
theorem wk_X3_lays (lL : Launch) (G : GE) (p pf pt pw pc po : Nat) (f t w c o : Nat → Int32) (nd rt ex mn a b : Int32) (Q : Int32 → (Nat → Int32) → (Nat → Int32) → (Nat → Int32) → (Nat → Int32) → Int32 → Prop) (h : wp_X3_lays f t w c o nd rt ex mn a b Q) : CtI lL yX3_lays (ws_ yX3_lays cX3_lays 3 (some .int)) RX3_lays G [.ref p, .int a, .int b] [(p, .inr (0, [.ref pf, .ref pt, .ref pw, .ref pc, .ref po, .int nd, .int rt, .int ex, .int mn])), (pf, .inl (G.2 0, 60, .inl f)), (pt, .inl (G.2 0, 60, .inl t)), (pw, .inl (G.2 0, 16, .inl w)), (pc, .inl (G.2 0, 16, .inl c)), (po, .inl (G.2 1, 60, .inl o))] (fun (rr_ : Int32) (uu_ : (Nat → Int32) × (Nat → Int32) × (Nat → Int32) × (Nat → Int32) × Int32) => Q rr_ uu_.1 uu_.2.1 uu_.2.2.1 uu_.2.2.2.1 uu_.2.2.2.2) (fun (uu_ : (Nat → Int32) × (Nat → Int32) × (Nat → Int32) × (Nat → Int32) × Int32) => [(p, .inr (0, [.ref pf, .ref pt, .ref pw, .ref pc, .ref po, .int nd, .int rt, .int ex, .int uu_.2.2.2.2])), (pf, .inl (G.2 0, 60, .inl uu_.1)), (pt, .inl (G.2 0, 60, .inl uu_.2.1)), (pw, .inl (G.2 0, 16, .inl uu_.2.2.1)), (pc, .inl (G.2 0, 16, .inl c)), (po, .inl (G.2 1, 60, .inl uu_.2.2.2.1))]) := by
  refine gx_of (cc := cX3_lays) (maxL := 3) (ret := (some .int)) (by decide) (Nat.le_of_ble_eq_true rfl) ?_
  intro pp eE sS mM ar below meth cC AA ls QQ hx hb hr hml hts hown hlocks hnm hK hAe hQQ hP hD hA hS hl
  have hl : lv_has ls 3 [(0, .ref p), (1, .int a), (2, .int b)] := hl
  refine lv_aload_n hx hb dX3_lays_0 rfl (lv_at hl 0 rfl) ?_
  refine lv_iload_n hx hb dX3_lays_1 rfl (lv_at hl 1 rfl) ?_
  have hPc := hP.sub (ws' := [(p, .inr (0, [.ref pf, .ref pt, .ref pw, .ref pc, .ref po, .int nd, .int rt, .int ex, .int mn])), (pf, .inl (G.2 0, 60, .inl f)), (pt, .inl (G.2 0, 60, .inl t)), (pw, .inl (G.2 0, 16, .inl w)), (pc, .inl (G.2 0, 16, .inl c)), (po, .inl (G.2 1, 60, .inl o))]) [0, 1, 2, 3, 4, 5] rfl
  have hDc := hD.sub (ws' := [(p, .inr (0, [.ref pf, .ref pt, .ref pw, .ref pc, .ref po, .int nd, .int rt, .int ex, .int mn])), (pf, .inl (G.2 0, 60, .inl f)), (pt, .inl (G.2 0, 60, .inl t)), (pw, .inl (G.2 0, 16, .inl w)), (pc, .inl (G.2 0, 16, .inl c)), (po, .inl (G.2 1, 60, .inl o))]) [0, 1, 2, 3, 4, 5] (by decide) rfl
  refine gx_i (G := G) (wc := [(p, .inr (0, [.ref pf, .ref pt, .ref pw, .ref pc, .ref po, .int nd, .int rt, .int ex, .int mn])), (pf, .inl (G.2 0, 60, .inl f)), (pt, .inl (G.2 0, 60, .inl t)), (pw, .inl (G.2 0, 16, .inl w)), (pc, .inl (G.2 0, 16, .inl c)), (po, .inl (G.2 1, 60, .inl o))]) (wr := []) (va_runV (As := [.int a]) (rest := []) ⟨hx, hb, hml, hown, hts⟩ (ct_X3_isNode lL G p pf pt pw pc po f t w c o nd rt ex mn a _) (cwV 1 hts (lw_V q1258 q1259 q1260 q166 q1261) rfl rfl rfl (by decide +kernel) ⟨Nat.le_of_ble_eq_true rfl, Nat.le_of_ble_eq_true rfl⟩) (gx_preV hK hPc hDc 0 0 rfl rfl) rfl rfl hl.1 rfl (lv_room (Nat.le_of_ble_eq_true rfl)) dX3_lays_2 ⟨Nat.le_of_ble_eq_true rfl, Nat.le_of_ble_eq_true rfl⟩) hP hD hS hA [0, 1, 2, 3, 4, 5] [] rfl rfl (by decide) (by decide) (fun r_1 u_1 H locs hw_1 hP hD hS => ?_)
  have hP : va_P G.1 vwCl [(p, .inr (0, [.ref pf, .ref pt, .ref pw, .ref pc, .ref po, .int nd, .int rt, .int ex, .int mn])), (pf, .inl (G.2 0, 60, .inl f)), (pt, .inl (G.2 0, 60, .inl t)), (pw, .inl (G.2 0, 16, .inl w)), (pc, .inl (G.2 0, 16, .inl c)), (po, .inl (G.2 1, 60, .inl o))] H := hP
  have hD : va_D AA [(p, .inr (0, [.ref pf, .ref pt, .ref pw, .ref pc, .ref po, .int nd, .int rt, .int ex, .int mn])), (pf, .inl (G.2 0, 60, .inl f)), (pt, .inl (G.2 0, 60, .inl t)), (pw, .inl (G.2 0, 16, .inl w)), (pc, .inl (G.2 0, 16, .inl c)), (po, .inl (G.2 1, 60, .inl o))] := hD
  replace h := h r_1 hw_1
  refine lv_if_eq (tgt := 16) hx hb dX3_lays_5 (by decide) (fun c_2 => ?_) (fun c_2 => ?_)
  · replace h := h.1 c_2
    refine lv_iconst (v := 1) hx hb dX3_lays_16 (by decide) ?_
    subst hQQ; exact gx_iret (f, t, w, o, mn) hx hb hr hlocks hAe hP hD hS (Nat.le_of_ble_eq_true rfl) (Nat.le_of_ble_eq_true rfl) h dX3_lays_17
  · replace h := h.2 c_2
    refine lv_aload_n hx hb dX3_lays_8 rfl (lv_at hl 0 rfl) ?_
    refine lv_iload_n hx hb dX3_lays_9 rfl (lv_at hl 2 rfl) ?_
    have hPc := hP.sub (ws' := [(p, .inr (0, [.ref pf, .ref pt, .ref pw, .ref pc, .ref po, .int nd, .int rt, .int ex, .int mn])), (pf, .inl (G.2 0, 60, .inl f)), (pt, .inl (G.2 0, 60, .inl t)), (pw, .inl (G.2 0, 16, .inl w)), (pc, .inl (G.2 0, 16, .inl c)), (po, .inl (G.2 1, 60, .inl o))]) [0, 1, 2, 3, 4, 5] rfl
    have hDc := hD.sub (ws' := [(p, .inr (0, [.ref pf, .ref pt, .ref pw, .ref pc, .ref po, .int nd, .int rt, .int ex, .int mn])), (pf, .inl (G.2 0, 60, .inl f)), (pt, .inl (G.2 0, 60, .inl t)), (pw, .inl (G.2 0, 16, .inl w)), (pc, .inl (G.2 0, 16, .inl c)), (po, .inl (G.2 1, 60, .inl o))]) [0, 1, 2, 3, 4, 5] (by decide) rfl
    refine gx_i (G := G) (wc := [(p, .inr (0, [.ref pf, .ref pt, .ref pw, .ref pc, .ref po, .int nd, .int rt, .int ex, .int mn])), (pf, .inl (G.2 0, 60, .inl f)), (pt, .inl (G.2 0, 60, .inl t)), (pw, .inl (G.2 0, 16, .inl w)), (pc, .inl (G.2 0, 16, .inl c)), (po, .inl (G.2 1, 60, .inl o))]) (wr := []) (va_runV (As := [.int b]) (rest := []) ⟨hx, hb, hml, hown, hts⟩ (ct_X3_isNode lL G p pf pt pw pc po f t w c o nd rt ex mn b _) (cwV 1 hts (lw_V q1258 q1259 q1260 q166 q1261) rfl rfl rfl (by decide +kernel) ⟨Nat.le_of_ble_eq_true rfl, Nat.le_of_ble_eq_true rfl⟩) (gx_preV hK hPc hDc 0 0 rfl rfl) rfl rfl hl.1 rfl (lv_room (Nat.le_of_ble_eq_true rfl)) dX3_lays_10 ⟨Nat.le_of_ble_eq_true rfl, Nat.le_of_ble_eq_true rfl⟩) hP hD hS hA [0, 1, 2, 3, 4, 5] [] rfl rfl (by decide) (by decide) (fun r_3 u_3 H locs hw_3 hP hD hS => ?_)
    have hP : va_P G.1 vwCl [(p, .inr (0, [.ref pf, .ref pt, .ref pw, .ref pc, .ref po, .int nd, .int rt, .int ex, .int mn])), (pf, .inl (G.2 0, 60, .inl f)), (pt, .inl (G.2 0, 60, .inl t)), (pw, .inl (G.2 0, 16, .inl w)), (pc, .inl (G.2 0, 16, .inl c)), (po, .inl (G.2 1, 60, .inl o))] H := hP
    have hD : va_D AA [(p, .inr (0, [.ref pf, .ref pt, .ref pw, .ref pc, .ref po, .int nd, .int rt, .int ex, .int mn])), (pf, .inl (G.2 0, 60, .inl f)), (pt, .inl (G.2 0, 60, .inl t)), (pw, .inl (G.2 0, 16, .inl w)), (pc, .inl (G.2 0, 16, .inl c)), (po, .inl (G.2 1, 60, .inl o))] := hD
    replace h := h r_3 hw_3
    refine lv_if_ne (tgt := 18) hx hb dX3_lays_13 (by decide) (fun c_4 => ?_) (fun c_4 => ?_)
    · replace h := h.1 c_4
      refine lv_aload_n hx hb dX3_lays_18 rfl (lv_at hl 0 rfl) ?_
      refine va_get (D := G.1) (ci := 0) (v := .int mn) (C := RX3) (T := TX3) (N := 9) hx hb hts in_X3 hown hK.1 hP 0 rfl rfl 8 (by decide) (hts _ q232) (fun _ h9 => h9) rfl dX3_lays_19 ?_
      refine lv_bipush (v := 60) hx hb dX3_lays_22 (by decide) ?_
      refine lv_icmp_ne (tgt := 29) hx hb dX3_lays_24 (by decide) (fun c_5 => ?_) (fun c_5 => ?_)
      · replace h := h.1 c_5
        refine lv_aload_n hx hb dX3_lays_29 rfl (lv_at hl 0 rfl) ?_
        refine va_get (D := G.1) (ci := 0) (v := .ref pf) (C := RX3) (T := TX3) (N := 9) hx hb hts in_X3 hown hK.1 hP 0 rfl rfl 0 (by decide) (hts _ q213) (fun _ h9 => h9) rfl dX3_lays_30 ?_
        refine lv_aload_n hx hb dX3_lays_33 rfl (lv_at hl 0 rfl) ?_
        refine va_get (D := G.1) (ci := 0) (v := .int mn) (C := RX3) (T := TX3) (N := 9) hx hb hts in_X3 hown hK.1 hP 0 rfl rfl 8 (by decide) (hts _ q232) (fun _ h9 => h9) rfl dX3_lays_34 ?_
        refine lv_iload_n hx hb dX3_lays_37 rfl (lv_at hl 1 rfl) ?_
        have b_6 := h.1
        refine va_iast hx hb hK.1 hP hD hS 1 0 rfl rfl b_6 dX3_lays_38 (fun H locs hP hD hS => ?_)
        replace h := h.2
        obtain ⟨u_7, eu_7⟩ : ∃ z__, z__ = upd f mn.toNatClampNeg a := ⟨_, rfl⟩
        replace h := h u_7 eu_7
        have hP : va_P G.1 vwCl [(p, .inr (0, [.ref pf, .ref pt, .ref pw, .ref pc, .ref po, .int nd, .int rt, .int ex, .int mn])), (pf, .inl (G.2 0, 60, .inl u_7)), (pt, .inl (G.2 0, 60, .inl t)), (pw, .inl (G.2 0, 16, .inl w)), (pc, .inl (G.2 0, 16, .inl c)), (po, .inl (G.2 1, 60, .inl o))] H := by rw [eu_7]; exact hP
        have hD : va_D AA [(p, .inr (0, [.ref pf, .ref pt, .ref pw, .ref pc, .ref po, .int nd, .int rt, .int ex, .int mn])), (pf, .inl (G.2 0, 60, .inl u_7)), (pt, .inl (G.2 0, 60, .inl t)), (pw, .inl (G.2 0, 16, .inl w)), (pc, .inl (G.2 0, 16, .inl c)), (po, .inl (G.2 1, 60, .inl o))] := by rw [eu_7]; exact hD
        refine lv_aload_n hx hb dX3_lays_39 rfl (lv_at hl 0 rfl) ?_
        refine va_get (D := G.1) (ci := 0) (v := .ref pt) (C := RX3) (T := TX3) (N := 9) hx hb hts in_X3 hown hK.1 hP 0 rfl rfl 1 (by decide) (hts _ q215) (fun _ h9 => h9) rfl dX3_lays_40 ?_
        refine lv_aload_n hx hb dX3_lays_43 rfl (lv_at hl 0 rfl) ?_
        refine va_get (D := G.1) (ci := 0) (v := .int mn) (C := RX3) (T := TX3) (N := 9) hx hb hts in_X3 hown hK.1 hP 0 rfl rfl 8 (by decide) (hts _ q232) (fun _ h9 => h9) rfl dX3_lays_44 ?_
        refine lv_iload_n hx hb dX3_lays_47 rfl (lv_at hl 2 rfl) ?_
        refine va_iast hx hb hK.1 hP hD hS 2 0 rfl rfl b_6 dX3_lays_48 (fun H locs hP hD hS => ?_)
        obtain ⟨u_8, eu_8⟩ : ∃ z__, z__ = upd t mn.toNatClampNeg b := ⟨_, rfl⟩
        replace h := h u_8 eu_8
        have hP : va_P G.1 vwCl [(p, .inr (0, [.ref pf, .ref pt, .ref pw, .ref pc, .ref po, .int nd, .int rt, .int ex, .int mn])), (pf, .inl (G.2 0, 60, .inl u_7)), (pt, .inl (G.2 0, 60, .inl u_8)), (pw, .inl (G.2 0, 16, .inl w)), (pc, .inl (G.2 0, 16, .inl c)), (po, .inl (G.2 1, 60, .inl o))] H := by rw [eu_8]; exact hP
        have hD : va_D AA [(p, .inr (0, [.ref pf, .ref pt, .ref pw, .ref pc, .ref po, .int nd, .int rt, .int ex, .int mn])), (pf, .inl (G.2 0, 60, .inl u_7)), (pt, .inl (G.2 0, 60, .inl u_8)), (pw, .inl (G.2 0, 16, .inl w)), (pc, .inl (G.2 0, 16, .inl c)), (po, .inl (G.2 1, 60, .inl o))] := by rw [eu_8]; exact hD
        refine lv_aload_n hx hb dX3_lays_49 rfl (lv_at hl 0 rfl) ?_
        refine va_get (D := G.1) (ci := 0) (v := .ref po) (C := RX3) (T := TX3) (N := 9) hx hb hts in_X3 hown hK.1 hP 0 rfl rfl 4 (by decide) (hts _ q222) (fun _ h9 => h9) rfl dX3_lays_50 ?_
        refine lv_aload_n hx hb dX3_lays_53 rfl (lv_at hl 0 rfl) ?_
        refine va_get (D := G.1) (ci := 0) (v := .int mn) (C := RX3) (T := TX3) (N := 9) hx hb hts in_X3 hown hK.1 hP 0 rfl rfl 8 (by decide) (hts _ q232) (fun _ h9 => h9) rfl dX3_lays_54 ?_
        refine lv_iconst (v := 1) hx hb dX3_lays_57 (by decide) ?_
        refine va_zast hx hb hK.1 hP hD hS 5 1 rfl rfl b_6 dX3_lays_58 (fun H locs hP hD hS => ?_)
        obtain ⟨u_9, eu_9⟩ : ∃ z__, z__ = upd o mn.toNatClampNeg (vp_nar .boolean 1) := ⟨_, rfl⟩
        replace h := h u_9 eu_9
        have hP : va_P G.1 vwCl [(p, .inr (0, [.ref pf, .ref pt, .ref pw, .ref pc, .ref po, .int nd, .int rt, .int ex, .int mn])), (pf, .inl (G.2 0, 60, .inl u_7)), (pt, .inl (G.2 0, 60, .inl u_8)), (pw, .inl (G.2 0, 16, .inl w)), (pc, .inl (G.2 0, 16, .inl c)), (po, .inl (G.2 1, 60, .inl u_9))] H := by rw [eu_9]; exact hP
        have hD : va_D AA [(p, .inr (0, [.ref pf, .ref pt, .ref pw, .ref pc, .ref po, .int nd, .int rt, .int ex, .int mn])), (pf, .inl (G.2 0, 60, .inl u_7)), (pt, .inl (G.2 0, 60, .inl u_8)), (pw, .inl (G.2 0, 16, .inl w)), (pc, .inl (G.2 0, 16, .inl c)), (po, .inl (G.2 1, 60, .inl u_9))] := by rw [eu_9]; exact hD
        refine lv_aload_n hx hb dX3_lays_59 rfl (lv_at hl 0 rfl) ?_
        refine lv_dup hx hb dX3_lays_60 rfl ?_
        refine va_get (D := G.1) (ci := 0) (v := .int mn) (C := RX3) (T := TX3) (N := 9) hx hb hts in_X3 hown hK.1 hP 0 rfl rfl 8 (by decide) (hts _ q232) (fun _ h9 => h9) rfl dX3_lays_61 ?_
        refine lv_iconst (v := 1) hx hb dX3_lays_64 (by decide) ?_
        refine lv_iadd hx hb dX3_lays_65 ?_
        refine va_put (D := G.1) (ci := 0) (v := .int (mn + 1)) (ty := .int) (C := RX3) (T := TX3) (N := 9) hx hb hts in_X3 tyX3 tyX3_ok nmX3 hown hK.1 hP hD hS 0 rfl rfl 8 (by decide) (hts _ q232) (fun _ h9 => h9) rfl (by decide +kernel) rfl rfl (Nat.le_of_ble_eq_true rfl) dX3_lays_66 (fun H locs hP hD hS => ?_)
        have hP : va_P G.1 vwCl [(p, .inr (0, [.ref pf, .ref pt, .ref pw, .ref pc, .ref po, .int nd, .int rt, .int ex, .int (mn + 1)])), (pf, .inl (G.2 0, 60, .inl u_7)), (pt, .inl (G.2 0, 60, .inl u_8)), (pw, .inl (G.2 0, 16, .inl w)), (pc, .inl (G.2 0, 16, .inl c)), (po, .inl (G.2 1, 60, .inl u_9))] H := hP
        have hD : va_D AA [(p, .inr (0, [.ref pf, .ref pt, .ref pw, .ref pc, .ref po, .int nd, .int rt, .int ex, .int (mn + 1)])), (pf, .inl (G.2 0, 60, .inl u_7)), (pt, .inl (G.2 0, 60, .inl u_8)), (pw, .inl (G.2 0, 16, .inl w)), (pc, .inl (G.2 0, 16, .inl c)), (po, .inl (G.2 1, 60, .inl u_9))] := hD
        refine lv_aload_n hx hb dX3_lays_69 rfl (lv_at hl 0 rfl) ?_
        have hPc := hP.sub (ws' := [(p, .inr (0, [.ref pf, .ref pt, .ref pw, .ref pc, .ref po, .int nd, .int rt, .int ex, .int (mn + 1)])), (pf, .inl (G.2 0, 60, .inl u_7)), (pt, .inl (G.2 0, 60, .inl u_8)), (pw, .inl (G.2 0, 16, .inl w)), (pc, .inl (G.2 0, 16, .inl c)), (po, .inl (G.2 1, 60, .inl u_9))]) [0, 1, 2, 3, 4, 5] rfl
        have hDc := hD.sub (ws' := [(p, .inr (0, [.ref pf, .ref pt, .ref pw, .ref pc, .ref po, .int nd, .int rt, .int ex, .int (mn + 1)])), (pf, .inl (G.2 0, 60, .inl u_7)), (pt, .inl (G.2 0, 60, .inl u_8)), (pw, .inl (G.2 0, 16, .inl w)), (pc, .inl (G.2 0, 16, .inl c)), (po, .inl (G.2 1, 60, .inl u_9))]) [0, 1, 2, 3, 4, 5] (by decide) rfl
        refine gx_v (G := G) (wc := [(p, .inr (0, [.ref pf, .ref pt, .ref pw, .ref pc, .ref po, .int nd, .int rt, .int ex, .int (mn + 1)])), (pf, .inl (G.2 0, 60, .inl u_7)), (pt, .inl (G.2 0, 60, .inl u_8)), (pw, .inl (G.2 0, 16, .inl w)), (pc, .inl (G.2 0, 16, .inl c)), (po, .inl (G.2 1, 60, .inl u_9))]) (wr := []) (va_runV (As := []) (rest := []) ⟨hx, hb, hml, hown, hts⟩ (ct_X3_rows lL G p pf pt pw pc po u_7 u_8 w c u_9 nd rt ex (mn + 1) h.1 _) (cwV 0 hts (lw_V q460 q462 qs1 q166 q463) rfl rfl rfl (by decide +kernel) ⟨Nat.le_of_ble_eq_true rfl, Nat.le_of_ble_eq_true rfl⟩) (gx_preV hK hPc hDc 0 0 rfl rfl) rfl rfl hl.1 rfl (lv_room (Nat.le_of_ble_eq_true rfl)) dX3_lays_70 ⟨Nat.le_of_ble_eq_true rfl, Nat.le_of_ble_eq_true rfl⟩) hP hD hS hA [0, 1, 2, 3, 4, 5] [] rfl rfl (by decide) (by decide) (fun u_10 H locs hw_10 hP hD hS => ?_)
        replace h := h.2
        obtain ⟨w_10, rfl⟩ : ∃ z__, z__ = u_10 := ⟨_, rfl⟩
        have hP : va_P G.1 vwCl [(p, .inr (0, [.ref pf, .ref pt, .ref pw, .ref pc, .ref po, .int nd, .int rt, .int ex, .int (mn + 1)])), (pf, .inl (G.2 0, 60, .inl u_7)), (pt, .inl (G.2 0, 60, .inl u_8)), (pw, .inl (G.2 0, 16, .inl w_10)), (pc, .inl (G.2 0, 16, .inl c)), (po, .inl (G.2 1, 60, .inl u_9))] H := hP
        have hD : va_D AA [(p, .inr (0, [.ref pf, .ref pt, .ref pw, .ref pc, .ref po, .int nd, .int rt, .int ex, .int (mn + 1)])), (pf, .inl (G.2 0, 60, .inl u_7)), (pt, .inl (G.2 0, 60, .inl u_8)), (pw, .inl (G.2 0, 16, .inl w_10)), (pc, .inl (G.2 0, 16, .inl c)), (po, .inl (G.2 1, 60, .inl u_9))] := hD
        replace h := h w_10 hw_10
        refine lv_iconst (v := 0) hx hb dX3_lays_73 (by decide) ?_
        subst hQQ; exact gx_iret (u_7, u_8, w_10, u_9, (mn + 1)) hx hb hr hlocks hAe hP hD hS (Nat.le_of_ble_eq_true rfl) (Nat.le_of_ble_eq_true rfl) h dX3_lays_74
      · replace h := h.2 c_5
        refine lv_iconst (v := 2) hx hb dX3_lays_27 (by decide) ?_
        subst hQQ; exact gx_iret (f, t, w, o, mn) hx hb hr hlocks hAe hP hD hS (Nat.le_of_ble_eq_true rfl) (Nat.le_of_ble_eq_true rfl) h dX3_lays_28
    · replace h := h.2 c_4
      refine lv_iconst (v := 1) hx hb dX3_lays_16 (by decide) ?_
      subst hQQ; exact gx_iret (f, t, w, o, mn) hx hb hr hlocks hAe hP hD hS (Nat.le_of_ble_eq_true rfl) (Nat.le_of_ble_eq_true rfl) h dX3_lays_17
theorem ct_X3_lays (lL : Launch) (G : GE) (p pf pt pw pc po : Nat) (f t w c o : Nat → Int32) (nd rt ex mn a b : Int32) (hp : pr_X3_lays f t w c o nd rt ex mn a b) : CtI lL yX3_lays (ws_ yX3_lays cX3_lays 3 (some .int)) RX3_lays G [.ref p, .int a, .int b] [(p, .inr (0, [.ref pf, .ref pt, .ref pw, .ref pc, .ref po, .int nd, .int rt, .int ex, .int mn])), (pf, .inl (G.2 0, 60, .inl f)), (pt, .inl (G.2 0, 60, .inl t)), (pw, .inl (G.2 0, 16, .inl w)), (pc, .inl (G.2 0, 16, .inl c)), (po, .inl (G.2 1, 60, .inl o))] (fun (rr_ : Int32) (uu_ : (Nat → Int32) × (Nat → Int32) × (Nat → Int32) × (Nat → Int32) × Int32) => ps_X3_lays f t w c o nd rt ex mn a b rr_ uu_.1 uu_.2.1 uu_.2.2.1 uu_.2.2.2.1 uu_.2.2.2.2) (fun (uu_ : (Nat → Int32) × (Nat → Int32) × (Nat → Int32) × (Nat → Int32) × Int32) => [(p, .inr (0, [.ref pf, .ref pt, .ref pw, .ref pc, .ref po, .int nd, .int rt, .int ex, .int uu_.2.2.2.2])), (pf, .inl (G.2 0, 60, .inl uu_.1)), (pt, .inl (G.2 0, 60, .inl uu_.2.1)), (pw, .inl (G.2 0, 16, .inl uu_.2.2.1)), (pc, .inl (G.2 0, 16, .inl c)), (po, .inl (G.2 1, 60, .inl uu_.2.2.2.1))]) :=
  wk_X3_lays lL G p pf pt pw pc po f t w c o nd rt ex mn a b _ (pf_X3_lays f t w c o nd rt ex mn a b hp)
abbrev RX3_turns : Room := ({ frames := 2, cells := 0, slots := 0, locals := 33 } : Room)
set_option maxHeartbeats 4000000 in
set_option maxRecDepth 100000 in
theorem wk_X3_turns (lL : Launch) (G : GE) (p pf pt pw pc po : Nat) (f t w c o : Nat → Int32) (nd rt ex mn k z : Int32) (Q : Int32 → (Nat → Int32) → (Nat → Int32) → Prop) (h : wp_X3_turns f t w c o nd rt ex mn k z Q) : CtI lL yX3_turns (ws_ yX3_turns cX3_turns 3 (some .int)) RX3_turns G [.ref p, .int k, .int z] [(p, .inr (0, [.ref pf, .ref pt, .ref pw, .ref pc, .ref po, .int nd, .int rt, .int ex, .int mn])), (pf, .inl (G.2 0, 60, .inl f)), (pt, .inl (G.2 0, 60, .inl t)), (pw, .inl (G.2 0, 16, .inl w)), (pc, .inl (G.2 0, 16, .inl c)), (po, .inl (G.2 1, 60, .inl o))] (fun (rr_ : Int32) (uu_ : (Nat → Int32) × (Nat → Int32)) => Q rr_ uu_.1 uu_.2) (fun (uu_ : (Nat → Int32) × (Nat → Int32)) => [(p, .inr (0, [.ref pf, .ref pt, .ref pw, .ref pc, .ref po, .int nd, .int rt, .int ex, .int mn])), (pf, .inl (G.2 0, 60, .inl f)), (pt, .inl (G.2 0, 60, .inl t)), (pw, .inl (G.2 0, 16, .inl uu_.1)), (pc, .inl (G.2 0, 16, .inl c)), (po, .inl (G.2 1, 60, .inl uu_.2))]) := by
  refine gx_of (cc := cX3_turns) (maxL := 3) (ret := (some .int)) (by decide) (Nat.le_of_ble_eq_true rfl) ?_
  intro pp eE sS mM ar below meth cC AA ls QQ hx hb hr hml hts hown hlocks hnm hK hAe hQQ hP hD hA hS hl
  have hl : lv_has ls 3 [(0, .ref p), (1, .int k), (2, .int z)] := hl
  refine lv_aload_n hx hb dX3_turns_0 rfl (lv_at hl 0 rfl) ?_
  refine lv_iload_n hx hb dX3_turns_1 rfl (lv_at hl 1 rfl) ?_
  have hPc := hP.sub (ws' := [(p, .inr (0, [.ref pf, .ref pt, .ref pw, .ref pc, .ref po, .int nd, .int rt, .int ex, .int mn])), (pf, .inl (G.2 0, 60, .inl f)), (pt, .inl (G.2 0, 60, .inl t)), (pw, .inl (G.2 0, 16, .inl w)), (pc, .inl (G.2 0, 16, .inl c)), (po, .inl (G.2 1, 60, .inl o))]) [0, 1, 2, 3, 4, 5] rfl
  have hDc := hD.sub (ws' := [(p, .inr (0, [.ref pf, .ref pt, .ref pw, .ref pc, .ref po, .int nd, .int rt, .int ex, .int mn])), (pf, .inl (G.2 0, 60, .inl f)), (pt, .inl (G.2 0, 60, .inl t)), (pw, .inl (G.2 0, 16, .inl w)), (pc, .inl (G.2 0, 16, .inl c)), (po, .inl (G.2 1, 60, .inl o))]) [0, 1, 2, 3, 4, 5] (by decide) rfl
  refine gx_i (G := G) (wc := [(p, .inr (0, [.ref pf, .ref pt, .ref pw, .ref pc, .ref po, .int nd, .int rt, .int ex, .int mn])), (pf, .inl (G.2 0, 60, .inl f)), (pt, .inl (G.2 0, 60, .inl t)), (pw, .inl (G.2 0, 16, .inl w)), (pc, .inl (G.2 0, 16, .inl c)), (po, .inl (G.2 1, 60, .inl o))]) (wr := []) (va_runV (As := [.int k]) (rest := []) ⟨hx, hb, hml, hown, hts⟩ (ct_X3_isArc lL G p pf pt pw pc po f t w c o nd rt ex mn k _) (cwV 1 hts (lw_V q1286 q1287 q1288 q166 q1289) rfl rfl rfl (by decide +kernel) ⟨Nat.le_of_ble_eq_true rfl, Nat.le_of_ble_eq_true rfl⟩) (gx_preV hK hPc hDc 0 0 rfl rfl) rfl rfl hl.1 rfl (lv_room (Nat.le_of_ble_eq_true rfl)) dX3_turns_2 ⟨Nat.le_of_ble_eq_true rfl, Nat.le_of_ble_eq_true rfl⟩) hP hD hS hA [0, 1, 2, 3, 4, 5] [] rfl rfl (by decide) (by decide) (fun r_1 u_1 H locs hw_1 hP hD hS => ?_)
  have hP : va_P G.1 vwCl [(p, .inr (0, [.ref pf, .ref pt, .ref pw, .ref pc, .ref po, .int nd, .int rt, .int ex, .int mn])), (pf, .inl (G.2 0, 60, .inl f)), (pt, .inl (G.2 0, 60, .inl t)), (pw, .inl (G.2 0, 16, .inl w)), (pc, .inl (G.2 0, 16, .inl c)), (po, .inl (G.2 1, 60, .inl o))] H := hP
  have hD : va_D AA [(p, .inr (0, [.ref pf, .ref pt, .ref pw, .ref pc, .ref po, .int nd, .int rt, .int ex, .int mn])), (pf, .inl (G.2 0, 60, .inl f)), (pt, .inl (G.2 0, 60, .inl t)), (pw, .inl (G.2 0, 16, .inl w)), (pc, .inl (G.2 0, 16, .inl c)), (po, .inl (G.2 1, 60, .inl o))] := hD
  replace h := h r_1 hw_1
  refine lv_if_ne (tgt := 10) hx hb dX3_turns_5 (by decide) (fun c_2 => ?_) (fun c_2 => ?_)
  · replace h := h.1 c_2
    refine lv_aload_n hx hb dX3_turns_10 rfl (lv_at hl 0 rfl) ?_
    refine va_get (D := G.1) (ci := 0) (v := .ref po) (C := RX3) (T := TX3) (N := 9) hx hb hts in_X3 hown hK.1 hP 0 rfl rfl 4 (by decide) (hts _ q222) (fun _ h9 => h9) rfl dX3_turns_11 ?_
    refine lv_iload_n hx hb dX3_turns_14 rfl (lv_at hl 1 rfl) ?_
    have b_3 := h.1
    refine va_zald hx hb hK.1 hP 5 1 rfl rfl b_3 dX3_turns_15 ?_
    replace h := h.2
    refine lv_iload_n hx hb dX3_turns_16 rfl (lv_at hl 2 rfl) ?_
    refine lv_icmp_ne (tgt := 22) hx hb dX3_turns_17 (by decide) (fun c_4 => ?_) (fun c_4 => ?_)
    · replace h := h.1 c_4
      refine lv_aload_n hx hb dX3_turns_22 rfl (lv_at hl 0 rfl) ?_
      refine va_get (D := G.1) (ci := 0) (v := .ref po) (C := RX3) (T := TX3) (N := 9) hx hb hts in_X3 hown hK.1 hP 0 rfl rfl 4 (by decide) (hts _ q222) (fun _ h9 => h9) rfl dX3_turns_23 ?_
      refine lv_iload_n hx hb dX3_turns_26 rfl (lv_at hl 1 rfl) ?_
      refine lv_iload_n hx hb dX3_turns_27 rfl (lv_at hl 2 rfl) ?_
      refine va_zast hx hb hK.1 hP hD hS 5 1 rfl rfl b_3 dX3_turns_28 (fun H locs hP hD hS => ?_)
      obtain ⟨u_5, eu_5⟩ : ∃ z__, z__ = upd o k.toNatClampNeg (vp_nar .boolean z) := ⟨_, rfl⟩
      replace h := h u_5 eu_5
      have hP : va_P G.1 vwCl [(p, .inr (0, [.ref pf, .ref pt, .ref pw, .ref pc, .ref po, .int nd, .int rt, .int ex, .int mn])), (pf, .inl (G.2 0, 60, .inl f)), (pt, .inl (G.2 0, 60, .inl t)), (pw, .inl (G.2 0, 16, .inl w)), (pc, .inl (G.2 0, 16, .inl c)), (po, .inl (G.2 1, 60, .inl u_5))] H := by rw [eu_5]; exact hP
      have hD : va_D AA [(p, .inr (0, [.ref pf, .ref pt, .ref pw, .ref pc, .ref po, .int nd, .int rt, .int ex, .int mn])), (pf, .inl (G.2 0, 60, .inl f)), (pt, .inl (G.2 0, 60, .inl t)), (pw, .inl (G.2 0, 16, .inl w)), (pc, .inl (G.2 0, 16, .inl c)), (po, .inl (G.2 1, 60, .inl u_5))] := by rw [eu_5]; exact hD
      refine lv_aload_n hx hb dX3_turns_29 rfl (lv_at hl 0 rfl) ?_
      have hPc := hP.sub (ws' := [(p, .inr (0, [.ref pf, .ref pt, .ref pw, .ref pc, .ref po, .int nd, .int rt, .int ex, .int mn])), (pf, .inl (G.2 0, 60, .inl f)), (pt, .inl (G.2 0, 60, .inl t)), (pw, .inl (G.2 0, 16, .inl w)), (pc, .inl (G.2 0, 16, .inl c)), (po, .inl (G.2 1, 60, .inl u_5))]) [0, 1, 2, 3, 4, 5] rfl
      have hDc := hD.sub (ws' := [(p, .inr (0, [.ref pf, .ref pt, .ref pw, .ref pc, .ref po, .int nd, .int rt, .int ex, .int mn])), (pf, .inl (G.2 0, 60, .inl f)), (pt, .inl (G.2 0, 60, .inl t)), (pw, .inl (G.2 0, 16, .inl w)), (pc, .inl (G.2 0, 16, .inl c)), (po, .inl (G.2 1, 60, .inl u_5))]) [0, 1, 2, 3, 4, 5] (by decide) rfl
      refine gx_v (G := G) (wc := [(p, .inr (0, [.ref pf, .ref pt, .ref pw, .ref pc, .ref po, .int nd, .int rt, .int ex, .int mn])), (pf, .inl (G.2 0, 60, .inl f)), (pt, .inl (G.2 0, 60, .inl t)), (pw, .inl (G.2 0, 16, .inl w)), (pc, .inl (G.2 0, 16, .inl c)), (po, .inl (G.2 1, 60, .inl u_5))]) (wr := []) (va_runV (As := []) (rest := []) ⟨hx, hb, hml, hown, hts⟩ (ct_X3_rows lL G p pf pt pw pc po f t w c u_5 nd rt ex mn h.1 _) (cwV 0 hts (lw_V q460 q462 qs1 q166 q463) rfl rfl rfl (by decide +kernel) ⟨Nat.le_of_ble_eq_true rfl, Nat.le_of_ble_eq_true rfl⟩) (gx_preV hK hPc hDc 0 0 rfl rfl) rfl rfl hl.1 rfl (lv_room (Nat.le_of_ble_eq_true rfl)) dX3_turns_30 ⟨Nat.le_of_ble_eq_true rfl, Nat.le_of_ble_eq_true rfl⟩) hP hD hS hA [0, 1, 2, 3, 4, 5] [] rfl rfl (by decide) (by decide) (fun u_6 H locs hw_6 hP hD hS => ?_)
      replace h := h.2
      obtain ⟨w_6, rfl⟩ : ∃ z__, z__ = u_6 := ⟨_, rfl⟩
      have hP : va_P G.1 vwCl [(p, .inr (0, [.ref pf, .ref pt, .ref pw, .ref pc, .ref po, .int nd, .int rt, .int ex, .int mn])), (pf, .inl (G.2 0, 60, .inl f)), (pt, .inl (G.2 0, 60, .inl t)), (pw, .inl (G.2 0, 16, .inl w_6)), (pc, .inl (G.2 0, 16, .inl c)), (po, .inl (G.2 1, 60, .inl u_5))] H := hP
      have hD : va_D AA [(p, .inr (0, [.ref pf, .ref pt, .ref pw, .ref pc, .ref po, .int nd, .int rt, .int ex, .int mn])), (pf, .inl (G.2 0, 60, .inl f)), (pt, .inl (G.2 0, 60, .inl t)), (pw, .inl (G.2 0, 16, .inl w_6)), (pc, .inl (G.2 0, 16, .inl c)), (po, .inl (G.2 1, 60, .inl u_5))] := hD
      replace h := h w_6 hw_6
      refine lv_iconst (v := 0) hx hb dX3_turns_33 (by decide) ?_
      subst hQQ; exact gx_iret (w_6, u_5) hx hb hr hlocks hAe hP hD hS (Nat.le_of_ble_eq_true rfl) (Nat.le_of_ble_eq_true rfl) h dX3_turns_34
    · replace h := h.2 c_4
      refine lv_iconst (v := 4) hx hb dX3_turns_20 (by decide) ?_
      subst hQQ; exact gx_iret (w, o) hx hb hr hlocks hAe hP hD hS (Nat.le_of_ble_eq_true rfl) (Nat.le_of_ble_eq_true rfl) h dX3_turns_21
  · replace h := h.2 c_2
    refine lv_iconst (v := 3) hx hb dX3_turns_8 (by decide) ?_
    subst hQQ; exact gx_iret (w, o) hx hb hr hlocks hAe hP hD hS (Nat.le_of_ble_eq_true rfl) (Nat.le_of_ble_eq_true rfl) h dX3_turns_9
theorem ct_X3_turns (lL : Launch) (G : GE) (p pf pt pw pc po : Nat) (f t w c o : Nat → Int32) (nd rt ex mn k z : Int32) (hp : pr_X3_turns f t w c o nd rt ex mn k z) : CtI lL yX3_turns (ws_ yX3_turns cX3_turns 3 (some .int)) RX3_turns G [.ref p, .int k, .int z] [(p, .inr (0, [.ref pf, .ref pt, .ref pw, .ref pc, .ref po, .int nd, .int rt, .int ex, .int mn])), (pf, .inl (G.2 0, 60, .inl f)), (pt, .inl (G.2 0, 60, .inl t)), (pw, .inl (G.2 0, 16, .inl w)), (pc, .inl (G.2 0, 16, .inl c)), (po, .inl (G.2 1, 60, .inl o))] (fun (rr_ : Int32) (uu_ : (Nat → Int32) × (Nat → Int32)) => ps_X3_turns f t w c o nd rt ex mn k z rr_ uu_.1 uu_.2) (fun (uu_ : (Nat → Int32) × (Nat → Int32)) => [(p, .inr (0, [.ref pf, .ref pt, .ref pw, .ref pc, .ref po, .int nd, .int rt, .int ex, .int mn])), (pf, .inl (G.2 0, 60, .inl f)), (pt, .inl (G.2 0, 60, .inl t)), (pw, .inl (G.2 0, 16, .inl uu_.1)), (pc, .inl (G.2 0, 16, .inl c)), (po, .inl (G.2 1, 60, .inl uu_.2))]) :=
  wk_X3_turns lL G p pf pt pw pc po f t w c o nd rt ex mn k z _ (pf_X3_turns f t w c o nd rt ex mn k z hp)
abbrev RX5_nodes : Room := ({ frames := 1, cells := 0, slots := 0, locals := 12 } : Room)
set_option maxHeartbeats 4000000 in
set_option maxRecDepth 100000 in
theorem wk_X5_nodes (lL : Launch) (G : GE) (p pk pd pw pv ps : Nat) (kp dp tw wt st : Nat → Int32) (tn tr tre tm ts : Int32) (Q : Int32 → Prop) (h : wp_X5_nodes kp dp tw wt st tn tr tre tm ts Q) : CtI lL yX5_nodes (ws_ yX5_nodes cX5_nodes 1 (some .int)) RX5_nodes G [.ref p] [(p, .inr (1, [.ref pk, .ref pd, .ref pw, .ref pv, .ref ps, .int tn, .int tr, .int tre, .int tm, .int ts])), (pk, .inl (G.2 0, 16, .inl kp)), (pd, .inl (G.2 0, 16, .inl dp)), (pw, .inl (G.2 0, 16, .inl tw)), (pv, .inl (G.2 0, 16, .inl wt)), (ps, .inl (G.2 0, 16, .inl st))] (fun (rr_ : Int32) (uu_ : Unit) => Q rr_ ) (fun (uu_ : Unit) => [(p, .inr (1, [.ref pk, .ref pd, .ref pw, .ref pv, .ref ps, .int tn, .int tr, .int tre, .int tm, .int ts])), (pk, .inl (G.2 0, 16, .inl kp)), (pd, .inl (G.2 0, 16, .inl dp)), (pw, .inl (G.2 0, 16, .inl tw)), (pv, .inl (G.2 0, 16, .inl wt)), (ps, .inl (G.2 0, 16, .inl st))]) := by
  refine gx_of (cc := cX5_nodes) (maxL := 1) (ret := (some .int)) (by decide) (Nat.le_of_ble_eq_true rfl) ?_
  intro pp eE sS mM ar below meth cC AA ls QQ hx hb hr hml hts hown hlocks hnm hK hAe hQQ hP hD hA hS hl
  have hl : lv_has ls 1 [(0, .ref p)] := hl
  refine lv_aload_n hx hb dX5_nodes_0 rfl (lv_at hl 0 rfl) ?_
  refine va_get (D := G.1) (ci := 1) (v := .int tn) (C := RX5) (T := TX5) (N := 10) hx hb hts in_X5 hown hK.1 hP 0 rfl rfl 5 (by decide) (hts _ q379) (fun _ h9 => h9) rfl dX5_nodes_1 ?_
  subst hQQ; exact gx_iret () hx hb hr hlocks hAe hP hD hS (Nat.le_of_ble_eq_true rfl) (Nat.le_of_ble_eq_true rfl) h dX5_nodes_4
theorem ct_X5_nodes (lL : Launch) (G : GE) (p pk pd pw pv ps : Nat) (kp dp tw wt st : Nat → Int32) (tn tr tre tm ts : Int32) : CtI lL yX5_nodes (ws_ yX5_nodes cX5_nodes 1 (some .int)) RX5_nodes G [.ref p] [(p, .inr (1, [.ref pk, .ref pd, .ref pw, .ref pv, .ref ps, .int tn, .int tr, .int tre, .int tm, .int ts])), (pk, .inl (G.2 0, 16, .inl kp)), (pd, .inl (G.2 0, 16, .inl dp)), (pw, .inl (G.2 0, 16, .inl tw)), (pv, .inl (G.2 0, 16, .inl wt)), (ps, .inl (G.2 0, 16, .inl st))] (fun (rr_ : Int32) (uu_ : Unit) => ps_X5_nodes kp dp tw wt st tn tr tre tm ts rr_ ) (fun (uu_ : Unit) => [(p, .inr (1, [.ref pk, .ref pd, .ref pw, .ref pv, .ref ps, .int tn, .int tr, .int tre, .int tm, .int ts])), (pk, .inl (G.2 0, 16, .inl kp)), (pd, .inl (G.2 0, 16, .inl dp)), (pw, .inl (G.2 0, 16, .inl tw)), (pv, .inl (G.2 0, 16, .inl wt)), (ps, .inl (G.2 0, 16, .inl st))]) :=
  wk_X5_nodes lL G p pk pd pw pv ps kp dp tw wt st tn tr tre tm ts _ (pf_X5_nodes kp dp tw wt st tn tr tre tm ts)
abbrev RX5_next : Room := ({ frames := 1, cells := 0, slots := 0, locals := 12 } : Room)
set_option maxHeartbeats 4000000 in
set_option maxRecDepth 100000 in
theorem wk_X5_next (lL : Launch) (G : GE) (p pk pd pw pv ps : Nat) (kp dp tw wt st : Nat → Int32) (tn tr tre tm ts k : Int32) (Q : Int32 → Prop) (h : wp_X5_next kp dp tw wt st tn tr tre tm ts k Q) : CtI lL yX5_next (ws_ yX5_next cX5_next 2 (some .int)) RX5_next G [.ref p, .int k] [(p, .inr (1, [.ref pk, .ref pd, .ref pw, .ref pv, .ref ps, .int tn, .int tr, .int tre, .int tm, .int ts])), (pk, .inl (G.2 0, 16, .inl kp)), (pd, .inl (G.2 0, 16, .inl dp)), (pw, .inl (G.2 0, 16, .inl tw)), (pv, .inl (G.2 0, 16, .inl wt)), (ps, .inl (G.2 0, 16, .inl st))] (fun (rr_ : Int32) (uu_ : Unit) => Q rr_ ) (fun (uu_ : Unit) => [(p, .inr (1, [.ref pk, .ref pd, .ref pw, .ref pv, .ref ps, .int tn, .int tr, .int tre, .int tm, .int ts])), (pk, .inl (G.2 0, 16, .inl kp)), (pd, .inl (G.2 0, 16, .inl dp)), (pw, .inl (G.2 0, 16, .inl tw)), (pv, .inl (G.2 0, 16, .inl wt)), (ps, .inl (G.2 0, 16, .inl st))]) := by
  refine gx_of (cc := cX5_next) (maxL := 2) (ret := (some .int)) (by decide) (Nat.le_of_ble_eq_true rfl) ?_
  intro pp eE sS mM ar below meth cC AA ls QQ hx hb hr hml hts hown hlocks hnm hK hAe hQQ hP hD hA hS hl
  have hl : lv_has ls 2 [(0, .ref p), (1, .int k)] := hl
  refine lv_aload_n hx hb dX5_next_0 rfl (lv_at hl 0 rfl) ?_
  refine va_get (D := G.1) (ci := 1) (v := .ref pw) (C := RX5) (T := TX5) (N := 10) hx hb hts in_X5 hown hK.1 hP 0 rfl rfl 2 (by decide) (hts _ q376) (fun _ h9 => h9) rfl dX5_next_1 ?_
  refine lv_iload_n hx hb dX5_next_4 rfl (lv_at hl 1 rfl) ?_
  have b_1 := h.1
  refine va_iald hx hb hK.1 hP 3 0 rfl rfl b_1 dX5_next_5 ?_
  replace h := h.2
  subst hQQ; exact gx_iret () hx hb hr hlocks hAe hP hD hS (Nat.le_of_ble_eq_true rfl) (Nat.le_of_ble_eq_true rfl) h dX5_next_6
theorem ct_X5_next (lL : Launch) (G : GE) (p pk pd pw pv ps : Nat) (kp dp tw wt st : Nat → Int32) (tn tr tre tm ts k : Int32) (hp : pr_X5_next kp dp tw wt st tn tr tre tm ts k) : CtI lL yX5_next (ws_ yX5_next cX5_next 2 (some .int)) RX5_next G [.ref p, .int k] [(p, .inr (1, [.ref pk, .ref pd, .ref pw, .ref pv, .ref ps, .int tn, .int tr, .int tre, .int tm, .int ts])), (pk, .inl (G.2 0, 16, .inl kp)), (pd, .inl (G.2 0, 16, .inl dp)), (pw, .inl (G.2 0, 16, .inl tw)), (pv, .inl (G.2 0, 16, .inl wt)), (ps, .inl (G.2 0, 16, .inl st))] (fun (rr_ : Int32) (uu_ : Unit) => ps_X5_next kp dp tw wt st tn tr tre tm ts k rr_ ) (fun (uu_ : Unit) => [(p, .inr (1, [.ref pk, .ref pd, .ref pw, .ref pv, .ref ps, .int tn, .int tr, .int tre, .int tm, .int ts])), (pk, .inl (G.2 0, 16, .inl kp)), (pd, .inl (G.2 0, 16, .inl dp)), (pw, .inl (G.2 0, 16, .inl tw)), (pv, .inl (G.2 0, 16, .inl wt)), (ps, .inl (G.2 0, 16, .inl st))]) :=
  wk_X5_next lL G p pk pd pw pv ps kp dp tw wt st tn tr tre tm ts k _ (pf_X5_next kp dp tw wt st tn tr tre tm ts k hp)
abbrev RX8_reach_N : Room := ({ frames := 2, cells := 0, slots := 0, locals := 33 } : Room)
set_option maxHeartbeats 4000000 in
set_option maxRecDepth 100000 in
theorem wk_X8_reach_N (lL : Launch) (G : GE) (p pf pt pw pc po : Nat) (f t w c o : Nat → Int32) (nd rt ex mn fr bu : Int32) (Q : Int32 → Prop) (h : wp_X8_reach_N f t w c o nd rt ex mn fr bu Q) : CtI lL yX8_reach (ws_ yX8_reach cX8_reach 6 (some .int)) RX8_reach_N G [.ref p, .int fr, .int bu] [(p, .inr (0, [.ref pf, .ref pt, .ref pw, .ref pc, .ref po, .int nd, .int rt, .int ex, .int mn])), (pf, .inl (G.2 0, 60, .inl f)), (pt, .inl (G.2 0, 60, .inl t)), (pw, .inl (G.2 0, 16, .inl w)), (pc, .inl (G.2 0, 16, .inl c)), (po, .inl (G.2 1, 60, .inl o))] (fun (rr_ : Int32) (uu_ : Unit) => Q rr_ ) (fun (uu_ : Unit) => [(p, .inr (0, [.ref pf, .ref pt, .ref pw, .ref pc, .ref po, .int nd, .int rt, .int ex, .int mn])), (pf, .inl (G.2 0, 60, .inl f)), (pt, .inl (G.2 0, 60, .inl t)), (pw, .inl (G.2 0, 16, .inl w)), (pc, .inl (G.2 0, 16, .inl c)), (po, .inl (G.2 1, 60, .inl o))]) := by
  refine gx_of (cc := cX8_reach) (maxL := 6) (ret := (some .int)) (by decide) (Nat.le_of_ble_eq_true rfl) ?_
  intro pp eE sS mM ar below meth cC AA ls QQ hx hb hr hml hts hown hlocks hnm hK hAe hQQ hP hD hA hS hl
  have hl : lv_has ls 6 [(0, .ref p), (1, .int fr), (2, .int bu)] := hl
  refine lv_iconst (v := 1) hx hb dX8_reach_0 (by decide) ?_
  refine lv_iload_n hx hb dX8_reach_1 rfl (lv_at hl 1 rfl) ?_
  refine lv_ishl hx hb dX8_reach_2 ?_
  refine lv_istore_n (lv' := [(3, .int (1 <<< (fr &&& 31))), (0, .ref p), (1, .int fr), (2, .int bu)]) hx hb dX8_reach_3 rfl hl (by decide) rfl (fun ls hl => ?_)
  refine lv_iconst (v := 0) hx hb dX8_reach_4 (by decide) ?_
  refine lv_istore (lv' := [(4, .int 0), (3, .int (1 <<< (fr &&& 31))), (0, .ref p), (1, .int fr), (2, .int bu)]) hx hb dX8_reach_5 hl (by decide) rfl (fun ls hl => ?_)
  replace h := h (fun (x3_107 : Int32) => ∀ (H : Heap) (locs : List Loc) (ls : Array Slot), va_P G.1 vwCl [(p, .inr (0, [.ref pf, .ref pt, .ref pw, .ref pc, .ref po, .int nd, .int rt, .int ex, .int mn])), (pf, .inl (G.2 0, 60, .inl f)), (pt, .inl (G.2 0, 60, .inl t)), (pw, .inl (G.2 0, 16, .inl w)), (pc, .inl (G.2 0, 16, .inl c)), (po, .inl (G.2 1, 60, .inl o))] H → va_D AA [(p, .inr (0, [.ref pf, .ref pt, .ref pw, .ref pc, .ref po, .int nd, .int rt, .int ex, .int mn])), (pf, .inl (G.2 0, 60, .inl f)), (pt, .inl (G.2 0, 60, .inl t)), (pw, .inl (G.2 0, 16, .inl w)), (pc, .inl (G.2 0, 16, .inl c)), (po, .inl (G.2 1, 60, .inl o))] → va_S AA sS.heap H locs → lv_has ls 6 [(3, .int x3_107)] → W pp lL eE RX8_reach_N sS mM ar below meth cC H locs 0 0 QQ (F0 mM 63 ls [])) (by
      clear h
      intro x3_107 h H locs ls hP hD hS hl
      refine lv_iload_n hx hb dX8_reach_63 rfl (lv_at hl 0 rfl) ?_
      subst hQQ; exact gx_iret () hx hb hr hlocks hAe hP hD hS (Nat.le_of_ble_eq_true rfl) (Nat.le_of_ble_eq_true rfl) h dX8_reach_64)
  refine h (fun (x4_109 : Int32) (x3_110 : Int32) => ∀ (H : Heap) (locs : List Loc) (ls : Array Slot), va_P G.1 vwCl [(p, .inr (0, [.ref pf, .ref pt, .ref pw, .ref pc, .ref po, .int nd, .int rt, .int ex, .int mn])), (pf, .inl (G.2 0, 60, .inl f)), (pt, .inl (G.2 0, 60, .inl t)), (pw, .inl (G.2 0, 16, .inl w)), (pc, .inl (G.2 0, 16, .inl c)), (po, .inl (G.2 1, 60, .inl o))] H → va_D AA [(p, .inr (0, [.ref pf, .ref pt, .ref pw, .ref pc, .ref po, .int nd, .int rt, .int ex, .int mn])), (pf, .inl (G.2 0, 60, .inl f)), (pt, .inl (G.2 0, 60, .inl t)), (pw, .inl (G.2 0, 16, .inl w)), (pc, .inl (G.2 0, 16, .inl c)), (po, .inl (G.2 1, 60, .inl o))] → va_S AA sS.heap H locs → lv_has ls 6 [(4, .int x4_109), (3, .int x3_110), (0, .ref p), (2, .int bu)] → W pp lL eE RX8_reach_N sS mM ar below meth cC H locs 0 0 QQ (F0 mM 7 ls [])) ?_  _ _ _ hP hD hS (lv_sub hl [0, 1, 2, 4] rfl)
  clear h
  intro x4_109 x3_110 h H locs ls hP hD hS hl
  refine lv_iload hx hb dX8_reach_7 (lv_at hl 0 rfl) ?_
  refine lv_iload_n hx hb dX8_reach_9 rfl (lv_at hl 1 rfl) ?_
  refine lv_icmp_eq (tgt := 63) hx hb dX8_reach_10 (by decide) (fun c_112 => ?_) (fun c_112 => ?_)
  · replace h := h.1 c_112
    exact h _ _ _ hP hD hS (lv_sub hl [1] rfl)
  · replace h := h.2 c_112
    refine lv_iload_n hx hb dX8_reach_13 rfl (lv_at hl 1 rfl) ?_
    refine lv_istore (lv' := [(4, .int x3_110), (3, .int x3_110), (0, .ref p), (2, .int bu)]) hx hb dX8_reach_14 hl (by decide) rfl (fun ls hl => ?_)
    refine lv_iconst (v := 0) hx hb dX8_reach_16 (by decide) ?_
    refine lv_istore (lv' := [(5, .int 0), (4, .int x3_110), (3, .int x3_110), (0, .ref p), (2, .int bu)]) hx hb dX8_reach_17 hl (by decide) rfl (fun ls hl => ?_)
    replace h := h (fun (x3_135 : Int32) => ∀ (H : Heap) (locs : List Loc) (ls : Array Slot), va_P G.1 vwCl [(p, .inr (0, [.ref pf, .ref pt, .ref pw, .ref pc, .ref po, .int nd, .int rt, .int ex, .int mn])), (pf, .inl (G.2 0, 60, .inl f)), (pt, .inl (G.2 0, 60, .inl t)), (pw, .inl (G.2 0, 16, .inl w)), (pc, .inl (G.2 0, 16, .inl c)), (po, .inl (G.2 1, 60, .inl o))] H → va_D AA [(p, .inr (0, [.ref pf, .ref pt, .ref pw, .ref pc, .ref po, .int nd, .int rt, .int ex, .int mn])), (pf, .inl (G.2 0, 60, .inl f)), (pt, .inl (G.2 0, 60, .inl t)), (pw, .inl (G.2 0, 16, .inl w)), (pc, .inl (G.2 0, 16, .inl c)), (po, .inl (G.2 1, 60, .inl o))] → va_S AA sS.heap H locs → lv_has ls 6 [(4, .int x3_110), (3, .int x3_135), (0, .ref p), (2, .int bu)] → W pp lL eE RX8_reach_N sS mM ar below meth cC H locs 0 0 QQ (F0 mM 60 ls [])) (by
        clear h
        intro x3_135 h H locs ls hP hD hS hl
        refine lv_goto (tgt := 7) hx hb dX8_reach_60 (by decide) ?_
        exact h _ _ _ hP hD hS hl)
    refine h (fun (x5_137 : Int32) (x3_138 : Int32) => ∀ (H : Heap) (locs : List Loc) (ls : Array Slot), va_P G.1 vwCl [(p, .inr (0, [.ref pf, .ref pt, .ref pw, .ref pc, .ref po, .int nd, .int rt, .int ex, .int mn])), (pf, .inl (G.2 0, 60, .inl f)), (pt, .inl (G.2 0, 60, .inl t)), (pw, .inl (G.2 0, 16, .inl w)), (pc, .inl (G.2 0, 16, .inl c)), (po, .inl (G.2 1, 60, .inl o))] H → va_D AA [(p, .inr (0, [.ref pf, .ref pt, .ref pw, .ref pc, .ref po, .int nd, .int rt, .int ex, .int mn])), (pf, .inl (G.2 0, 60, .inl f)), (pt, .inl (G.2 0, 60, .inl t)), (pw, .inl (G.2 0, 16, .inl w)), (pc, .inl (G.2 0, 16, .inl c)), (po, .inl (G.2 1, 60, .inl o))] → va_S AA sS.heap H locs → lv_has ls 6 [(5, .int x5_137), (4, .int x3_110), (3, .int x3_138), (0, .ref p), (2, .int bu)] → W pp lL eE RX8_reach_N sS mM ar below meth cC H locs 0 0 QQ (F0 mM 19 ls [])) ?_  _ _ _ hP hD hS hl
    clear h
    intro x5_137 x3_138 h H locs ls hP hD hS hl
    refine lv_iload hx hb dX8_reach_19 (lv_at hl 0 rfl) ?_
    refine lv_aload_n hx hb dX8_reach_21 rfl (lv_at hl 3 rfl) ?_
    have hPc := hP.sub (ws' := [(p, .inr (0, [.ref pf, .ref pt, .ref pw, .ref pc, .ref po, .int nd, .int rt, .int ex, .int mn])), (pf, .inl (G.2 0, 60, .inl f)), (pt, .inl (G.2 0, 60, .inl t)), (pw, .inl (G.2 0, 16, .inl w)), (pc, .inl (G.2 0, 16, .inl c)), (po, .inl (G.2 1, 60, .inl o))]) [0, 1, 2, 3, 4, 5] rfl
    have hDc := hD.sub (ws' := [(p, .inr (0, [.ref pf, .ref pt, .ref pw, .ref pc, .ref po, .int nd, .int rt, .int ex, .int mn])), (pf, .inl (G.2 0, 60, .inl f)), (pt, .inl (G.2 0, 60, .inl t)), (pw, .inl (G.2 0, 16, .inl w)), (pc, .inl (G.2 0, 16, .inl c)), (po, .inl (G.2 1, 60, .inl o))]) [0, 1, 2, 3, 4, 5] (by decide) rfl
    refine gx_Fi (G := G) (wc := [(p, .inr (0, [.ref pf, .ref pt, .ref pw, .ref pc, .ref po, .int nd, .int rt, .int ex, .int mn])), (pf, .inl (G.2 0, 60, .inl f)), (pt, .inl (G.2 0, 60, .inl t)), (pw, .inl (G.2 0, 16, .inl w)), (pc, .inl (G.2 0, 16, .inl c)), (po, .inl (G.2 1, 60, .inl o))]) (wr := []) (va_runF (As := []) (rest := [.int x5_137]) (hK.1.1 0 _ rfl).2 ⟨hx, hb, hml, hown, hts⟩ (ct_X3_nodes lL G p pf pt pw pc po f t w c o nd rt ex mn _) (va_cwF 0 hts (lw_F q477 q481 q483 q166 q485) rfl rfl rfl (hK.2.2.1 ("GateLifter$Net", yF_nodes, yX3_nodes) (by decide)) (by decide +kernel) ⟨Nat.le_of_ble_eq_true rfl, Nat.le_of_ble_eq_true rfl⟩) (gx_preV hK hPc hDc 0 0 rfl rfl) rfl rfl hl.1 rfl (lv_room (Nat.le_of_ble_eq_true rfl)) dX8_reach_22 ⟨Nat.le_of_ble_eq_true rfl, Nat.le_of_ble_eq_true rfl⟩) hP hD hS hA [0, 1, 2, 3, 4, 5] [] rfl rfl (by decide) (by decide) (fun r_140 u_140 H locs hw_140 hP hD hS => ?_)
    have hP : va_P G.1 vwCl [(p, .inr (0, [.ref pf, .ref pt, .ref pw, .ref pc, .ref po, .int nd, .int rt, .int ex, .int mn])), (pf, .inl (G.2 0, 60, .inl f)), (pt, .inl (G.2 0, 60, .inl t)), (pw, .inl (G.2 0, 16, .inl w)), (pc, .inl (G.2 0, 16, .inl c)), (po, .inl (G.2 1, 60, .inl o))] H := hP
    have hD : va_D AA [(p, .inr (0, [.ref pf, .ref pt, .ref pw, .ref pc, .ref po, .int nd, .int rt, .int ex, .int mn])), (pf, .inl (G.2 0, 60, .inl f)), (pt, .inl (G.2 0, 60, .inl t)), (pw, .inl (G.2 0, 16, .inl w)), (pc, .inl (G.2 0, 16, .inl c)), (po, .inl (G.2 1, 60, .inl o))] := hD
    replace h := h r_140 hw_140
    refine lv_icmp_ge (tgt := 60) hx hb dX8_reach_27 (by decide) (fun c_141 => ?_) (fun c_141 => ?_)
    · replace h := h.1 c_141
      exact h _ _ _ hP hD hS (lv_sub hl [1, 2, 3, 4] rfl)
    · replace h := h.2 c_141
      refine lv_iload_n hx hb dX8_reach_30 rfl (lv_at hl 2 rfl) ?_
      refine lv_iload hx hb dX8_reach_31 (lv_at hl 0 rfl) ?_
      have hPc := hP.sub (ws' := []) [] rfl
      have hDc := hD.sub (ws' := []) [] (by decide) rfl
      refine gx_i (G := G) (wc := []) (wr := [(p, .inr (0, [.ref pf, .ref pt, .ref pw, .ref pc, .ref po, .int nd, .int rt, .int ex, .int mn])), (pf, .inl (G.2 0, 60, .inl f)), (pt, .inl (G.2 0, 60, .inl t)), (pw, .inl (G.2 0, 16, .inl w)), (pc, .inl (G.2 0, 16, .inl c)), (po, .inl (G.2 1, 60, .inl o))]) (va_runSN (As := [.int x3_138, .int x5_137]) (rest := []) ⟨hx, hb, hml, hown, hts⟩ (ct_X1_has lL G x3_138 x5_137 _) ⟨va_cnB 2 hts (lw_meth q502) rfl rfl rfl (hK.nw q500 rfl) (hts _ q164) (by decide +kernel) ⟨Nat.le_of_ble_eq_true rfl, Nat.le_of_ble_eq_true rfl⟩, hts _ q501, trivial⟩ (gx_preS hK hPc hDc) rfl rfl hl.1 rfl (lv_room (Nat.le_of_ble_eq_true rfl)) dX8_reach_33 ⟨Nat.le_of_ble_eq_true rfl, Nat.le_of_ble_eq_true rfl⟩) hP hD hS hA [] [0, 1, 2, 3, 4, 5] rfl rfl (by decide) (by decide) (fun r_142 u_142 H locs hw_142 hP hD hS => ?_)
      have hP : va_P G.1 vwCl [(p, .inr (0, [.ref pf, .ref pt, .ref pw, .ref pc, .ref po, .int nd, .int rt, .int ex, .int mn])), (pf, .inl (G.2 0, 60, .inl f)), (pt, .inl (G.2 0, 60, .inl t)), (pw, .inl (G.2 0, 16, .inl w)), (pc, .inl (G.2 0, 16, .inl c)), (po, .inl (G.2 1, 60, .inl o))] H := hP
      have hD : va_D AA [(p, .inr (0, [.ref pf, .ref pt, .ref pw, .ref pc, .ref po, .int nd, .int rt, .int ex, .int mn])), (pf, .inl (G.2 0, 60, .inl f)), (pt, .inl (G.2 0, 60, .inl t)), (pw, .inl (G.2 0, 16, .inl w)), (pc, .inl (G.2 0, 16, .inl c)), (po, .inl (G.2 1, 60, .inl o))] := hD
      replace h := h r_142 hw_142
      refine lv_if_eq (tgt := 54) hx hb dX8_reach_36 (by decide) (fun c_143 => ?_) (fun c_143 => ?_)
      · replace h := h.1 c_143
        refine lv_iinc (v := x5_137 + 1) (lv' := [(5, .int (x5_137 + 1)), (4, .int x3_110), (3, .int x3_138), (0, .ref p), (2, .int bu)]) hx hb dX8_reach_54 hl (k := 0) rfl rfl (by decide) rfl (fun ls hl => ?_)
        refine lv_goto (tgt := 19) hx hb dX8_reach_57 (by decide) ?_
        exact h _ _ _ hP hD hS hl
      · replace h := h.2 c_143
        refine lv_iload_n hx hb dX8_reach_39 rfl (lv_at hl 2 rfl) ?_
        refine lv_aload_n hx hb dX8_reach_40 rfl (lv_at hl 3 rfl) ?_
        refine lv_iload hx hb dX8_reach_41 (lv_at hl 0 rfl) ?_
        have hPc := hP.sub (ws' := [(p, .inr (0, [.ref pf, .ref pt, .ref pw, .ref pc, .ref po, .int nd, .int rt, .int ex, .int mn])), (pf, .inl (G.2 0, 60, .inl f)), (pt, .inl (G.2 0, 60, .inl t)), (pw, .inl (G.2 0, 16, .inl w)), (pc, .inl (G.2 0, 16, .inl c)), (po, .inl (G.2 1, 60, .inl o))]) [0, 1, 2, 3, 4, 5] rfl
        have hDc := hD.sub (ws' := [(p, .inr (0, [.ref pf, .ref pt, .ref pw, .ref pc, .ref po, .int nd, .int rt, .int ex, .int mn])), (pf, .inl (G.2 0, 60, .inl f)), (pt, .inl (G.2 0, 60, .inl t)), (pw, .inl (G.2 0, 16, .inl w)), (pc, .inl (G.2 0, 16, .inl c)), (po, .inl (G.2 1, 60, .inl o))]) [0, 1, 2, 3, 4, 5] (by decide) rfl
        refine gx_Fi (G := G) (wc := [(p, .inr (0, [.ref pf, .ref pt, .ref pw, .ref pc, .ref po, .int nd, .int rt, .int ex, .int mn])), (pf, .inl (G.2 0, 60, .inl f)), (pt, .inl (G.2 0, 60, .inl t)), (pw, .inl (G.2 0, 16, .inl w)), (pc, .inl (G.2 0, 16, .inl c)), (po, .inl (G.2 1, 60, .inl o))]) (wr := []) (va_runF (As := [.int x5_137]) (rest := [.int x3_138]) (hK.1.1 0 _ rfl).2 ⟨hx, hb, hml, hown, hts⟩ (ct_X3_next lL G p pf pt pw pc po f t w c o nd rt ex mn x5_137 h.1 _) (va_cwF 1 hts (lw_F q504 q507 q509 q166 q511) rfl rfl rfl (hK.2.2.1 ("GateLifter$Net", yF_next, yX3_next) (by decide)) (by decide +kernel) ⟨Nat.le_of_ble_eq_true rfl, Nat.le_of_ble_eq_true rfl⟩) (gx_preV hK hPc hDc 0 0 rfl rfl) rfl rfl hl.1 rfl (lv_room (Nat.le_of_ble_eq_true rfl)) dX8_reach_43 ⟨Nat.le_of_ble_eq_true rfl, Nat.le_of_ble_eq_true rfl⟩) hP hD hS hA [0, 1, 2, 3, 4, 5] [] rfl rfl (by decide) (by decide) (fun r_144 u_144 H locs hw_144 hP hD hS => ?_)
        replace h := h.2
        have hP : va_P G.1 vwCl [(p, .inr (0, [.ref pf, .ref pt, .ref pw, .ref pc, .ref po, .int nd, .int rt, .int ex, .int mn])), (pf, .inl (G.2 0, 60, .inl f)), (pt, .inl (G.2 0, 60, .inl t)), (pw, .inl (G.2 0, 16, .inl w)), (pc, .inl (G.2 0, 16, .inl c)), (po, .inl (G.2 1, 60, .inl o))] H := hP
        have hD : va_D AA [(p, .inr (0, [.ref pf, .ref pt, .ref pw, .ref pc, .ref po, .int nd, .int rt, .int ex, .int mn])), (pf, .inl (G.2 0, 60, .inl f)), (pt, .inl (G.2 0, 60, .inl t)), (pw, .inl (G.2 0, 16, .inl w)), (pc, .inl (G.2 0, 16, .inl c)), (po, .inl (G.2 1, 60, .inl o))] := hD
        replace h := h r_144 hw_144
        refine lv_iload_n hx hb dX8_reach_48 rfl (lv_at hl 4 rfl) ?_
        refine lv_iconst (v := (-1)) hx hb dX8_reach_49 (by decide) ?_
        refine lv_ixor hx hb dX8_reach_50 ?_
        refine lv_iand hx hb dX8_reach_51 ?_
        refine lv_ior hx hb dX8_reach_52 ?_
        refine lv_istore_n (lv' := [(3, .int (x3_138 ||| (r_144 &&& (bu ^^^ (-1))))), (5, .int x5_137), (4, .int x3_110), (0, .ref p), (2, .int bu)]) hx hb dX8_reach_53 rfl hl (by decide) rfl (fun ls hl => ?_)
        refine lv_iinc (v := x5_137 + 1) (lv' := [(5, .int (x5_137 + 1)), (3, .int (x3_138 ||| (r_144 &&& (bu ^^^ (-1))))), (4, .int x3_110), (0, .ref p), (2, .int bu)]) hx hb dX8_reach_54 hl (k := 1) rfl rfl (by decide) rfl (fun ls hl => ?_)
        refine lv_goto (tgt := 19) hx hb dX8_reach_57 (by decide) ?_
        exact h _ _ _ hP hD hS (lv_sub hl [0, 2, 1, 3, 4] rfl)
theorem ct_X8_reach_N (lL : Launch) (G : GE) (p pf pt pw pc po : Nat) (f t w c o : Nat → Int32) (nd rt ex mn fr bu : Int32) (hp : pr_X8_reach_N f t w c o nd rt ex mn fr bu) : CtI lL yX8_reach (ws_ yX8_reach cX8_reach 6 (some .int)) RX8_reach_N G [.ref p, .int fr, .int bu] [(p, .inr (0, [.ref pf, .ref pt, .ref pw, .ref pc, .ref po, .int nd, .int rt, .int ex, .int mn])), (pf, .inl (G.2 0, 60, .inl f)), (pt, .inl (G.2 0, 60, .inl t)), (pw, .inl (G.2 0, 16, .inl w)), (pc, .inl (G.2 0, 16, .inl c)), (po, .inl (G.2 1, 60, .inl o))] (fun (rr_ : Int32) (uu_ : Unit) => ps_X8_reach_N f t w c o nd rt ex mn fr bu rr_ ) (fun (uu_ : Unit) => [(p, .inr (0, [.ref pf, .ref pt, .ref pw, .ref pc, .ref po, .int nd, .int rt, .int ex, .int mn])), (pf, .inl (G.2 0, 60, .inl f)), (pt, .inl (G.2 0, 60, .inl t)), (pw, .inl (G.2 0, 16, .inl w)), (pc, .inl (G.2 0, 16, .inl c)), (po, .inl (G.2 1, 60, .inl o))]) :=
  wk_X8_reach_N lL G p pf pt pw pc po f t w c o nd rt ex mn fr bu _ (pf_X8_reach_N f t w c o nd rt ex mn fr bu hp)
abbrev RX8_reach_T : Room := ({ frames := 2, cells := 0, slots := 0, locals := 33 } : Room)
set_option maxHeartbeats 4000000 in
set_option maxRecDepth 100000 in
theorem wk_X8_reach_T (lL : Launch) (G : GE) (p pk pd pw pv ps : Nat) (kp dp tw wt st : Nat → Int32) (tn tr tre tm ts fr bu : Int32) (Q : Int32 → Prop) (h : wp_X8_reach_T kp dp tw wt st tn tr tre tm ts fr bu Q) : CtI lL yX8_reach (ws_ yX8_reach cX8_reach 6 (some .int)) RX8_reach_T G [.ref p, .int fr, .int bu] [(p, .inr (1, [.ref pk, .ref pd, .ref pw, .ref pv, .ref ps, .int tn, .int tr, .int tre, .int tm, .int ts])), (pk, .inl (G.2 0, 16, .inl kp)), (pd, .inl (G.2 0, 16, .inl dp)), (pw, .inl (G.2 0, 16, .inl tw)), (pv, .inl (G.2 0, 16, .inl wt)), (ps, .inl (G.2 0, 16, .inl st))] (fun (rr_ : Int32) (uu_ : Unit) => Q rr_ ) (fun (uu_ : Unit) => [(p, .inr (1, [.ref pk, .ref pd, .ref pw, .ref pv, .ref ps, .int tn, .int tr, .int tre, .int tm, .int ts])), (pk, .inl (G.2 0, 16, .inl kp)), (pd, .inl (G.2 0, 16, .inl dp)), (pw, .inl (G.2 0, 16, .inl tw)), (pv, .inl (G.2 0, 16, .inl wt)), (ps, .inl (G.2 0, 16, .inl st))]) := by
  refine gx_of (cc := cX8_reach) (maxL := 6) (ret := (some .int)) (by decide) (Nat.le_of_ble_eq_true rfl) ?_
  intro pp eE sS mM ar below meth cC AA ls QQ hx hb hr hml hts hown hlocks hnm hK hAe hQQ hP hD hA hS hl
  have hl : lv_has ls 6 [(0, .ref p), (1, .int fr), (2, .int bu)] := hl
  refine lv_iconst (v := 1) hx hb dX8_reach_0 (by decide) ?_
  refine lv_iload_n hx hb dX8_reach_1 rfl (lv_at hl 1 rfl) ?_
  refine lv_ishl hx hb dX8_reach_2 ?_
  refine lv_istore_n (lv' := [(3, .int (1 <<< (fr &&& 31))), (0, .ref p), (1, .int fr), (2, .int bu)]) hx hb dX8_reach_3 rfl hl (by decide) rfl (fun ls hl => ?_)
  refine lv_iconst (v := 0) hx hb dX8_reach_4 (by decide) ?_
  refine lv_istore (lv' := [(4, .int 0), (3, .int (1 <<< (fr &&& 31))), (0, .ref p), (1, .int fr), (2, .int bu)]) hx hb dX8_reach_5 hl (by decide) rfl (fun ls hl => ?_)
  replace h := h (fun (x3_107 : Int32) => ∀ (H : Heap) (locs : List Loc) (ls : Array Slot), va_P G.1 vwCl [(p, .inr (1, [.ref pk, .ref pd, .ref pw, .ref pv, .ref ps, .int tn, .int tr, .int tre, .int tm, .int ts])), (pk, .inl (G.2 0, 16, .inl kp)), (pd, .inl (G.2 0, 16, .inl dp)), (pw, .inl (G.2 0, 16, .inl tw)), (pv, .inl (G.2 0, 16, .inl wt)), (ps, .inl (G.2 0, 16, .inl st))] H → va_D AA [(p, .inr (1, [.ref pk, .ref pd, .ref pw, .ref pv, .ref ps, .int tn, .int tr, .int tre, .int tm, .int ts])), (pk, .inl (G.2 0, 16, .inl kp)), (pd, .inl (G.2 0, 16, .inl dp)), (pw, .inl (G.2 0, 16, .inl tw)), (pv, .inl (G.2 0, 16, .inl wt)), (ps, .inl (G.2 0, 16, .inl st))] → va_S AA sS.heap H locs → lv_has ls 6 [(3, .int x3_107)] → W pp lL eE RX8_reach_T sS mM ar below meth cC H locs 0 0 QQ (F0 mM 63 ls [])) (by
      clear h
      intro x3_107 h H locs ls hP hD hS hl
      refine lv_iload_n hx hb dX8_reach_63 rfl (lv_at hl 0 rfl) ?_
      subst hQQ; exact gx_iret () hx hb hr hlocks hAe hP hD hS (Nat.le_of_ble_eq_true rfl) (Nat.le_of_ble_eq_true rfl) h dX8_reach_64)
  refine h (fun (x4_109 : Int32) (x3_110 : Int32) => ∀ (H : Heap) (locs : List Loc) (ls : Array Slot), va_P G.1 vwCl [(p, .inr (1, [.ref pk, .ref pd, .ref pw, .ref pv, .ref ps, .int tn, .int tr, .int tre, .int tm, .int ts])), (pk, .inl (G.2 0, 16, .inl kp)), (pd, .inl (G.2 0, 16, .inl dp)), (pw, .inl (G.2 0, 16, .inl tw)), (pv, .inl (G.2 0, 16, .inl wt)), (ps, .inl (G.2 0, 16, .inl st))] H → va_D AA [(p, .inr (1, [.ref pk, .ref pd, .ref pw, .ref pv, .ref ps, .int tn, .int tr, .int tre, .int tm, .int ts])), (pk, .inl (G.2 0, 16, .inl kp)), (pd, .inl (G.2 0, 16, .inl dp)), (pw, .inl (G.2 0, 16, .inl tw)), (pv, .inl (G.2 0, 16, .inl wt)), (ps, .inl (G.2 0, 16, .inl st))] → va_S AA sS.heap H locs → lv_has ls 6 [(4, .int x4_109), (3, .int x3_110), (0, .ref p), (2, .int bu)] → W pp lL eE RX8_reach_T sS mM ar below meth cC H locs 0 0 QQ (F0 mM 7 ls [])) ?_  _ _ _ hP hD hS (lv_sub hl [0, 1, 2, 4] rfl)
  clear h
  intro x4_109 x3_110 h H locs ls hP hD hS hl
  refine lv_iload hx hb dX8_reach_7 (lv_at hl 0 rfl) ?_
  refine lv_iload_n hx hb dX8_reach_9 rfl (lv_at hl 1 rfl) ?_
  refine lv_icmp_eq (tgt := 63) hx hb dX8_reach_10 (by decide) (fun c_112 => ?_) (fun c_112 => ?_)
  · replace h := h.1 c_112
    exact h _ _ _ hP hD hS (lv_sub hl [1] rfl)
  · replace h := h.2 c_112
    refine lv_iload_n hx hb dX8_reach_13 rfl (lv_at hl 1 rfl) ?_
    refine lv_istore (lv' := [(4, .int x3_110), (3, .int x3_110), (0, .ref p), (2, .int bu)]) hx hb dX8_reach_14 hl (by decide) rfl (fun ls hl => ?_)
    refine lv_iconst (v := 0) hx hb dX8_reach_16 (by decide) ?_
    refine lv_istore (lv' := [(5, .int 0), (4, .int x3_110), (3, .int x3_110), (0, .ref p), (2, .int bu)]) hx hb dX8_reach_17 hl (by decide) rfl (fun ls hl => ?_)
    replace h := h (fun (x3_135 : Int32) => ∀ (H : Heap) (locs : List Loc) (ls : Array Slot), va_P G.1 vwCl [(p, .inr (1, [.ref pk, .ref pd, .ref pw, .ref pv, .ref ps, .int tn, .int tr, .int tre, .int tm, .int ts])), (pk, .inl (G.2 0, 16, .inl kp)), (pd, .inl (G.2 0, 16, .inl dp)), (pw, .inl (G.2 0, 16, .inl tw)), (pv, .inl (G.2 0, 16, .inl wt)), (ps, .inl (G.2 0, 16, .inl st))] H → va_D AA [(p, .inr (1, [.ref pk, .ref pd, .ref pw, .ref pv, .ref ps, .int tn, .int tr, .int tre, .int tm, .int ts])), (pk, .inl (G.2 0, 16, .inl kp)), (pd, .inl (G.2 0, 16, .inl dp)), (pw, .inl (G.2 0, 16, .inl tw)), (pv, .inl (G.2 0, 16, .inl wt)), (ps, .inl (G.2 0, 16, .inl st))] → va_S AA sS.heap H locs → lv_has ls 6 [(4, .int x3_110), (3, .int x3_135), (0, .ref p), (2, .int bu)] → W pp lL eE RX8_reach_T sS mM ar below meth cC H locs 0 0 QQ (F0 mM 60 ls [])) (by
        clear h
        intro x3_135 h H locs ls hP hD hS hl
        refine lv_goto (tgt := 7) hx hb dX8_reach_60 (by decide) ?_
        exact h _ _ _ hP hD hS hl)
    refine h (fun (x5_137 : Int32) (x3_138 : Int32) => ∀ (H : Heap) (locs : List Loc) (ls : Array Slot), va_P G.1 vwCl [(p, .inr (1, [.ref pk, .ref pd, .ref pw, .ref pv, .ref ps, .int tn, .int tr, .int tre, .int tm, .int ts])), (pk, .inl (G.2 0, 16, .inl kp)), (pd, .inl (G.2 0, 16, .inl dp)), (pw, .inl (G.2 0, 16, .inl tw)), (pv, .inl (G.2 0, 16, .inl wt)), (ps, .inl (G.2 0, 16, .inl st))] H → va_D AA [(p, .inr (1, [.ref pk, .ref pd, .ref pw, .ref pv, .ref ps, .int tn, .int tr, .int tre, .int tm, .int ts])), (pk, .inl (G.2 0, 16, .inl kp)), (pd, .inl (G.2 0, 16, .inl dp)), (pw, .inl (G.2 0, 16, .inl tw)), (pv, .inl (G.2 0, 16, .inl wt)), (ps, .inl (G.2 0, 16, .inl st))] → va_S AA sS.heap H locs → lv_has ls 6 [(5, .int x5_137), (4, .int x3_110), (3, .int x3_138), (0, .ref p), (2, .int bu)] → W pp lL eE RX8_reach_T sS mM ar below meth cC H locs 0 0 QQ (F0 mM 19 ls [])) ?_  _ _ _ hP hD hS hl
    clear h
    intro x5_137 x3_138 h H locs ls hP hD hS hl
    refine lv_iload hx hb dX8_reach_19 (lv_at hl 0 rfl) ?_
    refine lv_aload_n hx hb dX8_reach_21 rfl (lv_at hl 3 rfl) ?_
    have hPc := hP.sub (ws' := [(p, .inr (1, [.ref pk, .ref pd, .ref pw, .ref pv, .ref ps, .int tn, .int tr, .int tre, .int tm, .int ts])), (pk, .inl (G.2 0, 16, .inl kp)), (pd, .inl (G.2 0, 16, .inl dp)), (pw, .inl (G.2 0, 16, .inl tw)), (pv, .inl (G.2 0, 16, .inl wt)), (ps, .inl (G.2 0, 16, .inl st))]) [0, 1, 2, 3, 4, 5] rfl
    have hDc := hD.sub (ws' := [(p, .inr (1, [.ref pk, .ref pd, .ref pw, .ref pv, .ref ps, .int tn, .int tr, .int tre, .int tm, .int ts])), (pk, .inl (G.2 0, 16, .inl kp)), (pd, .inl (G.2 0, 16, .inl dp)), (pw, .inl (G.2 0, 16, .inl tw)), (pv, .inl (G.2 0, 16, .inl wt)), (ps, .inl (G.2 0, 16, .inl st))]) [0, 1, 2, 3, 4, 5] (by decide) rfl
    refine gx_Fi (G := G) (wc := [(p, .inr (1, [.ref pk, .ref pd, .ref pw, .ref pv, .ref ps, .int tn, .int tr, .int tre, .int tm, .int ts])), (pk, .inl (G.2 0, 16, .inl kp)), (pd, .inl (G.2 0, 16, .inl dp)), (pw, .inl (G.2 0, 16, .inl tw)), (pv, .inl (G.2 0, 16, .inl wt)), (ps, .inl (G.2 0, 16, .inl st))]) (wr := []) (va_runF (As := []) (rest := [.int x5_137]) (hK.1.1 1 _ rfl).2 ⟨hx, hb, hml, hown, hts⟩ (ct_X5_nodes lL G p pk pd pw pv ps kp dp tw wt st tn tr tre tm ts _) (va_cwF 0 hts (lw_F q477 q487 q489 q171 q491) rfl rfl rfl (hK.2.2.1 ("GateLifter$Tree", yF_nodes, yX5_nodes) (by decide)) (by decide +kernel) ⟨Nat.le_of_ble_eq_true rfl, Nat.le_of_ble_eq_true rfl⟩) (gx_preV hK hPc hDc 1 0 rfl rfl) rfl rfl hl.1 rfl (lv_room (Nat.le_of_ble_eq_true rfl)) dX8_reach_22 ⟨Nat.le_of_ble_eq_true rfl, Nat.le_of_ble_eq_true rfl⟩) hP hD hS hA [0, 1, 2, 3, 4, 5] [] rfl rfl (by decide) (by decide) (fun r_140 u_140 H locs hw_140 hP hD hS => ?_)
    have hP : va_P G.1 vwCl [(p, .inr (1, [.ref pk, .ref pd, .ref pw, .ref pv, .ref ps, .int tn, .int tr, .int tre, .int tm, .int ts])), (pk, .inl (G.2 0, 16, .inl kp)), (pd, .inl (G.2 0, 16, .inl dp)), (pw, .inl (G.2 0, 16, .inl tw)), (pv, .inl (G.2 0, 16, .inl wt)), (ps, .inl (G.2 0, 16, .inl st))] H := hP
    have hD : va_D AA [(p, .inr (1, [.ref pk, .ref pd, .ref pw, .ref pv, .ref ps, .int tn, .int tr, .int tre, .int tm, .int ts])), (pk, .inl (G.2 0, 16, .inl kp)), (pd, .inl (G.2 0, 16, .inl dp)), (pw, .inl (G.2 0, 16, .inl tw)), (pv, .inl (G.2 0, 16, .inl wt)), (ps, .inl (G.2 0, 16, .inl st))] := hD
    replace h := h r_140 hw_140
    refine lv_icmp_ge (tgt := 60) hx hb dX8_reach_27 (by decide) (fun c_141 => ?_) (fun c_141 => ?_)
    · replace h := h.1 c_141
      exact h _ _ _ hP hD hS (lv_sub hl [1, 2, 3, 4] rfl)
    · replace h := h.2 c_141
      refine lv_iload_n hx hb dX8_reach_30 rfl (lv_at hl 2 rfl) ?_
      refine lv_iload hx hb dX8_reach_31 (lv_at hl 0 rfl) ?_
      have hPc := hP.sub (ws' := []) [] rfl
      have hDc := hD.sub (ws' := []) [] (by decide) rfl
      refine gx_i (G := G) (wc := []) (wr := [(p, .inr (1, [.ref pk, .ref pd, .ref pw, .ref pv, .ref ps, .int tn, .int tr, .int tre, .int tm, .int ts])), (pk, .inl (G.2 0, 16, .inl kp)), (pd, .inl (G.2 0, 16, .inl dp)), (pw, .inl (G.2 0, 16, .inl tw)), (pv, .inl (G.2 0, 16, .inl wt)), (ps, .inl (G.2 0, 16, .inl st))]) (va_runSN (As := [.int x3_138, .int x5_137]) (rest := []) ⟨hx, hb, hml, hown, hts⟩ (ct_X1_has lL G x3_138 x5_137 _) ⟨va_cnB 2 hts (lw_meth q502) rfl rfl rfl (hK.nw q500 rfl) (hts _ q164) (by decide +kernel) ⟨Nat.le_of_ble_eq_true rfl, Nat.le_of_ble_eq_true rfl⟩, hts _ q501, trivial⟩ (gx_preS hK hPc hDc) rfl rfl hl.1 rfl (lv_room (Nat.le_of_ble_eq_true rfl)) dX8_reach_33 ⟨Nat.le_of_ble_eq_true rfl, Nat.le_of_ble_eq_true rfl⟩) hP hD hS hA [] [0, 1, 2, 3, 4, 5] rfl rfl (by decide) (by decide) (fun r_142 u_142 H locs hw_142 hP hD hS => ?_)
      have hP : va_P G.1 vwCl [(p, .inr (1, [.ref pk, .ref pd, .ref pw, .ref pv, .ref ps, .int tn, .int tr, .int tre, .int tm, .int ts])), (pk, .inl (G.2 0, 16, .inl kp)), (pd, .inl (G.2 0, 16, .inl dp)), (pw, .inl (G.2 0, 16, .inl tw)), (pv, .inl (G.2 0, 16, .inl wt)), (ps, .inl (G.2 0, 16, .inl st))] H := hP
      have hD : va_D AA [(p, .inr (1, [.ref pk, .ref pd, .ref pw, .ref pv, .ref ps, .int tn, .int tr, .int tre, .int tm, .int ts])), (pk, .inl (G.2 0, 16, .inl kp)), (pd, .inl (G.2 0, 16, .inl dp)), (pw, .inl (G.2 0, 16, .inl tw)), (pv, .inl (G.2 0, 16, .inl wt)), (ps, .inl (G.2 0, 16, .inl st))] := hD
      replace h := h r_142 hw_142
      refine lv_if_eq (tgt := 54) hx hb dX8_reach_36 (by decide) (fun c_143 => ?_) (fun c_143 => ?_)
      · replace h := h.1 c_143
        refine lv_iinc (v := x5_137 + 1) (lv' := [(5, .int (x5_137 + 1)), (4, .int x3_110), (3, .int x3_138), (0, .ref p), (2, .int bu)]) hx hb dX8_reach_54 hl (k := 0) rfl rfl (by decide) rfl (fun ls hl => ?_)
        refine lv_goto (tgt := 19) hx hb dX8_reach_57 (by decide) ?_
        exact h _ _ _ hP hD hS hl
      · replace h := h.2 c_143
        refine lv_iload_n hx hb dX8_reach_39 rfl (lv_at hl 2 rfl) ?_
        refine lv_aload_n hx hb dX8_reach_40 rfl (lv_at hl 3 rfl) ?_
        refine lv_iload hx hb dX8_reach_41 (lv_at hl 0 rfl) ?_
        have hPc := hP.sub (ws' := [(p, .inr (1, [.ref pk, .ref pd, .ref pw, .ref pv, .ref ps, .int tn, .int tr, .int tre, .int tm, .int ts])), (pk, .inl (G.2 0, 16, .inl kp)), (pd, .inl (G.2 0, 16, .inl dp)), (pw, .inl (G.2 0, 16, .inl tw)), (pv, .inl (G.2 0, 16, .inl wt)), (ps, .inl (G.2 0, 16, .inl st))]) [0, 1, 2, 3, 4, 5] rfl
        have hDc := hD.sub (ws' := [(p, .inr (1, [.ref pk, .ref pd, .ref pw, .ref pv, .ref ps, .int tn, .int tr, .int tre, .int tm, .int ts])), (pk, .inl (G.2 0, 16, .inl kp)), (pd, .inl (G.2 0, 16, .inl dp)), (pw, .inl (G.2 0, 16, .inl tw)), (pv, .inl (G.2 0, 16, .inl wt)), (ps, .inl (G.2 0, 16, .inl st))]) [0, 1, 2, 3, 4, 5] (by decide) rfl
        refine gx_Fi (G := G) (wc := [(p, .inr (1, [.ref pk, .ref pd, .ref pw, .ref pv, .ref ps, .int tn, .int tr, .int tre, .int tm, .int ts])), (pk, .inl (G.2 0, 16, .inl kp)), (pd, .inl (G.2 0, 16, .inl dp)), (pw, .inl (G.2 0, 16, .inl tw)), (pv, .inl (G.2 0, 16, .inl wt)), (ps, .inl (G.2 0, 16, .inl st))]) (wr := []) (va_runF (As := [.int x5_137]) (rest := [.int x3_138]) (hK.1.1 1 _ rfl).2 ⟨hx, hb, hml, hown, hts⟩ (ct_X5_next lL G p pk pd pw pv ps kp dp tw wt st tn tr tre tm ts x5_137 h.1 _) (va_cwF 1 hts (lw_F q504 q512 q514 q171 q516) rfl rfl rfl (hK.2.2.1 ("GateLifter$Tree", yF_next, yX5_next) (by decide)) (by decide +kernel) ⟨Nat.le_of_ble_eq_true rfl, Nat.le_of_ble_eq_true rfl⟩) (gx_preV hK hPc hDc 1 0 rfl rfl) rfl rfl hl.1 rfl (lv_room (Nat.le_of_ble_eq_true rfl)) dX8_reach_43 ⟨Nat.le_of_ble_eq_true rfl, Nat.le_of_ble_eq_true rfl⟩) hP hD hS hA [0, 1, 2, 3, 4, 5] [] rfl rfl (by decide) (by decide) (fun r_144 u_144 H locs hw_144 hP hD hS => ?_)
        replace h := h.2
        have hP : va_P G.1 vwCl [(p, .inr (1, [.ref pk, .ref pd, .ref pw, .ref pv, .ref ps, .int tn, .int tr, .int tre, .int tm, .int ts])), (pk, .inl (G.2 0, 16, .inl kp)), (pd, .inl (G.2 0, 16, .inl dp)), (pw, .inl (G.2 0, 16, .inl tw)), (pv, .inl (G.2 0, 16, .inl wt)), (ps, .inl (G.2 0, 16, .inl st))] H := hP
        have hD : va_D AA [(p, .inr (1, [.ref pk, .ref pd, .ref pw, .ref pv, .ref ps, .int tn, .int tr, .int tre, .int tm, .int ts])), (pk, .inl (G.2 0, 16, .inl kp)), (pd, .inl (G.2 0, 16, .inl dp)), (pw, .inl (G.2 0, 16, .inl tw)), (pv, .inl (G.2 0, 16, .inl wt)), (ps, .inl (G.2 0, 16, .inl st))] := hD
        replace h := h r_144 hw_144
        refine lv_iload_n hx hb dX8_reach_48 rfl (lv_at hl 4 rfl) ?_
        refine lv_iconst (v := (-1)) hx hb dX8_reach_49 (by decide) ?_
        refine lv_ixor hx hb dX8_reach_50 ?_
        refine lv_iand hx hb dX8_reach_51 ?_
        refine lv_ior hx hb dX8_reach_52 ?_
        refine lv_istore_n (lv' := [(3, .int (x3_138 ||| (r_144 &&& (bu ^^^ (-1))))), (5, .int x5_137), (4, .int x3_110), (0, .ref p), (2, .int bu)]) hx hb dX8_reach_53 rfl hl (by decide) rfl (fun ls hl => ?_)
        refine lv_iinc (v := x5_137 + 1) (lv' := [(5, .int (x5_137 + 1)), (3, .int (x3_138 ||| (r_144 &&& (bu ^^^ (-1))))), (4, .int x3_110), (0, .ref p), (2, .int bu)]) hx hb dX8_reach_54 hl (k := 1) rfl rfl (by decide) rfl (fun ls hl => ?_)
        refine lv_goto (tgt := 19) hx hb dX8_reach_57 (by decide) ?_
        exact h _ _ _ hP hD hS (lv_sub hl [0, 2, 1, 3, 4] rfl)
theorem ct_X8_reach_T (lL : Launch) (G : GE) (p pk pd pw pv ps : Nat) (kp dp tw wt st : Nat → Int32) (tn tr tre tm ts fr bu : Int32) (hp : pr_X8_reach_T kp dp tw wt st tn tr tre tm ts fr bu) : CtI lL yX8_reach (ws_ yX8_reach cX8_reach 6 (some .int)) RX8_reach_T G [.ref p, .int fr, .int bu] [(p, .inr (1, [.ref pk, .ref pd, .ref pw, .ref pv, .ref ps, .int tn, .int tr, .int tre, .int tm, .int ts])), (pk, .inl (G.2 0, 16, .inl kp)), (pd, .inl (G.2 0, 16, .inl dp)), (pw, .inl (G.2 0, 16, .inl tw)), (pv, .inl (G.2 0, 16, .inl wt)), (ps, .inl (G.2 0, 16, .inl st))] (fun (rr_ : Int32) (uu_ : Unit) => ps_X8_reach_T kp dp tw wt st tn tr tre tm ts fr bu rr_ ) (fun (uu_ : Unit) => [(p, .inr (1, [.ref pk, .ref pd, .ref pw, .ref pv, .ref ps, .int tn, .int tr, .int tre, .int tm, .int ts])), (pk, .inl (G.2 0, 16, .inl kp)), (pd, .inl (G.2 0, 16, .inl dp)), (pw, .inl (G.2 0, 16, .inl tw)), (pv, .inl (G.2 0, 16, .inl wt)), (ps, .inl (G.2 0, 16, .inl st))]) :=
  wk_X8_reach_T lL G p pk pd pw pv ps kp dp tw wt st tn tr tre tm ts fr bu _ (pf_X8_reach_T kp dp tw wt st tn tr tre tm ts fr bu hp)
