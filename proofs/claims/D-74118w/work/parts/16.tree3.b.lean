set_option linter.all false
/-! tree3: the walks (printed by gen.py) -/
abbrev RX5_visits (dd : Nat) : Room := ({ frames := dd + 2, cells := 0, slots := 0, locals := dd * 24 + 33 } : Room)
theorem RX5_visits_self (dd : Nat) : (RX5_visits dd).frames + 1 ≤ (RX5_visits (dd + 1)).frames ∧ 8 + (5 + 11) + (RX5_visits dd).locals ≤ (RX5_visits (dd + 1)).locals := ⟨by show dd + 2 + 1 ≤ dd + 1 + 2; omega, by show 8 + (5 + 11) + (dd * 24 + 33) ≤ (dd + 1) * 24 + 33; omega⟩
theorem RX5_visits_X1_has (dd : Nat) : RX1_has.frames + 1 ≤ (RX5_visits (dd + 1)).frames ∧ 8 + (2 + 11) + RX1_has.locals ≤ (RX5_visits (dd + 1)).locals := ⟨by show 1 + 1 ≤ dd + 1 + 2; omega, by show 8 + (2 + 11) + 12 ≤ (dd + 1) * 24 + 33; omega⟩
set_option maxHeartbeats 4000000 in
set_option maxRecDepth 100000 in
theorem wk_X5_visits (lL : Launch) (G : GE) (dd : Nat) (ih : ∀ (p pk pd pw pv ps : Nat) (E : Nat → Nat → Prop) (S : Nat → Prop) (d : Nat → Nat) (n b L hi x : Nat) (kp dp tw wt st : Nat → Int32) (tn tr tre tm ts k lev hig : Int32), pr_X5_visits dd E S d n b L hi x kp dp tw wt st tn tr tre tm ts k lev hig → CtV lL yX5_visits (ws_ yX5_visits cX5_visits 5 none) (RX5_visits dd) G [.ref p, .int k, .int lev, .int hig] [(p, .inr (1, [.ref pk, .ref pd, .ref pw, .ref pv, .ref ps, .int tn, .int tr, .int tre, .int tm, .int ts])), (pk, .inl (G.2 0, 16, .inl kp)), (pd, .inl (G.2 0, 16, .inl dp)), (pw, .inl (G.2 0, 16, .inl tw)), (pv, .inl (G.2 0, 16, .inl wt)), (ps, .inl (G.2 0, 16, .inl st))] (fun (uu_ : (Nat → Int32) × Int32 × Int32) => ps_X5_visits E S d n b L hi x kp dp tw wt st tn tr tre tm ts k lev hig uu_.1 uu_.2.1 uu_.2.2) (fun (uu_ : (Nat → Int32) × Int32 × Int32) => [(p, .inr (1, [.ref pk, .ref pd, .ref pw, .ref pv, .ref ps, .int tn, .int tr, .int tre, .int uu_.2.1, .int uu_.2.2])), (pk, .inl (G.2 0, 16, .inl kp)), (pd, .inl (G.2 0, 16, .inl dp)), (pw, .inl (G.2 0, 16, .inl tw)), (pv, .inl (G.2 0, 16, .inl uu_.1)), (ps, .inl (G.2 0, 16, .inl st))])) (p pk pd pw pv ps : Nat) (kp dp tw wt st : Nat → Int32) (tn tr tre tm ts k lev hig : Int32) (Q : (Nat → Int32) → Int32 → Int32 → Prop) (h : wp_X5_visits dd kp dp tw wt st tn tr tre tm ts k lev hig Q) : CtV lL yX5_visits (ws_ yX5_visits cX5_visits 5 none) (RX5_visits (dd + 1)) G [.ref p, .int k, .int lev, .int hig] [(p, .inr (1, [.ref pk, .ref pd, .ref pw, .ref pv, .ref ps, .int tn, .int tr, .int tre, .int tm, .int ts])), (pk, .inl (G.2 0, 16, .inl kp)), (pd, .inl (G.2 0, 16, .inl dp)), (pw, .inl (G.2 0, 16, .inl tw)), (pv, .inl (G.2 0, 16, .inl wt)), (ps, .inl (G.2 0, 16, .inl st))] (fun (uu_ : (Nat → Int32) × Int32 × Int32) => Q uu_.1 uu_.2.1 uu_.2.2) (fun (uu_ : (Nat → Int32) × Int32 × Int32) => [(p, .inr (1, [.ref pk, .ref pd, .ref pw, .ref pv, .ref ps, .int tn, .int tr, .int tre, .int uu_.2.1, .int uu_.2.2])), (pk, .inl (G.2 0, 16, .inl kp)), (pd, .inl (G.2 0, 16, .inl dp)), (pw, .inl (G.2 0, 16, .inl tw)), (pv, .inl (G.2 0, 16, .inl uu_.1)), (ps, .inl (G.2 0, 16, .inl st))]) := by
  refine gx_of (cc := cX5_visits) (maxL := 5) (ret := none) (by decide) (Nat.le_of_ble_eq_true rfl) ?_
  intro pp eE sS mM ar below meth cC AA ls QQ hx hb hr hml hts hown hlocks hnm hK hAe hQQ hP hD hA hS hl
  have hl : lv_has ls 5 [(0, .ref p), (1, .int k), (2, .int lev), (3, .int hig)] := hl
  refine lv_aload_n hx hb dX5_visits_0 rfl (lv_at hl 0 rfl) ?_
  refine lv_dup hx hb dX5_visits_1 rfl ?_
  refine va_get (D := G.1) (ci := 1) (v := .int ts) (C := RX5) (T := TX5) (N := 10) hx hb hts in_X5 hown hK.1 hP 0 rfl rfl 9 (by decide) (hts _ q384) (fun _ h9 => h9) rfl dX5_visits_2 ?_
  refine lv_iconst (v := 1) hx hb dX5_visits_5 (by decide) ?_
  refine lv_iload_n hx hb dX5_visits_6 rfl (lv_at hl 1 rfl) ?_
  refine lv_ishl hx hb dX5_visits_7 ?_
  refine lv_ior hx hb dX5_visits_8 ?_
  refine va_put (D := G.1) (ci := 1) (v := .int (ts ||| (1 <<< (k &&& 31)))) (ty := .int) (C := RX5) (T := TX5) (N := 10) hx hb hts in_X5 tyX5 tyX5_ok nmX5 hown hK.1 hP hD hS 0 rfl rfl 9 (by decide) (hts _ q384) (fun _ h9 => h9) rfl (by decide +kernel) rfl rfl (Nat.le_of_ble_eq_true rfl) dX5_visits_9 (fun H locs hP hD hS => ?_)
  have hP : va_P G.1 vwCl [(p, .inr (1, [.ref pk, .ref pd, .ref pw, .ref pv, .ref ps, .int tn, .int tr, .int tre, .int tm, .int (ts ||| (1 <<< (k &&& 31)))])), (pk, .inl (G.2 0, 16, .inl kp)), (pd, .inl (G.2 0, 16, .inl dp)), (pw, .inl (G.2 0, 16, .inl tw)), (pv, .inl (G.2 0, 16, .inl wt)), (ps, .inl (G.2 0, 16, .inl st))] H := hP
  have hD : va_D AA [(p, .inr (1, [.ref pk, .ref pd, .ref pw, .ref pv, .ref ps, .int tn, .int tr, .int tre, .int tm, .int (ts ||| (1 <<< (k &&& 31)))])), (pk, .inl (G.2 0, 16, .inl kp)), (pd, .inl (G.2 0, 16, .inl dp)), (pw, .inl (G.2 0, 16, .inl tw)), (pv, .inl (G.2 0, 16, .inl wt)), (ps, .inl (G.2 0, 16, .inl st))] := hD
  refine lv_iconst (v := 0) hx hb dX5_visits_12 (by decide) ?_
  refine lv_istore (lv' := [(4, .int 0), (0, .ref p), (1, .int k), (2, .int lev), (3, .int hig)]) hx hb dX5_visits_13 hl (by decide) rfl (fun ls hl => ?_)
  replace h := h (fun (moved_47 : Int32) (seen_48 : Int32) (a_49 : Nat → Int32) => ∀ (H : Heap) (locs : List Loc) (ls : Array Slot), va_P G.1 vwCl [(p, .inr (1, [.ref pk, .ref pd, .ref pw, .ref pv, .ref ps, .int tn, .int tr, .int tre, .int moved_47, .int seen_48])), (pk, .inl (G.2 0, 16, .inl kp)), (pd, .inl (G.2 0, 16, .inl dp)), (pw, .inl (G.2 0, 16, .inl tw)), (pv, .inl (G.2 0, 16, .inl a_49)), (ps, .inl (G.2 0, 16, .inl st))] H → va_D AA [(p, .inr (1, [.ref pk, .ref pd, .ref pw, .ref pv, .ref ps, .int tn, .int tr, .int tre, .int moved_47, .int seen_48])), (pk, .inl (G.2 0, 16, .inl kp)), (pd, .inl (G.2 0, 16, .inl dp)), (pw, .inl (G.2 0, 16, .inl tw)), (pv, .inl (G.2 0, 16, .inl a_49)), (ps, .inl (G.2 0, 16, .inl st))] → va_S AA sS.heap H locs → lv_has ls 5 [] → W pp lL eE (RX5_visits (dd + 1)) sS mM ar below meth cC H locs 0 0 QQ (F0 mM 129 ls [])) (by
      clear h
      intro moved_47 seen_48 a_49 h H locs ls hP hD hS hl
      subst hQQ; exact gx_vret (a_49, moved_47, seen_48) hx hb hr hlocks hAe hP hD hS (Nat.zero_le _) (Nat.zero_le _) h dX5_visits_129)
  refine h (fun (x4_51 : Int32) (moved_52 : Int32) (seen_53 : Int32) (a_54 : Nat → Int32) => ∀ (H : Heap) (locs : List Loc) (ls : Array Slot), va_P G.1 vwCl [(p, .inr (1, [.ref pk, .ref pd, .ref pw, .ref pv, .ref ps, .int tn, .int tr, .int tre, .int moved_52, .int seen_53])), (pk, .inl (G.2 0, 16, .inl kp)), (pd, .inl (G.2 0, 16, .inl dp)), (pw, .inl (G.2 0, 16, .inl tw)), (pv, .inl (G.2 0, 16, .inl a_54)), (ps, .inl (G.2 0, 16, .inl st))] H → va_D AA [(p, .inr (1, [.ref pk, .ref pd, .ref pw, .ref pv, .ref ps, .int tn, .int tr, .int tre, .int moved_52, .int seen_53])), (pk, .inl (G.2 0, 16, .inl kp)), (pd, .inl (G.2 0, 16, .inl dp)), (pw, .inl (G.2 0, 16, .inl tw)), (pv, .inl (G.2 0, 16, .inl a_54)), (ps, .inl (G.2 0, 16, .inl st))] → va_S AA sS.heap H locs → lv_has ls 5 [(4, .int x4_51), (0, .ref p), (1, .int k), (2, .int lev), (3, .int hig)] → W pp lL eE (RX5_visits (dd + 1)) sS mM ar below meth cC H locs 0 0 QQ (F0 mM 15 ls [])) ?_  _ _ _ hP hD hS hl
  clear h
  intro x4_51 moved_52 seen_53 a_54 h H locs ls hP hD hS hl
  refine lv_iload hx hb dX5_visits_15 (lv_at hl 0 rfl) ?_
  refine lv_aload_n hx hb dX5_visits_17 rfl (lv_at hl 1 rfl) ?_
  refine va_get (D := G.1) (ci := 1) (v := .int tn) (C := RX5) (T := TX5) (N := 10) hx hb hts in_X5 hown hK.1 hP 0 rfl rfl 5 (by decide) (hts _ q379) (fun _ h9 => h9) rfl dX5_visits_18 ?_
  refine lv_icmp_ge (tgt := 129) hx hb dX5_visits_21 (by decide) (fun c_56 => ?_) (fun c_56 => ?_)
  · replace h := h.1 c_56
    exact h _ _ _ hP hD hS (lv_sub hl [] rfl)
  · replace h := h.2 c_56
    refine lv_aload_n hx hb dX5_visits_24 rfl (lv_at hl 1 rfl) ?_
    refine va_get (D := G.1) (ci := 1) (v := .ref pw) (C := RX5) (T := TX5) (N := 10) hx hb hts in_X5 hown hK.1 hP 0 rfl rfl 2 (by decide) (hts _ q376) (fun _ h9 => h9) rfl dX5_visits_25 ?_
    refine lv_iload_n hx hb dX5_visits_28 rfl (lv_at hl 2 rfl) ?_
    have b_57 := h.1
    refine va_iald hx hb hK.1 hP 3 0 rfl rfl b_57 dX5_visits_29 ?_
    replace h := h.2
    refine lv_iload hx hb dX5_visits_30 (lv_at hl 0 rfl) ?_
    have hPc := hP.sub (ws' := []) [] rfl
    have hDc := hD.sub (ws' := []) [] (by decide) rfl
    refine gx_i (G := G) (wc := []) (wr := [(p, .inr (1, [.ref pk, .ref pd, .ref pw, .ref pv, .ref ps, .int tn, .int tr, .int tre, .int moved_52, .int seen_53])), (pk, .inl (G.2 0, 16, .inl kp)), (pd, .inl (G.2 0, 16, .inl dp)), (pw, .inl (G.2 0, 16, .inl tw)), (pv, .inl (G.2 0, 16, .inl a_54)), (ps, .inl (G.2 0, 16, .inl st))]) (va_runSN (As := [.int (tw k.toNatClampNeg), .int x4_51]) (rest := []) ⟨hx, hb, hml, hown, hts⟩ (ct_X1_has lL G (tw k.toNatClampNeg) x4_51 _) ⟨va_cnB 2 hts (lw_meth q502) rfl rfl rfl (hK.nw q537 rfl) (hts _ q164) (by decide +kernel) (RX5_visits_X1_has dd), hts _ q501, trivial⟩ (gx_preS hK hPc hDc) rfl rfl hl.1 rfl (lv_room (Nat.le_of_ble_eq_true rfl)) dX5_visits_32 ⟨Nat.zero_le _, Nat.zero_le _⟩) hP hD hS hA [] [0, 1, 2, 3, 4, 5] rfl rfl (by decide) (by decide) (fun r_58 u_58 H locs hw_58 hP hD hS => ?_)
    have hP : va_P G.1 vwCl [(p, .inr (1, [.ref pk, .ref pd, .ref pw, .ref pv, .ref ps, .int tn, .int tr, .int tre, .int moved_52, .int seen_53])), (pk, .inl (G.2 0, 16, .inl kp)), (pd, .inl (G.2 0, 16, .inl dp)), (pw, .inl (G.2 0, 16, .inl tw)), (pv, .inl (G.2 0, 16, .inl a_54)), (ps, .inl (G.2 0, 16, .inl st))] H := hP
    have hD : va_D AA [(p, .inr (1, [.ref pk, .ref pd, .ref pw, .ref pv, .ref ps, .int tn, .int tr, .int tre, .int moved_52, .int seen_53])), (pk, .inl (G.2 0, 16, .inl kp)), (pd, .inl (G.2 0, 16, .inl dp)), (pw, .inl (G.2 0, 16, .inl tw)), (pv, .inl (G.2 0, 16, .inl a_54)), (ps, .inl (G.2 0, 16, .inl st))] := hD
    replace h := h r_58 hw_58
    refine lv_if_eq (tgt := 123) hx hb dX5_visits_35 (by decide) (fun c_59 => ?_) (fun c_59 => ?_)
    · replace h := h.1 c_59
      refine lv_iinc (v := x4_51 + 1) (lv' := [(4, .int (x4_51 + 1)), (0, .ref p), (1, .int k), (2, .int lev), (3, .int hig)]) hx hb dX5_visits_123 hl (k := 0) rfl rfl (by decide) rfl (fun ls hl => ?_)
      refine lv_goto (tgt := 15) hx hb dX5_visits_126 (by decide) ?_
      exact h _ _ _ hP hD hS hl
    · replace h := h.2 c_59
      refine lv_aload_n hx hb dX5_visits_38 rfl (lv_at hl 1 rfl) ?_
      refine va_get (D := G.1) (ci := 1) (v := .int seen_53) (C := RX5) (T := TX5) (N := 10) hx hb hts in_X5 hown hK.1 hP 0 rfl rfl 9 (by decide) (hts _ q384) (fun _ h9 => h9) rfl dX5_visits_39 ?_
      refine lv_aload_n hx hb dX5_visits_42 rfl (lv_at hl 1 rfl) ?_
      refine va_get (D := G.1) (ci := 1) (v := .int moved_52) (C := RX5) (T := TX5) (N := 10) hx hb hts in_X5 hown hK.1 hP 0 rfl rfl 8 (by decide) (hts _ q383) (fun _ h9 => h9) rfl dX5_visits_43 ?_
      refine lv_ior hx hb dX5_visits_46 ?_
      refine lv_iload hx hb dX5_visits_47 (lv_at hl 0 rfl) ?_
      have hPc := hP.sub (ws' := []) [] rfl
      have hDc := hD.sub (ws' := []) [] (by decide) rfl
      refine gx_i (G := G) (wc := []) (wr := [(p, .inr (1, [.ref pk, .ref pd, .ref pw, .ref pv, .ref ps, .int tn, .int tr, .int tre, .int moved_52, .int seen_53])), (pk, .inl (G.2 0, 16, .inl kp)), (pd, .inl (G.2 0, 16, .inl dp)), (pw, .inl (G.2 0, 16, .inl tw)), (pv, .inl (G.2 0, 16, .inl a_54)), (ps, .inl (G.2 0, 16, .inl st))]) (va_runSN (As := [.int (seen_53 ||| moved_52), .int x4_51]) (rest := []) ⟨hx, hb, hml, hown, hts⟩ (ct_X1_has lL G (seen_53 ||| moved_52) x4_51 _) ⟨va_cnB 2 hts (lw_meth q502) rfl rfl rfl (hK.nw q537 rfl) (hts _ q164) (by decide +kernel) (RX5_visits_X1_has dd), hts _ q501, trivial⟩ (gx_preS hK hPc hDc) rfl rfl hl.1 rfl (lv_room (Nat.le_of_ble_eq_true rfl)) dX5_visits_49 ⟨Nat.zero_le _, Nat.zero_le _⟩) hP hD hS hA [] [0, 1, 2, 3, 4, 5] rfl rfl (by decide) (by decide) (fun r_60 u_60 H locs hw_60 hP hD hS => ?_)
      have hP : va_P G.1 vwCl [(p, .inr (1, [.ref pk, .ref pd, .ref pw, .ref pv, .ref ps, .int tn, .int tr, .int tre, .int moved_52, .int seen_53])), (pk, .inl (G.2 0, 16, .inl kp)), (pd, .inl (G.2 0, 16, .inl dp)), (pw, .inl (G.2 0, 16, .inl tw)), (pv, .inl (G.2 0, 16, .inl a_54)), (ps, .inl (G.2 0, 16, .inl st))] H := hP
      have hD : va_D AA [(p, .inr (1, [.ref pk, .ref pd, .ref pw, .ref pv, .ref ps, .int tn, .int tr, .int tre, .int moved_52, .int seen_53])), (pk, .inl (G.2 0, 16, .inl kp)), (pd, .inl (G.2 0, 16, .inl dp)), (pw, .inl (G.2 0, 16, .inl tw)), (pv, .inl (G.2 0, 16, .inl a_54)), (ps, .inl (G.2 0, 16, .inl st))] := hD
      replace h := h r_60 hw_60
      refine lv_if_ne (tgt := 123) hx hb dX5_visits_52 (by decide) (fun c_61 => ?_) (fun c_61 => ?_)
      · replace h := h.1 c_61
        refine lv_iinc (v := x4_51 + 1) (lv' := [(4, .int (x4_51 + 1)), (0, .ref p), (1, .int k), (2, .int lev), (3, .int hig)]) hx hb dX5_visits_123 hl (k := 0) rfl rfl (by decide) rfl (fun ls hl => ?_)
        refine lv_goto (tgt := 15) hx hb dX5_visits_126 (by decide) ?_
        exact h _ _ _ hP hD hS hl
      · replace h := h.2 c_61
        refine lv_aload_n hx hb dX5_visits_55 rfl (lv_at hl 1 rfl) ?_
        refine va_get (D := G.1) (ci := 1) (v := .ref pd) (C := RX5) (T := TX5) (N := 10) hx hb hts in_X5 hown hK.1 hP 0 rfl rfl 1 (by decide) (hts _ q374) (fun _ h9 => h9) rfl dX5_visits_56 ?_
        refine lv_iload hx hb dX5_visits_59 (lv_at hl 0 rfl) ?_
        have b_62 := h.1
        refine va_iald hx hb hK.1 hP 2 0 rfl rfl b_62 dX5_visits_61 ?_
        replace h := h.2
        refine lv_iload_n hx hb dX5_visits_62 rfl (lv_at hl 4 rfl) ?_
        refine lv_icmp_gt (tgt := 69) hx hb dX5_visits_63 (by decide) (fun c_63 => ?_) (fun c_63 => ?_)
        · replace h := h.1 c_63
          refine lv_aload_n hx hb dX5_visits_69 rfl (lv_at hl 1 rfl) ?_
          refine va_get (D := G.1) (ci := 1) (v := .ref pd) (C := RX5) (T := TX5) (N := 10) hx hb hts in_X5 hown hK.1 hP 0 rfl rfl 1 (by decide) (hts _ q374) (fun _ h9 => h9) rfl dX5_visits_70 ?_
          refine lv_iload hx hb dX5_visits_73 (lv_at hl 0 rfl) ?_
          refine va_iald hx hb hK.1 hP 2 0 rfl rfl b_62 dX5_visits_75 ?_
          refine lv_iload_n hx hb dX5_visits_76 rfl (lv_at hl 3 rfl) ?_
          refine lv_icmp_le (tgt := 91) hx hb dX5_visits_77 (by decide) (fun c_64 => ?_) (fun c_64 => ?_)
          · replace h := h.1 c_64
            refine lv_aload_n hx hb dX5_visits_91 rfl (lv_at hl 1 rfl) ?_
            refine lv_dup hx hb dX5_visits_92 rfl ?_
            refine va_get (D := G.1) (ci := 1) (v := .int moved_52) (C := RX5) (T := TX5) (N := 10) hx hb hts in_X5 hown hK.1 hP 0 rfl rfl 8 (by decide) (hts _ q383) (fun _ h9 => h9) rfl dX5_visits_93 ?_
            refine lv_iconst (v := 1) hx hb dX5_visits_96 (by decide) ?_
            refine lv_iload hx hb dX5_visits_97 (lv_at hl 0 rfl) ?_
            refine lv_ishl hx hb dX5_visits_99 ?_
            refine lv_ior hx hb dX5_visits_100 ?_
            refine va_put (D := G.1) (ci := 1) (v := .int (moved_52 ||| (1 <<< (x4_51 &&& 31)))) (ty := .int) (C := RX5) (T := TX5) (N := 10) hx hb hts in_X5 tyX5 tyX5_ok nmX5 hown hK.1 hP hD hS 0 rfl rfl 8 (by decide) (hts _ q383) (fun _ h9 => h9) rfl (by decide +kernel) rfl rfl (Nat.le_of_ble_eq_true rfl) dX5_visits_101 (fun H locs hP hD hS => ?_)
            have hP : va_P G.1 vwCl [(p, .inr (1, [.ref pk, .ref pd, .ref pw, .ref pv, .ref ps, .int tn, .int tr, .int tre, .int (moved_52 ||| (1 <<< (x4_51 &&& 31))), .int seen_53])), (pk, .inl (G.2 0, 16, .inl kp)), (pd, .inl (G.2 0, 16, .inl dp)), (pw, .inl (G.2 0, 16, .inl tw)), (pv, .inl (G.2 0, 16, .inl a_54)), (ps, .inl (G.2 0, 16, .inl st))] H := hP
            have hD : va_D AA [(p, .inr (1, [.ref pk, .ref pd, .ref pw, .ref pv, .ref ps, .int tn, .int tr, .int tre, .int (moved_52 ||| (1 <<< (x4_51 &&& 31))), .int seen_53])), (pk, .inl (G.2 0, 16, .inl kp)), (pd, .inl (G.2 0, 16, .inl dp)), (pw, .inl (G.2 0, 16, .inl tw)), (pv, .inl (G.2 0, 16, .inl a_54)), (ps, .inl (G.2 0, 16, .inl st))] := hD
            refine lv_aload_n hx hb dX5_visits_104 rfl (lv_at hl 1 rfl) ?_
            refine va_get (D := G.1) (ci := 1) (v := .ref pv) (C := RX5) (T := TX5) (N := 10) hx hb hts in_X5 hown hK.1 hP 0 rfl rfl 3 (by decide) (hts _ q377) (fun _ h9 => h9) rfl dX5_visits_105 ?_
            refine lv_aload_n hx hb dX5_visits_108 rfl (lv_at hl 1 rfl) ?_
            refine va_get (D := G.1) (ci := 1) (v := .ref pd) (C := RX5) (T := TX5) (N := 10) hx hb hts in_X5 hown hK.1 hP 0 rfl rfl 1 (by decide) (hts _ q374) (fun _ h9 => h9) rfl dX5_visits_109 ?_
            refine lv_iload hx hb dX5_visits_112 (lv_at hl 0 rfl) ?_
            refine va_iald hx hb hK.1 hP 2 0 rfl rfl b_62 dX5_visits_114 ?_
            refine lv_dup2_11 hx hb dX5_visits_115 rfl rfl ?_
            have b_65 := h.1
            refine va_iald hx hb hK.1 hP 4 0 rfl rfl b_65 dX5_visits_116 ?_
            replace h := h.2
            refine lv_iconst (v := 1) hx hb dX5_visits_117 (by decide) ?_
            refine lv_iload hx hb dX5_visits_118 (lv_at hl 0 rfl) ?_
            refine lv_ishl hx hb dX5_visits_120 ?_
            refine lv_ior hx hb dX5_visits_121 ?_
            refine va_iast hx hb hK.1 hP hD hS 4 0 rfl rfl b_65 dX5_visits_122 (fun H locs hP hD hS => ?_)
            obtain ⟨u_66, eu_66⟩ : ∃ z__, z__ = upd a_54 (dp x4_51.toNatClampNeg).toNatClampNeg ((a_54 (dp x4_51.toNatClampNeg).toNatClampNeg) ||| (1 <<< (x4_51 &&& 31))) := ⟨_, rfl⟩
            replace h := h u_66 eu_66
            have hP : va_P G.1 vwCl [(p, .inr (1, [.ref pk, .ref pd, .ref pw, .ref pv, .ref ps, .int tn, .int tr, .int tre, .int (moved_52 ||| (1 <<< (x4_51 &&& 31))), .int seen_53])), (pk, .inl (G.2 0, 16, .inl kp)), (pd, .inl (G.2 0, 16, .inl dp)), (pw, .inl (G.2 0, 16, .inl tw)), (pv, .inl (G.2 0, 16, .inl u_66)), (ps, .inl (G.2 0, 16, .inl st))] H := by rw [eu_66]; exact hP
            have hD : va_D AA [(p, .inr (1, [.ref pk, .ref pd, .ref pw, .ref pv, .ref ps, .int tn, .int tr, .int tre, .int (moved_52 ||| (1 <<< (x4_51 &&& 31))), .int seen_53])), (pk, .inl (G.2 0, 16, .inl kp)), (pd, .inl (G.2 0, 16, .inl dp)), (pw, .inl (G.2 0, 16, .inl tw)), (pv, .inl (G.2 0, 16, .inl u_66)), (ps, .inl (G.2 0, 16, .inl st))] := by rw [eu_66]; exact hD
            refine lv_iinc (v := x4_51 + 1) (lv' := [(4, .int (x4_51 + 1)), (0, .ref p), (1, .int k), (2, .int lev), (3, .int hig)]) hx hb dX5_visits_123 hl (k := 0) rfl rfl (by decide) rfl (fun ls hl => ?_)
            refine lv_goto (tgt := 15) hx hb dX5_visits_126 (by decide) ?_
            exact h _ _ _ hP hD hS hl
          · replace h := h.2 c_64
            refine lv_aload_n hx hb dX5_visits_80 rfl (lv_at hl 1 rfl) ?_
            refine lv_iload hx hb dX5_visits_81 (lv_at hl 0 rfl) ?_
            refine lv_iload_n hx hb dX5_visits_83 rfl (lv_at hl 3 rfl) ?_
            refine lv_iload_n hx hb dX5_visits_84 rfl (lv_at hl 4 rfl) ?_
            obtain ⟨E_67, S_67, d_67, n_67, b_67, L_67, hi_67, x_67, h⟩ := h
            have hPc := hP.sub (ws' := [(p, .inr (1, [.ref pk, .ref pd, .ref pw, .ref pv, .ref ps, .int tn, .int tr, .int tre, .int moved_52, .int seen_53])), (pk, .inl (G.2 0, 16, .inl kp)), (pd, .inl (G.2 0, 16, .inl dp)), (pw, .inl (G.2 0, 16, .inl tw)), (pv, .inl (G.2 0, 16, .inl a_54)), (ps, .inl (G.2 0, 16, .inl st))]) [0, 1, 2, 3, 4, 5] rfl
            have hDc := hD.sub (ws' := [(p, .inr (1, [.ref pk, .ref pd, .ref pw, .ref pv, .ref ps, .int tn, .int tr, .int tre, .int moved_52, .int seen_53])), (pk, .inl (G.2 0, 16, .inl kp)), (pd, .inl (G.2 0, 16, .inl dp)), (pw, .inl (G.2 0, 16, .inl tw)), (pv, .inl (G.2 0, 16, .inl a_54)), (ps, .inl (G.2 0, 16, .inl st))]) [0, 1, 2, 3, 4, 5] (by decide) rfl
            refine gx_v (G := G) (wc := [(p, .inr (1, [.ref pk, .ref pd, .ref pw, .ref pv, .ref ps, .int tn, .int tr, .int tre, .int moved_52, .int seen_53])), (pk, .inl (G.2 0, 16, .inl kp)), (pd, .inl (G.2 0, 16, .inl dp)), (pw, .inl (G.2 0, 16, .inl tw)), (pv, .inl (G.2 0, 16, .inl a_54)), (ps, .inl (G.2 0, 16, .inl st))]) (wr := []) (va_runV (As := [.int x4_51, .int lev, .int hig]) (rest := []) ⟨hx, hb, hml, hown, hts⟩ (ih p pk pd pw pv ps E_67 S_67 d_67 n_67 b_67 L_67 hi_67 x_67 kp dp tw a_54 st tn tr tre moved_52 seen_53 x4_51 lev hig h.1 _) (cwV 3 hts (lw_V q1381 q1383 qs60 q171 q1384) rfl rfl rfl (by decide +kernel) (RX5_visits_self dd)) (gx_preV hK hPc hDc 1 0 rfl rfl) rfl rfl hl.1 rfl (lv_room (Nat.le_of_ble_eq_true rfl)) dX5_visits_85 ⟨Nat.zero_le _, Nat.zero_le _⟩) hP hD hS hA [0, 1, 2, 3, 4, 5] [] rfl rfl (by decide) (by decide) (fun u_67 H locs hw_67 hP hD hS => ?_)
            replace h := h.2
            obtain ⟨wt_67, tm_67, ts_67⟩ := u_67
            have hP : va_P G.1 vwCl [(p, .inr (1, [.ref pk, .ref pd, .ref pw, .ref pv, .ref ps, .int tn, .int tr, .int tre, .int tm_67, .int ts_67])), (pk, .inl (G.2 0, 16, .inl kp)), (pd, .inl (G.2 0, 16, .inl dp)), (pw, .inl (G.2 0, 16, .inl tw)), (pv, .inl (G.2 0, 16, .inl wt_67)), (ps, .inl (G.2 0, 16, .inl st))] H := hP
            have hD : va_D AA [(p, .inr (1, [.ref pk, .ref pd, .ref pw, .ref pv, .ref ps, .int tn, .int tr, .int tre, .int tm_67, .int ts_67])), (pk, .inl (G.2 0, 16, .inl kp)), (pd, .inl (G.2 0, 16, .inl dp)), (pw, .inl (G.2 0, 16, .inl tw)), (pv, .inl (G.2 0, 16, .inl wt_67)), (ps, .inl (G.2 0, 16, .inl st))] := hD
            replace h := h wt_67 tm_67 ts_67 hw_67
            refine lv_goto (tgt := 123) hx hb dX5_visits_88 (by decide) ?_
            refine lv_iinc (v := x4_51 + 1) (lv' := [(4, .int (x4_51 + 1)), (0, .ref p), (1, .int k), (2, .int lev), (3, .int hig)]) hx hb dX5_visits_123 hl (k := 0) rfl rfl (by decide) rfl (fun ls hl => ?_)
            refine lv_goto (tgt := 15) hx hb dX5_visits_126 (by decide) ?_
            exact h _ _ _ hP hD hS hl
        · replace h := h.2 c_63
          refine lv_goto (tgt := 123) hx hb dX5_visits_66 (by decide) ?_
          refine lv_iinc (v := x4_51 + 1) (lv' := [(4, .int (x4_51 + 1)), (0, .ref p), (1, .int k), (2, .int lev), (3, .int hig)]) hx hb dX5_visits_123 hl (k := 0) rfl rfl (by decide) rfl (fun ls hl => ?_)
          refine lv_goto (tgt := 15) hx hb dX5_visits_126 (by decide) ?_
          exact h _ _ _ hP hD hS hl
theorem ct_X5_visits (lL : Launch) (G : GE) : ∀ (dd : Nat) (p pk pd pw pv ps : Nat) (E : Nat → Nat → Prop) (S : Nat → Prop) (d : Nat → Nat) (n b L hi x : Nat) (kp dp tw wt st : Nat → Int32) (tn tr tre tm ts k lev hig : Int32) (hp : pr_X5_visits dd E S d n b L hi x kp dp tw wt st tn tr tre tm ts k lev hig), CtV lL yX5_visits (ws_ yX5_visits cX5_visits 5 none) (RX5_visits dd) G [.ref p, .int k, .int lev, .int hig] [(p, .inr (1, [.ref pk, .ref pd, .ref pw, .ref pv, .ref ps, .int tn, .int tr, .int tre, .int tm, .int ts])), (pk, .inl (G.2 0, 16, .inl kp)), (pd, .inl (G.2 0, 16, .inl dp)), (pw, .inl (G.2 0, 16, .inl tw)), (pv, .inl (G.2 0, 16, .inl wt)), (ps, .inl (G.2 0, 16, .inl st))] (fun (uu_ : (Nat → Int32) × Int32 × Int32) => ps_X5_visits E S d n b L hi x kp dp tw wt st tn tr tre tm ts k lev hig uu_.1 uu_.2.1 uu_.2.2) (fun (uu_ : (Nat → Int32) × Int32 × Int32) => [(p, .inr (1, [.ref pk, .ref pd, .ref pw, .ref pv, .ref ps, .int tn, .int tr, .int tre, .int uu_.2.1, .int uu_.2.2])), (pk, .inl (G.2 0, 16, .inl kp)), (pd, .inl (G.2 0, 16, .inl dp)), (pw, .inl (G.2 0, 16, .inl tw)), (pv, .inl (G.2 0, 16, .inl uu_.1)), (ps, .inl (G.2 0, 16, .inl st))]) := by
  intro dd
  induction dd with
  | zero => intro p pk pd pw pv ps E S d n b L hi x kp dp tw wt st tn tr tre tm ts k lev hig hp; exact absurd hp (pz_X5_visits E S d n b L hi x kp dp tw wt st tn tr tre tm ts k lev hig)
  | succ dd ih => intro p pk pd pw pv ps E S d n b L hi x kp dp tw wt st tn tr tre tm ts k lev hig hp; exact wk_X5_visits lL G dd ih p pk pd pw pv ps kp dp tw wt st tn tr tre tm ts k lev hig _ (pf_X5_visits dd E S d n b L hi x kp dp tw wt st tn tr tre tm ts k lev hig hp)
abbrev RX5_lifts : Room := ({ frames := 20, cells := 0, slots := 0, locals := 465 } : Room)
set_option maxHeartbeats 4000000 in
set_option maxRecDepth 100000 in
theorem wk_X5_lifts (lL : Launch) (G : GE) (p pk pd pw pv ps : Nat) (kp dp tw wt st : Nat → Int32) (tn tr tre tm ts a b : Int32) (Q : (Nat → Int32) → (Nat → Int32) → (Nat → Int32) → Int32 → Int32 → Prop) (h : wp_X5_lifts kp dp tw wt st tn tr tre tm ts a b Q) : CtV lL yX5_lifts (ws_ yX5_lifts cX5_lifts 6 none) RX5_lifts G [.ref p, .int a, .int b] [(p, .inr (1, [.ref pk, .ref pd, .ref pw, .ref pv, .ref ps, .int tn, .int tr, .int tre, .int tm, .int ts])), (pk, .inl (G.2 0, 16, .inl kp)), (pd, .inl (G.2 0, 16, .inl dp)), (pw, .inl (G.2 0, 16, .inl tw)), (pv, .inl (G.2 0, 16, .inl wt)), (ps, .inl (G.2 0, 16, .inl st))] (fun (uu_ : (Nat → Int32) × (Nat → Int32) × (Nat → Int32) × Int32 × Int32) => Q uu_.1 uu_.2.1 uu_.2.2.1 uu_.2.2.2.1 uu_.2.2.2.2) (fun (uu_ : (Nat → Int32) × (Nat → Int32) × (Nat → Int32) × Int32 × Int32) => [(p, .inr (1, [.ref pk, .ref pd, .ref pw, .ref pv, .ref ps, .int tn, .int tr, .int tre, .int uu_.2.2.2.1, .int uu_.2.2.2.2])), (pk, .inl (G.2 0, 16, .inl uu_.1)), (pd, .inl (G.2 0, 16, .inl uu_.2.1)), (pw, .inl (G.2 0, 16, .inl tw)), (pv, .inl (G.2 0, 16, .inl uu_.2.2.1)), (ps, .inl (G.2 0, 16, .inl st))]) := by
  refine gx_of (cc := cX5_lifts) (maxL := 6) (ret := none) (by decide) (Nat.le_of_ble_eq_true rfl) ?_
  intro pp eE sS mM ar below meth cC AA ls QQ hx hb hr hml hts hown hlocks hnm hK hAe hQQ hP hD hA hS hl
  have hl : lv_has ls 6 [(0, .ref p), (1, .int a), (2, .int b)] := hl
  refine lv_aload_n hx hb dX5_lifts_0 rfl (lv_at hl 0 rfl) ?_
  refine lv_iload_n hx hb dX5_lifts_1 rfl (lv_at hl 1 rfl) ?_
  refine lv_iload_n hx hb dX5_lifts_2 rfl (lv_at hl 2 rfl) ?_
  have hPc := hP.sub (ws' := [(p, .inr (1, [.ref pk, .ref pd, .ref pw, .ref pv, .ref ps, .int tn, .int tr, .int tre, .int tm, .int ts])), (pk, .inl (G.2 0, 16, .inl kp)), (pd, .inl (G.2 0, 16, .inl dp)), (pw, .inl (G.2 0, 16, .inl tw)), (pv, .inl (G.2 0, 16, .inl wt)), (ps, .inl (G.2 0, 16, .inl st))]) [0, 1, 2, 3, 4, 5] rfl
  have hDc := hD.sub (ws' := [(p, .inr (1, [.ref pk, .ref pd, .ref pw, .ref pv, .ref ps, .int tn, .int tr, .int tre, .int tm, .int ts])), (pk, .inl (G.2 0, 16, .inl kp)), (pd, .inl (G.2 0, 16, .inl dp)), (pw, .inl (G.2 0, 16, .inl tw)), (pv, .inl (G.2 0, 16, .inl wt)), (ps, .inl (G.2 0, 16, .inl st))]) [0, 1, 2, 3, 4, 5] (by decide) rfl
  refine gx_i (G := G) (wc := [(p, .inr (1, [.ref pk, .ref pd, .ref pw, .ref pv, .ref ps, .int tn, .int tr, .int tre, .int tm, .int ts])), (pk, .inl (G.2 0, 16, .inl kp)), (pd, .inl (G.2 0, 16, .inl dp)), (pw, .inl (G.2 0, 16, .inl tw)), (pv, .inl (G.2 0, 16, .inl wt)), (ps, .inl (G.2 0, 16, .inl st))]) (wr := []) (va_runV (As := [.int a, .int b]) (rest := []) ⟨hx, hb, hml, hown, hts⟩ (ct_X5_common lL G p pk pd pw pv ps kp dp tw wt st tn tr tre tm ts a b h.1 _) (cwV 2 hts (lw_V q1376 q1377 q1378 q171 q1379) rfl rfl rfl (by decide +kernel) ⟨Nat.le_of_ble_eq_true rfl, Nat.le_of_ble_eq_true rfl⟩) (gx_preV hK hPc hDc 1 0 rfl rfl) rfl rfl hl.1 rfl (lv_room (Nat.le_of_ble_eq_true rfl)) dX5_lifts_3 ⟨Nat.le_of_ble_eq_true rfl, Nat.le_of_ble_eq_true rfl⟩) hP hD hS hA [0, 1, 2, 3, 4, 5] [] rfl rfl (by decide) (by decide) (fun r_1 u_1 H locs hw_1 hP hD hS => ?_)
  replace h := h.2
  have hP : va_P G.1 vwCl [(p, .inr (1, [.ref pk, .ref pd, .ref pw, .ref pv, .ref ps, .int tn, .int tr, .int tre, .int tm, .int ts])), (pk, .inl (G.2 0, 16, .inl kp)), (pd, .inl (G.2 0, 16, .inl dp)), (pw, .inl (G.2 0, 16, .inl tw)), (pv, .inl (G.2 0, 16, .inl wt)), (ps, .inl (G.2 0, 16, .inl st))] H := hP
  have hD : va_D AA [(p, .inr (1, [.ref pk, .ref pd, .ref pw, .ref pv, .ref ps, .int tn, .int tr, .int tre, .int tm, .int ts])), (pk, .inl (G.2 0, 16, .inl kp)), (pd, .inl (G.2 0, 16, .inl dp)), (pw, .inl (G.2 0, 16, .inl tw)), (pv, .inl (G.2 0, 16, .inl wt)), (ps, .inl (G.2 0, 16, .inl st))] := hD
  replace h := h r_1 hw_1
  refine lv_istore_n (lv' := [(3, .int r_1), (0, .ref p), (1, .int a), (2, .int b)]) hx hb dX5_lifts_6 rfl hl (by decide) rfl (fun ls hl => ?_)
  refine lv_aload_n hx hb dX5_lifts_7 rfl (lv_at hl 1 rfl) ?_
  refine va_get (D := G.1) (ci := 1) (v := .ref pd) (C := RX5) (T := TX5) (N := 10) hx hb hts in_X5 hown hK.1 hP 0 rfl rfl 1 (by decide) (hts _ q374) (fun _ h9 => h9) rfl dX5_lifts_8 ?_
  refine lv_iload_n hx hb dX5_lifts_11 rfl (lv_at hl 3 rfl) ?_
  have b_2 := h.1
  refine va_iald hx hb hK.1 hP 2 0 rfl rfl b_2 dX5_lifts_12 ?_
  replace h := h.2
  refine lv_aload_n hx hb dX5_lifts_13 rfl (lv_at hl 1 rfl) ?_
  refine va_get (D := G.1) (ci := 1) (v := .ref pd) (C := RX5) (T := TX5) (N := 10) hx hb hts in_X5 hown hK.1 hP 0 rfl rfl 1 (by decide) (hts _ q374) (fun _ h9 => h9) rfl dX5_lifts_14 ?_
  refine lv_iload_n hx hb dX5_lifts_17 rfl (lv_at hl 0 rfl) ?_
  have b_3 := h.1
  refine va_iald hx hb hK.1 hP 2 0 rfl rfl b_3 dX5_lifts_18 ?_
  replace h := h.2
  refine lv_iconst (v := 1) hx hb dX5_lifts_19 (by decide) ?_
  refine lv_iadd hx hb dX5_lifts_20 ?_
  refine lv_icmp_gt (tgt := 25) hx hb dX5_lifts_21 (by decide) (fun c_4 => ?_) (fun c_4 => ?_)
  · replace h := h.1 c_4
    refine lv_iconst (v := 0) hx hb dX5_lifts_25 (by decide) ?_
    refine lv_istore (lv' := [(4, .int 0), (3, .int r_1), (0, .ref p), (1, .int a), (2, .int b)]) hx hb dX5_lifts_26 hl (by decide) rfl (fun ls hl => ?_)
    replace h := h (fun (a_19 : Nat → Int32) => ∀ (H : Heap) (locs : List Loc) (ls : Array Slot), va_P G.1 vwCl [(p, .inr (1, [.ref pk, .ref pd, .ref pw, .ref pv, .ref ps, .int tn, .int tr, .int tre, .int tm, .int ts])), (pk, .inl (G.2 0, 16, .inl kp)), (pd, .inl (G.2 0, 16, .inl dp)), (pw, .inl (G.2 0, 16, .inl tw)), (pv, .inl (G.2 0, 16, .inl a_19)), (ps, .inl (G.2 0, 16, .inl st))] H → va_D AA [(p, .inr (1, [.ref pk, .ref pd, .ref pw, .ref pv, .ref ps, .int tn, .int tr, .int tre, .int tm, .int ts])), (pk, .inl (G.2 0, 16, .inl kp)), (pd, .inl (G.2 0, 16, .inl dp)), (pw, .inl (G.2 0, 16, .inl tw)), (pv, .inl (G.2 0, 16, .inl a_19)), (ps, .inl (G.2 0, 16, .inl st))] → va_S AA sS.heap H locs → lv_has ls 6 [(3, .int r_1), (0, .ref p), (2, .int b)] → W pp lL eE RX5_lifts sS mM ar below meth cC H locs 0 0 QQ (F0 mM 49 ls [])) (by
        clear h
        intro a_19 h H locs ls hP hD hS hl
        refine lv_aload_n hx hb dX5_lifts_49 rfl (lv_at hl 1 rfl) ?_
        refine lv_iconst (v := 1) hx hb dX5_lifts_50 (by decide) ?_
        refine lv_iload_n hx hb dX5_lifts_51 rfl (lv_at hl 2 rfl) ?_
        refine lv_ishl hx hb dX5_lifts_52 ?_
        refine va_put (D := G.1) (ci := 1) (v := .int (1 <<< (b &&& 31))) (ty := .int) (C := RX5) (T := TX5) (N := 10) hx hb hts in_X5 tyX5 tyX5_ok nmX5 hown hK.1 hP hD hS 0 rfl rfl 8 (by decide) (hts _ q383) (fun _ h9 => h9) rfl (by decide +kernel) rfl rfl (Nat.le_of_ble_eq_true rfl) dX5_lifts_53 (fun H locs hP hD hS => ?_)
        have hP : va_P G.1 vwCl [(p, .inr (1, [.ref pk, .ref pd, .ref pw, .ref pv, .ref ps, .int tn, .int tr, .int tre, .int (1 <<< (b &&& 31)), .int ts])), (pk, .inl (G.2 0, 16, .inl kp)), (pd, .inl (G.2 0, 16, .inl dp)), (pw, .inl (G.2 0, 16, .inl tw)), (pv, .inl (G.2 0, 16, .inl a_19)), (ps, .inl (G.2 0, 16, .inl st))] H := hP
        have hD : va_D AA [(p, .inr (1, [.ref pk, .ref pd, .ref pw, .ref pv, .ref ps, .int tn, .int tr, .int tre, .int (1 <<< (b &&& 31)), .int ts])), (pk, .inl (G.2 0, 16, .inl kp)), (pd, .inl (G.2 0, 16, .inl dp)), (pw, .inl (G.2 0, 16, .inl tw)), (pv, .inl (G.2 0, 16, .inl a_19)), (ps, .inl (G.2 0, 16, .inl st))] := hD
        refine lv_aload_n hx hb dX5_lifts_56 rfl (lv_at hl 1 rfl) ?_
        refine lv_iconst (v := 0) hx hb dX5_lifts_57 (by decide) ?_
        refine va_put (D := G.1) (ci := 1) (v := .int 0) (ty := .int) (C := RX5) (T := TX5) (N := 10) hx hb hts in_X5 tyX5 tyX5_ok nmX5 hown hK.1 hP hD hS 0 rfl rfl 9 (by decide) (hts _ q384) (fun _ h9 => h9) rfl (by decide +kernel) rfl rfl (Nat.le_of_ble_eq_true rfl) dX5_lifts_58 (fun H locs hP hD hS => ?_)
        have hP : va_P G.1 vwCl [(p, .inr (1, [.ref pk, .ref pd, .ref pw, .ref pv, .ref ps, .int tn, .int tr, .int tre, .int (1 <<< (b &&& 31)), .int 0])), (pk, .inl (G.2 0, 16, .inl kp)), (pd, .inl (G.2 0, 16, .inl dp)), (pw, .inl (G.2 0, 16, .inl tw)), (pv, .inl (G.2 0, 16, .inl a_19)), (ps, .inl (G.2 0, 16, .inl st))] H := hP
        have hD : va_D AA [(p, .inr (1, [.ref pk, .ref pd, .ref pw, .ref pv, .ref ps, .int tn, .int tr, .int tre, .int (1 <<< (b &&& 31)), .int 0])), (pk, .inl (G.2 0, 16, .inl kp)), (pd, .inl (G.2 0, 16, .inl dp)), (pw, .inl (G.2 0, 16, .inl tw)), (pv, .inl (G.2 0, 16, .inl a_19)), (ps, .inl (G.2 0, 16, .inl st))] := hD
        refine lv_aload_n hx hb dX5_lifts_61 rfl (lv_at hl 1 rfl) ?_
        refine va_get (D := G.1) (ci := 1) (v := .ref pv) (C := RX5) (T := TX5) (N := 10) hx hb hts in_X5 hown hK.1 hP 0 rfl rfl 3 (by decide) (hts _ q377) (fun _ h9 => h9) rfl dX5_lifts_62 ?_
        refine lv_aload_n hx hb dX5_lifts_65 rfl (lv_at hl 1 rfl) ?_
        refine va_get (D := G.1) (ci := 1) (v := .ref pd) (C := RX5) (T := TX5) (N := 10) hx hb hts in_X5 hown hK.1 hP 0 rfl rfl 1 (by decide) (hts _ q374) (fun _ h9 => h9) rfl dX5_lifts_66 ?_
        refine lv_iload_n hx hb dX5_lifts_69 rfl (lv_at hl 2 rfl) ?_
        refine va_iald hx hb hK.1 hP 2 0 rfl rfl b_2 dX5_lifts_70 ?_
        refine lv_iconst (v := 1) hx hb dX5_lifts_71 (by decide) ?_
        refine lv_iload_n hx hb dX5_lifts_72 rfl (lv_at hl 2 rfl) ?_
        refine lv_ishl hx hb dX5_lifts_73 ?_
        have b_20 := h.1
        refine va_iast hx hb hK.1 hP hD hS 4 0 rfl rfl b_20 dX5_lifts_74 (fun H locs hP hD hS => ?_)
        replace h := h.2
        obtain ⟨u_21, eu_21⟩ : ∃ z__, z__ = upd a_19 (dp b.toNatClampNeg).toNatClampNeg (1 <<< (b &&& 31)) := ⟨_, rfl⟩
        replace h := h u_21 eu_21
        have hP : va_P G.1 vwCl [(p, .inr (1, [.ref pk, .ref pd, .ref pw, .ref pv, .ref ps, .int tn, .int tr, .int tre, .int (1 <<< (b &&& 31)), .int 0])), (pk, .inl (G.2 0, 16, .inl kp)), (pd, .inl (G.2 0, 16, .inl dp)), (pw, .inl (G.2 0, 16, .inl tw)), (pv, .inl (G.2 0, 16, .inl u_21)), (ps, .inl (G.2 0, 16, .inl st))] H := by rw [eu_21]; exact hP
        have hD : va_D AA [(p, .inr (1, [.ref pk, .ref pd, .ref pw, .ref pv, .ref ps, .int tn, .int tr, .int tre, .int (1 <<< (b &&& 31)), .int 0])), (pk, .inl (G.2 0, 16, .inl kp)), (pd, .inl (G.2 0, 16, .inl dp)), (pw, .inl (G.2 0, 16, .inl tw)), (pv, .inl (G.2 0, 16, .inl u_21)), (ps, .inl (G.2 0, 16, .inl st))] := by rw [eu_21]; exact hD
        refine lv_aload_n hx hb dX5_lifts_75 rfl (lv_at hl 1 rfl) ?_
        refine va_get (D := G.1) (ci := 1) (v := .ref pd) (C := RX5) (T := TX5) (N := 10) hx hb hts in_X5 hown hK.1 hP 0 rfl rfl 1 (by decide) (hts _ q374) (fun _ h9 => h9) rfl dX5_lifts_76 ?_
        refine lv_iload_n hx hb dX5_lifts_79 rfl (lv_at hl 2 rfl) ?_
        refine va_iald hx hb hK.1 hP 2 0 rfl rfl b_2 dX5_lifts_80 ?_
        refine lv_istore (lv' := [(4, .int (dp b.toNatClampNeg)), (3, .int r_1), (0, .ref p), (2, .int b)]) hx hb dX5_lifts_81 hl (by decide) rfl (fun ls hl => ?_)
        replace h := h (fun (moved_143 : Int32) (seen_144 : Int32) (a_145 : Nat → Int32) => ∀ (H : Heap) (locs : List Loc) (ls : Array Slot), va_P G.1 vwCl [(p, .inr (1, [.ref pk, .ref pd, .ref pw, .ref pv, .ref ps, .int tn, .int tr, .int tre, .int moved_143, .int seen_144])), (pk, .inl (G.2 0, 16, .inl kp)), (pd, .inl (G.2 0, 16, .inl dp)), (pw, .inl (G.2 0, 16, .inl tw)), (pv, .inl (G.2 0, 16, .inl a_145)), (ps, .inl (G.2 0, 16, .inl st))] H → va_D AA [(p, .inr (1, [.ref pk, .ref pd, .ref pw, .ref pv, .ref ps, .int tn, .int tr, .int tre, .int moved_143, .int seen_144])), (pk, .inl (G.2 0, 16, .inl kp)), (pd, .inl (G.2 0, 16, .inl dp)), (pw, .inl (G.2 0, 16, .inl tw)), (pv, .inl (G.2 0, 16, .inl a_145)), (ps, .inl (G.2 0, 16, .inl st))] → va_S AA sS.heap H locs → lv_has ls 6 [(3, .int r_1), (0, .ref p)] → W pp lL eE RX5_lifts sS mM ar below meth cC H locs 0 0 QQ (F0 mM 159 ls [])) (by
            clear h
            intro moved_143 seen_144 a_145 h H locs ls hP hD hS hl
            refine lv_iconst (v := 0) hx hb dX5_lifts_159 (by decide) ?_
            refine lv_istore (lv' := [(4, .int 0), (3, .int r_1), (0, .ref p)]) hx hb dX5_lifts_160 hl (by decide) rfl (fun ls hl => ?_)
            replace h := h (fun (a_167 : Nat → Int32) => ∀ (H : Heap) (locs : List Loc) (ls : Array Slot), va_P G.1 vwCl [(p, .inr (1, [.ref pk, .ref pd, .ref pw, .ref pv, .ref ps, .int tn, .int tr, .int tre, .int moved_143, .int seen_144])), (pk, .inl (G.2 0, 16, .inl a_167)), (pd, .inl (G.2 0, 16, .inl dp)), (pw, .inl (G.2 0, 16, .inl tw)), (pv, .inl (G.2 0, 16, .inl a_145)), (ps, .inl (G.2 0, 16, .inl st))] H → va_D AA [(p, .inr (1, [.ref pk, .ref pd, .ref pw, .ref pv, .ref ps, .int tn, .int tr, .int tre, .int moved_143, .int seen_144])), (pk, .inl (G.2 0, 16, .inl a_167)), (pd, .inl (G.2 0, 16, .inl dp)), (pw, .inl (G.2 0, 16, .inl tw)), (pv, .inl (G.2 0, 16, .inl a_145)), (ps, .inl (G.2 0, 16, .inl st))] → va_S AA sS.heap H locs → lv_has ls 6 [(0, .ref p)] → W pp lL eE RX5_lifts sS mM ar below meth cC H locs 0 0 QQ (F0 mM 197 ls [])) (by
                clear h
                intro a_167 h H locs ls hP hD hS hl
                refine lv_aload_n hx hb dX5_lifts_197 rfl (lv_at hl 0 rfl) ?_
                have hPc := hP.sub (ws' := [(p, .inr (1, [.ref pk, .ref pd, .ref pw, .ref pv, .ref ps, .int tn, .int tr, .int tre, .int moved_143, .int seen_144])), (pk, .inl (G.2 0, 16, .inl a_167)), (pd, .inl (G.2 0, 16, .inl dp)), (pw, .inl (G.2 0, 16, .inl tw)), (pv, .inl (G.2 0, 16, .inl a_145)), (ps, .inl (G.2 0, 16, .inl st))]) [0, 1, 2, 3, 4, 5] rfl
                have hDc := hD.sub (ws' := [(p, .inr (1, [.ref pk, .ref pd, .ref pw, .ref pv, .ref ps, .int tn, .int tr, .int tre, .int moved_143, .int seen_144])), (pk, .inl (G.2 0, 16, .inl a_167)), (pd, .inl (G.2 0, 16, .inl dp)), (pw, .inl (G.2 0, 16, .inl tw)), (pv, .inl (G.2 0, 16, .inl a_145)), (ps, .inl (G.2 0, 16, .inl st))]) [0, 1, 2, 3, 4, 5] (by decide) rfl
                refine gx_v (G := G) (wc := [(p, .inr (1, [.ref pk, .ref pd, .ref pw, .ref pv, .ref ps, .int tn, .int tr, .int tre, .int moved_143, .int seen_144])), (pk, .inl (G.2 0, 16, .inl a_167)), (pd, .inl (G.2 0, 16, .inl dp)), (pw, .inl (G.2 0, 16, .inl tw)), (pv, .inl (G.2 0, 16, .inl a_145)), (ps, .inl (G.2 0, 16, .inl st))]) (wr := []) (va_runV (As := []) (rest := []) ⟨hx, hb, hml, hown, hts⟩ (ct_X5_deepens lL G p pk pd pw pv ps a_167 dp tw a_145 st tn tr tre moved_143 seen_144 h.1 _) (cwV 0 hts (lw_V q548 q550 qs4 q171 q551) rfl rfl rfl (by decide +kernel) ⟨Nat.le_of_ble_eq_true rfl, Nat.le_of_ble_eq_true rfl⟩) (gx_preV hK hPc hDc 1 0 rfl rfl) rfl rfl hl.1 rfl (lv_room (Nat.le_of_ble_eq_true rfl)) dX5_lifts_198 ⟨Nat.le_of_ble_eq_true rfl, Nat.le_of_ble_eq_true rfl⟩) hP hD hS hA [0, 1, 2, 3, 4, 5] [] rfl rfl (by decide) (by decide) (fun u_168 H locs hw_168 hP hD hS => ?_)
                replace h := h.2
                obtain ⟨dp_168, rfl⟩ : ∃ z__, z__ = u_168 := ⟨_, rfl⟩
                have hP : va_P G.1 vwCl [(p, .inr (1, [.ref pk, .ref pd, .ref pw, .ref pv, .ref ps, .int tn, .int tr, .int tre, .int moved_143, .int seen_144])), (pk, .inl (G.2 0, 16, .inl a_167)), (pd, .inl (G.2 0, 16, .inl dp_168)), (pw, .inl (G.2 0, 16, .inl tw)), (pv, .inl (G.2 0, 16, .inl a_145)), (ps, .inl (G.2 0, 16, .inl st))] H := hP
                have hD : va_D AA [(p, .inr (1, [.ref pk, .ref pd, .ref pw, .ref pv, .ref ps, .int tn, .int tr, .int tre, .int moved_143, .int seen_144])), (pk, .inl (G.2 0, 16, .inl a_167)), (pd, .inl (G.2 0, 16, .inl dp_168)), (pw, .inl (G.2 0, 16, .inl tw)), (pv, .inl (G.2 0, 16, .inl a_145)), (ps, .inl (G.2 0, 16, .inl st))] := hD
                replace h := h dp_168 hw_168
                subst hQQ; exact gx_vret (a_167, dp_168, a_145, moved_143, seen_144) hx hb hr hlocks hAe hP hD hS (Nat.le_of_ble_eq_true rfl) (Nat.le_of_ble_eq_true rfl) h dX5_lifts_201)
            refine h (fun (x4_170 : Int32) (a_171 : Nat → Int32) => ∀ (H : Heap) (locs : List Loc) (ls : Array Slot), va_P G.1 vwCl [(p, .inr (1, [.ref pk, .ref pd, .ref pw, .ref pv, .ref ps, .int tn, .int tr, .int tre, .int moved_143, .int seen_144])), (pk, .inl (G.2 0, 16, .inl a_171)), (pd, .inl (G.2 0, 16, .inl dp)), (pw, .inl (G.2 0, 16, .inl tw)), (pv, .inl (G.2 0, 16, .inl a_145)), (ps, .inl (G.2 0, 16, .inl st))] H → va_D AA [(p, .inr (1, [.ref pk, .ref pd, .ref pw, .ref pv, .ref ps, .int tn, .int tr, .int tre, .int moved_143, .int seen_144])), (pk, .inl (G.2 0, 16, .inl a_171)), (pd, .inl (G.2 0, 16, .inl dp)), (pw, .inl (G.2 0, 16, .inl tw)), (pv, .inl (G.2 0, 16, .inl a_145)), (ps, .inl (G.2 0, 16, .inl st))] → va_S AA sS.heap H locs → lv_has ls 6 [(4, .int x4_170), (3, .int r_1), (0, .ref p)] → W pp lL eE RX5_lifts sS mM ar below meth cC H locs 0 0 QQ (F0 mM 162 ls [])) ?_  _ _ _ hP hD hS hl
            clear h
            intro x4_170 a_171 h H locs ls hP hD hS hl
            refine lv_iload hx hb dX5_lifts_162 (lv_at hl 0 rfl) ?_
            refine lv_aload_n hx hb dX5_lifts_164 rfl (lv_at hl 2 rfl) ?_
            refine va_get (D := G.1) (ci := 1) (v := .int tn) (C := RX5) (T := TX5) (N := 10) hx hb hts in_X5 hown hK.1 hP 0 rfl rfl 5 (by decide) (hts _ q379) (fun _ h9 => h9) rfl dX5_lifts_165 ?_
            refine lv_icmp_ge (tgt := 197) hx hb dX5_lifts_168 (by decide) (fun c_173 => ?_) (fun c_173 => ?_)
            · replace h := h.1 c_173
              exact h _ _ _ hP hD hS (lv_sub hl [2] rfl)
            · replace h := h.2 c_173
              refine lv_aload_n hx hb dX5_lifts_171 rfl (lv_at hl 2 rfl) ?_
              refine va_get (D := G.1) (ci := 1) (v := .int moved_143) (C := RX5) (T := TX5) (N := 10) hx hb hts in_X5 hown hK.1 hP 0 rfl rfl 8 (by decide) (hts _ q383) (fun _ h9 => h9) rfl dX5_lifts_172 ?_
              refine lv_iload hx hb dX5_lifts_175 (lv_at hl 0 rfl) ?_
              have hPc := hP.sub (ws' := []) [] rfl
              have hDc := hD.sub (ws' := []) [] (by decide) rfl
              refine gx_i (G := G) (wc := []) (wr := [(p, .inr (1, [.ref pk, .ref pd, .ref pw, .ref pv, .ref ps, .int tn, .int tr, .int tre, .int moved_143, .int seen_144])), (pk, .inl (G.2 0, 16, .inl a_171)), (pd, .inl (G.2 0, 16, .inl dp)), (pw, .inl (G.2 0, 16, .inl tw)), (pv, .inl (G.2 0, 16, .inl a_145)), (ps, .inl (G.2 0, 16, .inl st))]) (va_runSN (As := [.int moved_143, .int x4_170]) (rest := []) ⟨hx, hb, hml, hown, hts⟩ (ct_X1_has lL G moved_143 x4_170 _) ⟨va_cnB 2 hts (lw_meth q502) rfl rfl rfl (hK.nw q537 rfl) (hts _ q164) (by decide +kernel) ⟨Nat.le_of_ble_eq_true rfl, Nat.le_of_ble_eq_true rfl⟩, hts _ q501, trivial⟩ (gx_preS hK hPc hDc) rfl rfl hl.1 rfl (lv_room (Nat.le_of_ble_eq_true rfl)) dX5_lifts_177 ⟨Nat.le_of_ble_eq_true rfl, Nat.le_of_ble_eq_true rfl⟩) hP hD hS hA [] [0, 1, 2, 3, 4, 5] rfl rfl (by decide) (by decide) (fun r_174 u_174 H locs hw_174 hP hD hS => ?_)
              have hP : va_P G.1 vwCl [(p, .inr (1, [.ref pk, .ref pd, .ref pw, .ref pv, .ref ps, .int tn, .int tr, .int tre, .int moved_143, .int seen_144])), (pk, .inl (G.2 0, 16, .inl a_171)), (pd, .inl (G.2 0, 16, .inl dp)), (pw, .inl (G.2 0, 16, .inl tw)), (pv, .inl (G.2 0, 16, .inl a_145)), (ps, .inl (G.2 0, 16, .inl st))] H := hP
              have hD : va_D AA [(p, .inr (1, [.ref pk, .ref pd, .ref pw, .ref pv, .ref ps, .int tn, .int tr, .int tre, .int moved_143, .int seen_144])), (pk, .inl (G.2 0, 16, .inl a_171)), (pd, .inl (G.2 0, 16, .inl dp)), (pw, .inl (G.2 0, 16, .inl tw)), (pv, .inl (G.2 0, 16, .inl a_145)), (ps, .inl (G.2 0, 16, .inl st))] := hD
              replace h := h r_174 hw_174
              refine lv_if_eq (tgt := 191) hx hb dX5_lifts_180 (by decide) (fun c_175 => ?_) (fun c_175 => ?_)
              · replace h := h.1 c_175
                refine lv_iinc (v := x4_170 + 1) (lv' := [(4, .int (x4_170 + 1)), (3, .int r_1), (0, .ref p)]) hx hb dX5_lifts_191 hl (k := 0) rfl rfl (by decide) rfl (fun ls hl => ?_)
                refine lv_goto (tgt := 162) hx hb dX5_lifts_194 (by decide) ?_
                exact h _ _ _ hP hD hS hl
              · replace h := h.2 c_175
                refine lv_aload_n hx hb dX5_lifts_183 rfl (lv_at hl 2 rfl) ?_
                refine va_get (D := G.1) (ci := 1) (v := .ref pk) (C := RX5) (T := TX5) (N := 10) hx hb hts in_X5 hown hK.1 hP 0 rfl rfl 0 (by decide) (hts _ q372) (fun _ h9 => h9) rfl dX5_lifts_184 ?_
                refine lv_iload hx hb dX5_lifts_187 (lv_at hl 0 rfl) ?_
                refine lv_iload_n hx hb dX5_lifts_189 rfl (lv_at hl 1 rfl) ?_
                have b_176 := h.1
                refine va_iast hx hb hK.1 hP hD hS 1 0 rfl rfl b_176 dX5_lifts_190 (fun H locs hP hD hS => ?_)
                replace h := h.2
                obtain ⟨u_177, eu_177⟩ : ∃ z__, z__ = upd a_171 x4_170.toNatClampNeg r_1 := ⟨_, rfl⟩
                replace h := h u_177 eu_177
                have hP : va_P G.1 vwCl [(p, .inr (1, [.ref pk, .ref pd, .ref pw, .ref pv, .ref ps, .int tn, .int tr, .int tre, .int moved_143, .int seen_144])), (pk, .inl (G.2 0, 16, .inl u_177)), (pd, .inl (G.2 0, 16, .inl dp)), (pw, .inl (G.2 0, 16, .inl tw)), (pv, .inl (G.2 0, 16, .inl a_145)), (ps, .inl (G.2 0, 16, .inl st))] H := by rw [eu_177]; exact hP
                have hD : va_D AA [(p, .inr (1, [.ref pk, .ref pd, .ref pw, .ref pv, .ref ps, .int tn, .int tr, .int tre, .int moved_143, .int seen_144])), (pk, .inl (G.2 0, 16, .inl u_177)), (pd, .inl (G.2 0, 16, .inl dp)), (pw, .inl (G.2 0, 16, .inl tw)), (pv, .inl (G.2 0, 16, .inl a_145)), (ps, .inl (G.2 0, 16, .inl st))] := by rw [eu_177]; exact hD
                refine lv_iinc (v := x4_170 + 1) (lv' := [(4, .int (x4_170 + 1)), (3, .int r_1), (0, .ref p)]) hx hb dX5_lifts_191 hl (k := 0) rfl rfl (by decide) rfl (fun ls hl => ?_)
                refine lv_goto (tgt := 162) hx hb dX5_lifts_194 (by decide) ?_
                exact h _ _ _ hP hD hS hl)
        refine h (fun (x4_179 : Int32) (moved_180 : Int32) (seen_181 : Int32) (a_182 : Nat → Int32) => ∀ (H : Heap) (locs : List Loc) (ls : Array Slot), va_P G.1 vwCl [(p, .inr (1, [.ref pk, .ref pd, .ref pw, .ref pv, .ref ps, .int tn, .int tr, .int tre, .int moved_180, .int seen_181])), (pk, .inl (G.2 0, 16, .inl kp)), (pd, .inl (G.2 0, 16, .inl dp)), (pw, .inl (G.2 0, 16, .inl tw)), (pv, .inl (G.2 0, 16, .inl a_182)), (ps, .inl (G.2 0, 16, .inl st))] H → va_D AA [(p, .inr (1, [.ref pk, .ref pd, .ref pw, .ref pv, .ref ps, .int tn, .int tr, .int tre, .int moved_180, .int seen_181])), (pk, .inl (G.2 0, 16, .inl kp)), (pd, .inl (G.2 0, 16, .inl dp)), (pw, .inl (G.2 0, 16, .inl tw)), (pv, .inl (G.2 0, 16, .inl a_182)), (ps, .inl (G.2 0, 16, .inl st))] → va_S AA sS.heap H locs → lv_has ls 6 [(4, .int x4_179), (3, .int r_1), (0, .ref p)] → W pp lL eE RX5_lifts sS mM ar below meth cC H locs 0 0 QQ (F0 mM 83 ls [])) ?_  _ _ _ hP hD hS (lv_sub hl [0, 1, 2] rfl)
        clear h
        intro x4_179 moved_180 seen_181 a_182 h H locs ls hP hD hS hl
        refine lv_iload hx hb dX5_lifts_83 (lv_at hl 0 rfl) ?_
        refine lv_aload_n hx hb dX5_lifts_85 rfl (lv_at hl 2 rfl) ?_
        refine va_get (D := G.1) (ci := 1) (v := .ref pd) (C := RX5) (T := TX5) (N := 10) hx hb hts in_X5 hown hK.1 hP 0 rfl rfl 1 (by decide) (hts _ q374) (fun _ h9 => h9) rfl dX5_lifts_86 ?_
        refine lv_iload_n hx hb dX5_lifts_89 rfl (lv_at hl 1 rfl) ?_
        refine va_iald hx hb hK.1 hP 2 0 rfl rfl b_3 dX5_lifts_90 ?_
        refine lv_iconst (v := 1) hx hb dX5_lifts_91 (by decide) ?_
        refine lv_iadd hx hb dX5_lifts_92 ?_
        refine lv_icmp_le (tgt := 159) hx hb dX5_lifts_93 (by decide) (fun c_184 => ?_) (fun c_184 => ?_)
        · replace h := h.1 c_184
          exact h _ _ _ hP hD hS (lv_sub hl [1, 2] rfl)
        · replace h := h.2 c_184
          replace h := h (fun (moved_209 : Int32) (seen_210 : Int32) (a_211 : Nat → Int32) => ∀ (H : Heap) (locs : List Loc) (ls : Array Slot), va_P G.1 vwCl [(p, .inr (1, [.ref pk, .ref pd, .ref pw, .ref pv, .ref ps, .int tn, .int tr, .int tre, .int moved_209, .int seen_210])), (pk, .inl (G.2 0, 16, .inl kp)), (pd, .inl (G.2 0, 16, .inl dp)), (pw, .inl (G.2 0, 16, .inl tw)), (pv, .inl (G.2 0, 16, .inl a_211)), (ps, .inl (G.2 0, 16, .inl st))] H → va_D AA [(p, .inr (1, [.ref pk, .ref pd, .ref pw, .ref pv, .ref ps, .int tn, .int tr, .int tre, .int moved_209, .int seen_210])), (pk, .inl (G.2 0, 16, .inl kp)), (pd, .inl (G.2 0, 16, .inl dp)), (pw, .inl (G.2 0, 16, .inl tw)), (pv, .inl (G.2 0, 16, .inl a_211)), (ps, .inl (G.2 0, 16, .inl st))] → va_S AA sS.heap H locs → lv_has ls 6 [(4, .int x4_179), (3, .int r_1), (0, .ref p)] → W pp lL eE RX5_lifts sS mM ar below meth cC H locs 0 0 QQ (F0 mM 153 ls [])) (by
              clear h
              intro moved_209 seen_210 a_211 h H locs ls hP hD hS hl
              refine lv_iinc (v := x4_179 + (-1)) (lv' := [(4, .int (x4_179 + (-1))), (3, .int r_1), (0, .ref p)]) hx hb dX5_lifts_153 hl (k := 0) rfl rfl (by decide) rfl (fun ls hl => ?_)
              refine lv_goto (tgt := 83) hx hb dX5_lifts_156 (by decide) ?_
              exact h _ _ _ hP hD hS hl)
          refine h (fun (moved_213 : Int32) (seen_214 : Int32) (a_215 : Nat → Int32) => ∀ (H : Heap) (locs : List Loc) (ls : Array Slot), va_P G.1 vwCl [(p, .inr (1, [.ref pk, .ref pd, .ref pw, .ref pv, .ref ps, .int tn, .int tr, .int tre, .int moved_213, .int seen_214])), (pk, .inl (G.2 0, 16, .inl kp)), (pd, .inl (G.2 0, 16, .inl dp)), (pw, .inl (G.2 0, 16, .inl tw)), (pv, .inl (G.2 0, 16, .inl a_215)), (ps, .inl (G.2 0, 16, .inl st))] H → va_D AA [(p, .inr (1, [.ref pk, .ref pd, .ref pw, .ref pv, .ref ps, .int tn, .int tr, .int tre, .int moved_213, .int seen_214])), (pk, .inl (G.2 0, 16, .inl kp)), (pd, .inl (G.2 0, 16, .inl dp)), (pw, .inl (G.2 0, 16, .inl tw)), (pv, .inl (G.2 0, 16, .inl a_215)), (ps, .inl (G.2 0, 16, .inl st))] → va_S AA sS.heap H locs → lv_has ls 6 [(4, .int x4_179), (3, .int r_1), (0, .ref p)] → W pp lL eE RX5_lifts sS mM ar below meth cC H locs 0 0 QQ (F0 mM 96 ls [])) ?_  _ _ _ hP hD hS hl
          clear h
          intro moved_213 seen_214 a_215 h H locs ls hP hD hS hl
          refine lv_aload_n hx hb dX5_lifts_96 rfl (lv_at hl 2 rfl) ?_
          refine va_get (D := G.1) (ci := 1) (v := .ref pv) (C := RX5) (T := TX5) (N := 10) hx hb hts in_X5 hown hK.1 hP 0 rfl rfl 3 (by decide) (hts _ q377) (fun _ h9 => h9) rfl dX5_lifts_97 ?_
          refine lv_iload hx hb dX5_lifts_100 (lv_at hl 0 rfl) ?_
          have b_217 := h.1
          refine va_iald hx hb hK.1 hP 4 0 rfl rfl b_217 dX5_lifts_102 ?_
          replace h := h.2
          refine lv_if_eq (tgt := 153) hx hb dX5_lifts_103 (by decide) (fun c_218 => ?_) (fun c_218 => ?_)
          · replace h := h.1 c_218
            exact h _ _ _ hP hD hS hl
          · replace h := h.2 c_218
            refine lv_aload_n hx hb dX5_lifts_106 rfl (lv_at hl 2 rfl) ?_
            refine va_get (D := G.1) (ci := 1) (v := .ref pv) (C := RX5) (T := TX5) (N := 10) hx hb hts in_X5 hown hK.1 hP 0 rfl rfl 3 (by decide) (hts _ q377) (fun _ h9 => h9) rfl dX5_lifts_107 ?_
            refine lv_iload hx hb dX5_lifts_110 (lv_at hl 0 rfl) ?_
            refine va_iald hx hb hK.1 hP 4 0 rfl rfl b_217 dX5_lifts_112 ?_
            have hPc := hP.sub (ws' := []) [] rfl
            have hDc := hD.sub (ws' := []) [] (by decide) rfl
            refine gx_i (G := G) (wc := []) (wr := [(p, .inr (1, [.ref pk, .ref pd, .ref pw, .ref pv, .ref ps, .int tn, .int tr, .int tre, .int moved_213, .int seen_214])), (pk, .inl (G.2 0, 16, .inl kp)), (pd, .inl (G.2 0, 16, .inl dp)), (pw, .inl (G.2 0, 16, .inl tw)), (pv, .inl (G.2 0, 16, .inl a_215)), (ps, .inl (G.2 0, 16, .inl st))]) (va_runS (As := [.int (a_215 x4_179.toNatClampNeg)]) (rest := []) ⟨hx, hb, hml, hown, hts⟩ (ct_J7_numberOfTrailingZeros lL G (a_215 x4_179.toNatClampNeg) h.1 _) (va_cwS 1 hts (lw_S q1380 q884 q179 q885) rfl rfl rfl (by decide +kernel) ⟨Nat.le_of_ble_eq_true rfl, Nat.le_of_ble_eq_true rfl⟩) (gx_preS hK hPc hDc) rfl rfl hl.1 rfl (lv_room (Nat.le_of_ble_eq_true rfl)) dX5_lifts_113 ⟨Nat.le_of_ble_eq_true rfl, Nat.le_of_ble_eq_true rfl⟩) hP hD hS hA [] [0, 1, 2, 3, 4, 5] rfl rfl (by decide) (by decide) (fun r_219 u_219 H locs hw_219 hP hD hS => ?_)
            replace h := h.2
            have hP : va_P G.1 vwCl [(p, .inr (1, [.ref pk, .ref pd, .ref pw, .ref pv, .ref ps, .int tn, .int tr, .int tre, .int moved_213, .int seen_214])), (pk, .inl (G.2 0, 16, .inl kp)), (pd, .inl (G.2 0, 16, .inl dp)), (pw, .inl (G.2 0, 16, .inl tw)), (pv, .inl (G.2 0, 16, .inl a_215)), (ps, .inl (G.2 0, 16, .inl st))] H := hP
            have hD : va_D AA [(p, .inr (1, [.ref pk, .ref pd, .ref pw, .ref pv, .ref ps, .int tn, .int tr, .int tre, .int moved_213, .int seen_214])), (pk, .inl (G.2 0, 16, .inl kp)), (pd, .inl (G.2 0, 16, .inl dp)), (pw, .inl (G.2 0, 16, .inl tw)), (pv, .inl (G.2 0, 16, .inl a_215)), (ps, .inl (G.2 0, 16, .inl st))] := hD
            replace h := h r_219 hw_219
            refine lv_istore (lv' := [(5, .int r_219), (4, .int x4_179), (3, .int r_1), (0, .ref p)]) hx hb dX5_lifts_116 hl (by decide) rfl (fun ls hl => ?_)
            refine lv_aload_n hx hb dX5_lifts_118 rfl (lv_at hl 3 rfl) ?_
            refine va_get (D := G.1) (ci := 1) (v := .ref pv) (C := RX5) (T := TX5) (N := 10) hx hb hts in_X5 hown hK.1 hP 0 rfl rfl 3 (by decide) (hts _ q377) (fun _ h9 => h9) rfl dX5_lifts_119 ?_
            refine lv_iload hx hb dX5_lifts_122 (lv_at hl 1 rfl) ?_
            refine lv_dup2_11 hx hb dX5_lifts_124 rfl rfl ?_
            refine va_iald hx hb hK.1 hP 4 0 rfl rfl b_217 dX5_lifts_125 ?_
            refine lv_iconst (v := 1) hx hb dX5_lifts_126 (by decide) ?_
            refine lv_iload hx hb dX5_lifts_127 (lv_at hl 0 rfl) ?_
            refine lv_ishl hx hb dX5_lifts_129 ?_
            refine lv_iconst (v := (-1)) hx hb dX5_lifts_130 (by decide) ?_
            refine lv_ixor hx hb dX5_lifts_131 ?_
            refine lv_iand hx hb dX5_lifts_132 ?_
            refine va_iast hx hb hK.1 hP hD hS 4 0 rfl rfl b_217 dX5_lifts_133 (fun H locs hP hD hS => ?_)
            obtain ⟨u_220, eu_220⟩ : ∃ z__, z__ = upd a_215 x4_179.toNatClampNeg ((a_215 x4_179.toNatClampNeg) &&& ((1 <<< (r_219 &&& 31)) ^^^ (-1))) := ⟨_, rfl⟩
            replace h := h u_220 eu_220
            have hP : va_P G.1 vwCl [(p, .inr (1, [.ref pk, .ref pd, .ref pw, .ref pv, .ref ps, .int tn, .int tr, .int tre, .int moved_213, .int seen_214])), (pk, .inl (G.2 0, 16, .inl kp)), (pd, .inl (G.2 0, 16, .inl dp)), (pw, .inl (G.2 0, 16, .inl tw)), (pv, .inl (G.2 0, 16, .inl u_220)), (ps, .inl (G.2 0, 16, .inl st))] H := by rw [eu_220]; exact hP
            have hD : va_D AA [(p, .inr (1, [.ref pk, .ref pd, .ref pw, .ref pv, .ref ps, .int tn, .int tr, .int tre, .int moved_213, .int seen_214])), (pk, .inl (G.2 0, 16, .inl kp)), (pd, .inl (G.2 0, 16, .inl dp)), (pw, .inl (G.2 0, 16, .inl tw)), (pv, .inl (G.2 0, 16, .inl u_220)), (ps, .inl (G.2 0, 16, .inl st))] := by rw [eu_220]; exact hD
            refine lv_aload_n hx hb dX5_lifts_134 rfl (lv_at hl 3 rfl) ?_
            refine lv_iload hx hb dX5_lifts_135 (lv_at hl 0 rfl) ?_
            refine lv_iload hx hb dX5_lifts_137 (lv_at hl 1 rfl) ?_
            refine lv_aload_n hx hb dX5_lifts_139 rfl (lv_at hl 3 rfl) ?_
            refine va_get (D := G.1) (ci := 1) (v := .ref pd) (C := RX5) (T := TX5) (N := 10) hx hb hts in_X5 hown hK.1 hP 0 rfl rfl 1 (by decide) (hts _ q374) (fun _ h9 => h9) rfl dX5_lifts_140 ?_
            refine lv_iload_n hx hb dX5_lifts_143 rfl (lv_at hl 2 rfl) ?_
            refine va_iald hx hb hK.1 hP 2 0 rfl rfl b_3 dX5_lifts_144 ?_
            refine lv_iconst (v := 1) hx hb dX5_lifts_145 (by decide) ?_
            refine lv_iadd hx hb dX5_lifts_146 ?_
            obtain ⟨E_221, S_221, d_221, n_221, b_221, L_221, hi_221, x_221, h⟩ := h
            have hPc := hP.sub (ws' := [(p, .inr (1, [.ref pk, .ref pd, .ref pw, .ref pv, .ref ps, .int tn, .int tr, .int tre, .int moved_213, .int seen_214])), (pk, .inl (G.2 0, 16, .inl kp)), (pd, .inl (G.2 0, 16, .inl dp)), (pw, .inl (G.2 0, 16, .inl tw)), (pv, .inl (G.2 0, 16, .inl u_220)), (ps, .inl (G.2 0, 16, .inl st))]) [0, 1, 2, 3, 4, 5] rfl
            have hDc := hD.sub (ws' := [(p, .inr (1, [.ref pk, .ref pd, .ref pw, .ref pv, .ref ps, .int tn, .int tr, .int tre, .int moved_213, .int seen_214])), (pk, .inl (G.2 0, 16, .inl kp)), (pd, .inl (G.2 0, 16, .inl dp)), (pw, .inl (G.2 0, 16, .inl tw)), (pv, .inl (G.2 0, 16, .inl u_220)), (ps, .inl (G.2 0, 16, .inl st))]) [0, 1, 2, 3, 4, 5] (by decide) rfl
            refine gx_v (G := G) (wc := [(p, .inr (1, [.ref pk, .ref pd, .ref pw, .ref pv, .ref ps, .int tn, .int tr, .int tre, .int moved_213, .int seen_214])), (pk, .inl (G.2 0, 16, .inl kp)), (pd, .inl (G.2 0, 16, .inl dp)), (pw, .inl (G.2 0, 16, .inl tw)), (pv, .inl (G.2 0, 16, .inl u_220)), (ps, .inl (G.2 0, 16, .inl st))]) (wr := []) (va_runV (As := [.int r_219, .int x4_179, .int ((dp r_1.toNatClampNeg) + 1)]) (rest := []) ⟨hx, hb, hml, hown, hts⟩ (ct_X5_visits lL G 17 p pk pd pw pv ps E_221 S_221 d_221 n_221 b_221 L_221 hi_221 x_221 kp dp tw u_220 st tn tr tre moved_213 seen_214 r_219 x4_179 ((dp r_1.toNatClampNeg) + 1) h.1 _) (cwV 3 hts (lw_V q1381 q1383 qs60 q171 q1384) rfl rfl rfl (by decide +kernel) ⟨Nat.le_of_ble_eq_true rfl, Nat.le_of_ble_eq_true rfl⟩) (gx_preV hK hPc hDc 1 0 rfl rfl) rfl rfl hl.1 rfl (lv_room (Nat.le_of_ble_eq_true rfl)) dX5_lifts_147 ⟨Nat.le_of_ble_eq_true rfl, Nat.le_of_ble_eq_true rfl⟩) hP hD hS hA [0, 1, 2, 3, 4, 5] [] rfl rfl (by decide) (by decide) (fun u_221 H locs hw_221 hP hD hS => ?_)
            replace h := h.2
            obtain ⟨wt_221, tm_221, ts_221⟩ := u_221
            have hP : va_P G.1 vwCl [(p, .inr (1, [.ref pk, .ref pd, .ref pw, .ref pv, .ref ps, .int tn, .int tr, .int tre, .int tm_221, .int ts_221])), (pk, .inl (G.2 0, 16, .inl kp)), (pd, .inl (G.2 0, 16, .inl dp)), (pw, .inl (G.2 0, 16, .inl tw)), (pv, .inl (G.2 0, 16, .inl wt_221)), (ps, .inl (G.2 0, 16, .inl st))] H := hP
            have hD : va_D AA [(p, .inr (1, [.ref pk, .ref pd, .ref pw, .ref pv, .ref ps, .int tn, .int tr, .int tre, .int tm_221, .int ts_221])), (pk, .inl (G.2 0, 16, .inl kp)), (pd, .inl (G.2 0, 16, .inl dp)), (pw, .inl (G.2 0, 16, .inl tw)), (pv, .inl (G.2 0, 16, .inl wt_221)), (ps, .inl (G.2 0, 16, .inl st))] := hD
            replace h := h wt_221 tm_221 ts_221 hw_221
            refine lv_goto (tgt := 96) hx hb dX5_lifts_150 (by decide) ?_
            exact h _ _ _ hP hD hS (lv_sub hl [1, 2, 3] rfl))
    refine h (fun (x4_223 : Int32) (a_224 : Nat → Int32) => ∀ (H : Heap) (locs : List Loc) (ls : Array Slot), va_P G.1 vwCl [(p, .inr (1, [.ref pk, .ref pd, .ref pw, .ref pv, .ref ps, .int tn, .int tr, .int tre, .int tm, .int ts])), (pk, .inl (G.2 0, 16, .inl kp)), (pd, .inl (G.2 0, 16, .inl dp)), (pw, .inl (G.2 0, 16, .inl tw)), (pv, .inl (G.2 0, 16, .inl a_224)), (ps, .inl (G.2 0, 16, .inl st))] H → va_D AA [(p, .inr (1, [.ref pk, .ref pd, .ref pw, .ref pv, .ref ps, .int tn, .int tr, .int tre, .int tm, .int ts])), (pk, .inl (G.2 0, 16, .inl kp)), (pd, .inl (G.2 0, 16, .inl dp)), (pw, .inl (G.2 0, 16, .inl tw)), (pv, .inl (G.2 0, 16, .inl a_224)), (ps, .inl (G.2 0, 16, .inl st))] → va_S AA sS.heap H locs → lv_has ls 6 [(4, .int x4_223), (3, .int r_1), (0, .ref p), (2, .int b)] → W pp lL eE RX5_lifts sS mM ar below meth cC H locs 0 0 QQ (F0 mM 28 ls [])) ?_  _ _ _ hP hD hS (lv_sub hl [0, 1, 2, 4] rfl)
    clear h
    intro x4_223 a_224 h H locs ls hP hD hS hl
    refine lv_iload hx hb dX5_lifts_28 (lv_at hl 0 rfl) ?_
    refine lv_bipush (v := 16) hx hb dX5_lifts_30 (by decide) ?_
    refine lv_icmp_ge (tgt := 49) hx hb dX5_lifts_32 (by decide) (fun c_226 => ?_) (fun c_226 => ?_)
    · replace h := h.1 c_226
      exact h _ _ _ hP hD hS (lv_sub hl [1, 2, 3] rfl)
    · replace h := h.2 c_226
      refine lv_aload_n hx hb dX5_lifts_35 rfl (lv_at hl 2 rfl) ?_
      refine va_get (D := G.1) (ci := 1) (v := .ref pv) (C := RX5) (T := TX5) (N := 10) hx hb hts in_X5 hown hK.1 hP 0 rfl rfl 3 (by decide) (hts _ q377) (fun _ h9 => h9) rfl dX5_lifts_36 ?_
      refine lv_iload hx hb dX5_lifts_39 (lv_at hl 0 rfl) ?_
      refine lv_iconst (v := 0) hx hb dX5_lifts_41 (by decide) ?_
      have b_227 := h.1
      refine va_iast hx hb hK.1 hP hD hS 4 0 rfl rfl b_227 dX5_lifts_42 (fun H locs hP hD hS => ?_)
      replace h := h.2
      obtain ⟨u_228, eu_228⟩ : ∃ z__, z__ = upd a_224 x4_223.toNatClampNeg 0 := ⟨_, rfl⟩
      replace h := h u_228 eu_228
      have hP : va_P G.1 vwCl [(p, .inr (1, [.ref pk, .ref pd, .ref pw, .ref pv, .ref ps, .int tn, .int tr, .int tre, .int tm, .int ts])), (pk, .inl (G.2 0, 16, .inl kp)), (pd, .inl (G.2 0, 16, .inl dp)), (pw, .inl (G.2 0, 16, .inl tw)), (pv, .inl (G.2 0, 16, .inl u_228)), (ps, .inl (G.2 0, 16, .inl st))] H := by rw [eu_228]; exact hP
      have hD : va_D AA [(p, .inr (1, [.ref pk, .ref pd, .ref pw, .ref pv, .ref ps, .int tn, .int tr, .int tre, .int tm, .int ts])), (pk, .inl (G.2 0, 16, .inl kp)), (pd, .inl (G.2 0, 16, .inl dp)), (pw, .inl (G.2 0, 16, .inl tw)), (pv, .inl (G.2 0, 16, .inl u_228)), (ps, .inl (G.2 0, 16, .inl st))] := by rw [eu_228]; exact hD
      refine lv_iinc (v := x4_223 + 1) (lv' := [(4, .int (x4_223 + 1)), (3, .int r_1), (0, .ref p), (2, .int b)]) hx hb dX5_lifts_43 hl (k := 0) rfl rfl (by decide) rfl (fun ls hl => ?_)
      refine lv_goto (tgt := 28) hx hb dX5_lifts_46 (by decide) ?_
      exact h _ _ _ hP hD hS hl
  · replace h := h.2 c_4
    subst hQQ; exact gx_vret (kp, dp, wt, tm, ts) hx hb hr hlocks hAe hP hD hS (Nat.le_of_ble_eq_true rfl) (Nat.le_of_ble_eq_true rfl) h dX5_lifts_24
theorem ct_X5_lifts (lL : Launch) (G : GE) (p pk pd pw pv ps : Nat) (E : Nat → Nat → Prop) (r n u v : Nat) (kp dp tw wt st : Nat → Int32) (tn tr tre tm ts a b : Int32) (hp : pr_X5_lifts E r n u v kp dp tw wt st tn tr tre tm ts a b) : CtV lL yX5_lifts (ws_ yX5_lifts cX5_lifts 6 none) RX5_lifts G [.ref p, .int a, .int b] [(p, .inr (1, [.ref pk, .ref pd, .ref pw, .ref pv, .ref ps, .int tn, .int tr, .int tre, .int tm, .int ts])), (pk, .inl (G.2 0, 16, .inl kp)), (pd, .inl (G.2 0, 16, .inl dp)), (pw, .inl (G.2 0, 16, .inl tw)), (pv, .inl (G.2 0, 16, .inl wt)), (ps, .inl (G.2 0, 16, .inl st))] (fun (uu_ : (Nat → Int32) × (Nat → Int32) × (Nat → Int32) × Int32 × Int32) => ps_X5_lifts E r n u v kp dp tw wt st tn tr tre tm ts a b uu_.1 uu_.2.1 uu_.2.2.1 uu_.2.2.2.1 uu_.2.2.2.2) (fun (uu_ : (Nat → Int32) × (Nat → Int32) × (Nat → Int32) × Int32 × Int32) => [(p, .inr (1, [.ref pk, .ref pd, .ref pw, .ref pv, .ref ps, .int tn, .int tr, .int tre, .int uu_.2.2.2.1, .int uu_.2.2.2.2])), (pk, .inl (G.2 0, 16, .inl uu_.1)), (pd, .inl (G.2 0, 16, .inl uu_.2.1)), (pw, .inl (G.2 0, 16, .inl tw)), (pv, .inl (G.2 0, 16, .inl uu_.2.2.1)), (ps, .inl (G.2 0, 16, .inl st))]) :=
  wk_X5_lifts lL G p pk pd pw pv ps kp dp tw wt st tn tr tre tm ts a b _ (pf_X5_lifts E r n u v kp dp tw wt st tn tr tre tm ts a b hp)
abbrev RX5_joins : Room := ({ frames := 21, cells := 1, slots := 16, locals := 490 } : Room)
set_option maxHeartbeats 4000000 in
set_option maxRecDepth 100000 in
theorem wk_X5_joins (lL : Launch) (G : GE) (p pk pd pw pv ps : Nat) (kp dp tw wt st : Nat → Int32) (tn tr tre tm ts a b : Int32) (Q : (Nat → Int32) → (Nat → Int32) → (Nat → Int32) → (Nat → Int32) → (Nat → Int32) → Int32 → Int32 → Int32 → Prop) (h : wp_X5_joins kp dp tw wt st tn tr tre tm ts a b Q) : CtV lL yX5_joins (ws_ yX5_joins cX5_joins 8 none) RX5_joins G [.ref p, .int a, .int b] [(p, .inr (1, [.ref pk, .ref pd, .ref pw, .ref pv, .ref ps, .int tn, .int tr, .int tre, .int tm, .int ts])), (pk, .inl (G.2 0, 16, .inl kp)), (pd, .inl (G.2 0, 16, .inl dp)), (pw, .inl (G.2 0, 16, .inl tw)), (pv, .inl (G.2 0, 16, .inl wt)), (ps, .inl (G.2 0, 16, .inl st))] (fun (uu_ : (Nat → Int32) × (Nat → Int32) × (Nat → Int32) × (Nat → Int32) × (Nat → Int32) × Int32 × Int32 × Int32) => Q uu_.1 uu_.2.1 uu_.2.2.1 uu_.2.2.2.1 uu_.2.2.2.2.1 uu_.2.2.2.2.2.1 uu_.2.2.2.2.2.2.1 uu_.2.2.2.2.2.2.2) (fun (uu_ : (Nat → Int32) × (Nat → Int32) × (Nat → Int32) × (Nat → Int32) × (Nat → Int32) × Int32 × Int32 × Int32) => [(p, .inr (1, [.ref pk, .ref pd, .ref pw, .ref pv, .ref ps, .int tn, .int tr, .int uu_.2.2.2.2.2.1, .int uu_.2.2.2.2.2.2.1, .int uu_.2.2.2.2.2.2.2])), (pk, .inl (G.2 0, 16, .inl uu_.1)), (pd, .inl (G.2 0, 16, .inl uu_.2.1)), (pw, .inl (G.2 0, 16, .inl uu_.2.2.1)), (pv, .inl (G.2 0, 16, .inl uu_.2.2.2.1)), (ps, .inl (G.2 0, 16, .inl uu_.2.2.2.2.1))]) := by
  refine gx_of (cc := cX5_joins) (maxL := 8) (ret := none) (by decide) (Nat.le_of_ble_eq_true rfl) ?_
  intro pp eE sS mM ar below meth cC AA ls QQ hx hb hr hml hts hown hlocks hnm hK hAe hQQ hP hD hA hS hl
  have hl : lv_has ls 8 [(0, .ref p), (1, .int a), (2, .int b)] := hl
  refine lv_aload_n hx hb dX5_joins_0 rfl (lv_at hl 0 rfl) ?_
  refine va_get (D := G.1) (ci := 1) (v := .int tre) (C := RX5) (T := TX5) (N := 10) hx hb hts in_X5 hown hK.1 hP 0 rfl rfl 7 (by decide) (hts _ q381) (fun _ h9 => h9) rfl dX5_joins_1 ?_
  refine lv_istore_n (lv' := [(3, .int tre), (0, .ref p), (1, .int a), (2, .int b)]) hx hb dX5_joins_4 rfl hl (by decide) rfl (fun ls hl => ?_)
  refine lv_aload_n hx hb dX5_joins_5 rfl (lv_at hl 1 rfl) ?_
  refine lv_iload_n hx hb dX5_joins_6 rfl (lv_at hl 3 rfl) ?_
  refine lv_iload_n hx hb dX5_joins_7 rfl (lv_at hl 0 rfl) ?_
  have hPc := hP.sub (ws' := [(p, .inr (1, [.ref pk, .ref pd, .ref pw, .ref pv, .ref ps, .int tn, .int tr, .int tre, .int tm, .int ts])), (pk, .inl (G.2 0, 16, .inl kp)), (pd, .inl (G.2 0, 16, .inl dp)), (pw, .inl (G.2 0, 16, .inl tw)), (pv, .inl (G.2 0, 16, .inl wt)), (ps, .inl (G.2 0, 16, .inl st))]) [0, 1, 2, 3, 4, 5] rfl
  have hDc := hD.sub (ws' := [(p, .inr (1, [.ref pk, .ref pd, .ref pw, .ref pv, .ref ps, .int tn, .int tr, .int tre, .int tm, .int ts])), (pk, .inl (G.2 0, 16, .inl kp)), (pd, .inl (G.2 0, 16, .inl dp)), (pw, .inl (G.2 0, 16, .inl tw)), (pv, .inl (G.2 0, 16, .inl wt)), (ps, .inl (G.2 0, 16, .inl st))]) [0, 1, 2, 3, 4, 5] (by decide) rfl
  refine gx_i (G := G) (wc := [(p, .inr (1, [.ref pk, .ref pd, .ref pw, .ref pv, .ref ps, .int tn, .int tr, .int tre, .int tm, .int ts])), (pk, .inl (G.2 0, 16, .inl kp)), (pd, .inl (G.2 0, 16, .inl dp)), (pw, .inl (G.2 0, 16, .inl tw)), (pv, .inl (G.2 0, 16, .inl wt)), (ps, .inl (G.2 0, 16, .inl st))]) (wr := []) (gx_runVD (n := 2) (As := [.int b, .int tre]) (rest := []) (x := ⟨"GateLifter$Tree", "reach", "(II)I"⟩) (owner := "GateLifter$Flow") (hK.1.1 1 _ rfl).2 ⟨hx, hb, hml, hown, hts⟩ (ct_X8_reach_T lL G p pk pd pw pv ps kp dp tw wt st tn tr tre tm ts b tre h.1 _) rfl (lw_meth q475) rfl rfl (hK.dw 1 rfl) (hK.dw 4 rfl) (va_Nw.use rfl (hK.nw q471 rfl)) (hK.lands 1 rfl) (hts _ q473) (hts _ q191) (by decide +kernel) ⟨Nat.le_of_ble_eq_true rfl, Nat.le_of_ble_eq_true rfl⟩ (gx_preV hK hPc hDc 1 0 rfl rfl) rfl rfl hl.1 rfl (lv_room (Nat.le_of_ble_eq_true rfl)) dX5_joins_8 ⟨Nat.le_of_ble_eq_true rfl, Nat.le_of_ble_eq_true rfl⟩) hP hD hS hA [0, 1, 2, 3, 4, 5] [] rfl rfl (by decide) (by decide) (fun r_1 u_1 H locs hw_1 hP hD hS => ?_)
  replace h := h.2
  have hP : va_P G.1 vwCl [(p, .inr (1, [.ref pk, .ref pd, .ref pw, .ref pv, .ref ps, .int tn, .int tr, .int tre, .int tm, .int ts])), (pk, .inl (G.2 0, 16, .inl kp)), (pd, .inl (G.2 0, 16, .inl dp)), (pw, .inl (G.2 0, 16, .inl tw)), (pv, .inl (G.2 0, 16, .inl wt)), (ps, .inl (G.2 0, 16, .inl st))] H := hP
  have hD : va_D AA [(p, .inr (1, [.ref pk, .ref pd, .ref pw, .ref pv, .ref ps, .int tn, .int tr, .int tre, .int tm, .int ts])), (pk, .inl (G.2 0, 16, .inl kp)), (pd, .inl (G.2 0, 16, .inl dp)), (pw, .inl (G.2 0, 16, .inl tw)), (pv, .inl (G.2 0, 16, .inl wt)), (ps, .inl (G.2 0, 16, .inl st))] := hD
  replace h := h r_1 hw_1
  refine lv_istore (lv' := [(4, .int r_1), (3, .int tre), (0, .ref p), (1, .int a), (2, .int b)]) hx hb dX5_joins_11 hl (by decide) rfl (fun ls hl => ?_)
  refine lv_bipush (v := 16) hx hb dX5_joins_13 (by decide) ?_
  refine gx_newa (atype := .int) (ty := .int) (a0 := (16, .inl (fun _ => 0))) hx hb (hts _ q254) rfl (fun _ => FieldType.noConfusion) hK 0 rfl hP hD hS hA (fun _ => rfl) (by decide) rfl (Nat.le_of_ble_eq_true rfl) (Nat.le_of_ble_eq_true rfl) (Nat.le_of_ble_eq_true rfl) dX5_joins_15 (fun q_2 H hP hD hS => ?_)
  have hP : va_P G.1 vwCl [(p, .inr (1, [.ref pk, .ref pd, .ref pw, .ref pv, .ref ps, .int tn, .int tr, .int tre, .int tm, .int ts])), (pk, .inl (G.2 0, 16, .inl kp)), (pd, .inl (G.2 0, 16, .inl dp)), (pw, .inl (G.2 0, 16, .inl tw)), (pv, .inl (G.2 0, 16, .inl wt)), (ps, .inl (G.2 0, 16, .inl st)), (q_2, .inl (G.2 0, 16, .inl (fun _ => 0)))] H := hP
  have hD : va_D AA [(p, .inr (1, [.ref pk, .ref pd, .ref pw, .ref pv, .ref ps, .int tn, .int tr, .int tre, .int tm, .int ts])), (pk, .inl (G.2 0, 16, .inl kp)), (pd, .inl (G.2 0, 16, .inl dp)), (pw, .inl (G.2 0, 16, .inl tw)), (pv, .inl (G.2 0, 16, .inl wt)), (ps, .inl (G.2 0, 16, .inl st)), (q_2, .inl (G.2 0, 16, .inl (fun _ => 0)))] := hD
  refine lv_astore (lv' := [(5, .ref q_2), (4, .int r_1), (3, .int tre), (0, .ref p), (1, .int a), (2, .int b)]) hx hb dX5_joins_17 hl (by decide) rfl (fun ls hl => ?_)
  refine lv_iconst (v := 0) hx hb dX5_joins_19 (by decide) ?_
  refine lv_istore (lv' := [(6, .int 0), (5, .ref q_2), (4, .int r_1), (3, .int tre), (0, .ref p), (1, .int a), (2, .int b)]) hx hb dX5_joins_20 hl (by decide) rfl (fun ls hl => ?_)
  replace h := h (fun (a_29 : Nat → Int32) (a_30 : Nat → Int32) => ∀ (H : Heap) (locs : List Loc) (ls : Array Slot), va_P G.1 vwCl [(p, .inr (1, [.ref pk, .ref pd, .ref pw, .ref pv, .ref ps, .int tn, .int tr, .int tre, .int tm, .int ts])), (pk, .inl (G.2 0, 16, .inl kp)), (pd, .inl (G.2 0, 16, .inl dp)), (pw, .inl (G.2 0, 16, .inl a_29)), (pv, .inl (G.2 0, 16, .inl wt)), (ps, .inl (G.2 0, 16, .inl st)), (q_2, .inl (G.2 0, 16, .inl a_30))] H → va_D AA [(p, .inr (1, [.ref pk, .ref pd, .ref pw, .ref pv, .ref ps, .int tn, .int tr, .int tre, .int tm, .int ts])), (pk, .inl (G.2 0, 16, .inl kp)), (pd, .inl (G.2 0, 16, .inl dp)), (pw, .inl (G.2 0, 16, .inl a_29)), (pv, .inl (G.2 0, 16, .inl wt)), (ps, .inl (G.2 0, 16, .inl st)), (q_2, .inl (G.2 0, 16, .inl a_30))] → va_S AA sS.heap H locs → lv_has ls 8 [(5, .ref q_2), (4, .int r_1), (0, .ref p), (1, .int a), (2, .int b)] → W pp lL eE RX5_joins sS mM ar below meth cC H locs 1 16 QQ (F0 mM 74 ls [])) (by
      clear h
      intro a_29 a_30 h H locs ls hP hD hS hl
      refine lv_aload_n hx hb dX5_joins_74 rfl (lv_at hl 2 rfl) ?_
      refine lv_dup hx hb dX5_joins_75 rfl ?_
      refine va_get (D := G.1) (ci := 1) (v := .int tre) (C := RX5) (T := TX5) (N := 10) hx hb hts in_X5 hown hK.1 hP 0 rfl rfl 7 (by decide) (hts _ q381) (fun _ h9 => h9) rfl dX5_joins_76 ?_
      refine lv_iload hx hb dX5_joins_79 (lv_at hl 1 rfl) ?_
      refine lv_ior hx hb dX5_joins_81 ?_
      refine va_put (D := G.1) (ci := 1) (v := .int (tre ||| r_1)) (ty := .int) (C := RX5) (T := TX5) (N := 10) hx hb hts in_X5 tyX5 tyX5_ok nmX5 hown hK.1 hP hD hS 0 rfl rfl 7 (by decide) (hts _ q381) (fun _ h9 => h9) rfl (by decide +kernel) rfl rfl (Nat.le_of_ble_eq_true rfl) dX5_joins_82 (fun H locs hP hD hS => ?_)
      have hP : va_P G.1 vwCl [(p, .inr (1, [.ref pk, .ref pd, .ref pw, .ref pv, .ref ps, .int tn, .int tr, .int (tre ||| r_1), .int tm, .int ts])), (pk, .inl (G.2 0, 16, .inl kp)), (pd, .inl (G.2 0, 16, .inl dp)), (pw, .inl (G.2 0, 16, .inl a_29)), (pv, .inl (G.2 0, 16, .inl wt)), (ps, .inl (G.2 0, 16, .inl st)), (q_2, .inl (G.2 0, 16, .inl a_30))] H := hP
      have hD : va_D AA [(p, .inr (1, [.ref pk, .ref pd, .ref pw, .ref pv, .ref ps, .int tn, .int tr, .int (tre ||| r_1), .int tm, .int ts])), (pk, .inl (G.2 0, 16, .inl kp)), (pd, .inl (G.2 0, 16, .inl dp)), (pw, .inl (G.2 0, 16, .inl a_29)), (pv, .inl (G.2 0, 16, .inl wt)), (ps, .inl (G.2 0, 16, .inl st)), (q_2, .inl (G.2 0, 16, .inl a_30))] := hD
      refine lv_aload_n hx hb dX5_joins_85 rfl (lv_at hl 2 rfl) ?_
      refine lv_iload_n hx hb dX5_joins_86 rfl (lv_at hl 4 rfl) ?_
      refine lv_iload hx hb dX5_joins_87 (lv_at hl 1 rfl) ?_
      refine lv_iload_n hx hb dX5_joins_89 rfl (lv_at hl 3 rfl) ?_
      have hPc := hP.sub (ws' := [(p, .inr (1, [.ref pk, .ref pd, .ref pw, .ref pv, .ref ps, .int tn, .int tr, .int (tre ||| r_1), .int tm, .int ts])), (pk, .inl (G.2 0, 16, .inl kp)), (pd, .inl (G.2 0, 16, .inl dp)), (pw, .inl (G.2 0, 16, .inl a_29)), (pv, .inl (G.2 0, 16, .inl wt)), (ps, .inl (G.2 0, 16, .inl st))]) [0, 1, 2, 3, 4, 5] rfl
      have hDc := hD.sub (ws' := [(p, .inr (1, [.ref pk, .ref pd, .ref pw, .ref pv, .ref ps, .int tn, .int tr, .int (tre ||| r_1), .int tm, .int ts])), (pk, .inl (G.2 0, 16, .inl kp)), (pd, .inl (G.2 0, 16, .inl dp)), (pw, .inl (G.2 0, 16, .inl a_29)), (pv, .inl (G.2 0, 16, .inl wt)), (ps, .inl (G.2 0, 16, .inl st))]) [0, 1, 2, 3, 4, 5] (by decide) rfl
      refine gx_v (G := G) (wc := [(p, .inr (1, [.ref pk, .ref pd, .ref pw, .ref pv, .ref ps, .int tn, .int tr, .int (tre ||| r_1), .int tm, .int ts])), (pk, .inl (G.2 0, 16, .inl kp)), (pd, .inl (G.2 0, 16, .inl dp)), (pw, .inl (G.2 0, 16, .inl a_29)), (pv, .inl (G.2 0, 16, .inl wt)), (ps, .inl (G.2 0, 16, .inl st))]) (wr := [(q_2, .inl (G.2 0, 16, .inl a_30))]) (va_runV (As := [.int b, .int r_1, .int a]) (rest := []) ⟨hx, hb, hml, hown, hts⟩ (ct_X5_keepsAll lL G p pk pd pw pv ps kp dp a_29 wt st tn tr (tre ||| r_1) tm ts b r_1 a h.1 _) (cwV 3 hts (lw_V q525 q527 qs2 q171 q528) rfl rfl rfl (by decide +kernel) ⟨Nat.le_of_ble_eq_true rfl, Nat.le_of_ble_eq_true rfl⟩) (gx_preV hK hPc hDc 1 0 rfl rfl) rfl rfl hl.1 rfl (lv_room (Nat.le_of_ble_eq_true rfl)) dX5_joins_90 ⟨Nat.le_of_ble_eq_true rfl, Nat.le_of_ble_eq_true rfl⟩) hP hD hS hA [0, 1, 2, 3, 4, 5] [6] rfl rfl (by decide) (by decide) (fun u_31 H locs hw_31 hP hD hS => ?_)
      replace h := h.2
      obtain ⟨kp_31, dp_31, st_31⟩ := u_31
      have hP : va_P G.1 vwCl [(p, .inr (1, [.ref pk, .ref pd, .ref pw, .ref pv, .ref ps, .int tn, .int tr, .int (tre ||| r_1), .int tm, .int ts])), (pk, .inl (G.2 0, 16, .inl kp_31)), (pd, .inl (G.2 0, 16, .inl dp_31)), (pw, .inl (G.2 0, 16, .inl a_29)), (pv, .inl (G.2 0, 16, .inl wt)), (ps, .inl (G.2 0, 16, .inl st_31)), (q_2, .inl (G.2 0, 16, .inl a_30))] H := hP.sub [1, 2, 3, 4, 5, 6, 0] rfl
      have hD : va_D AA [(p, .inr (1, [.ref pk, .ref pd, .ref pw, .ref pv, .ref ps, .int tn, .int tr, .int (tre ||| r_1), .int tm, .int ts])), (pk, .inl (G.2 0, 16, .inl kp_31)), (pd, .inl (G.2 0, 16, .inl dp_31)), (pw, .inl (G.2 0, 16, .inl a_29)), (pv, .inl (G.2 0, 16, .inl wt)), (ps, .inl (G.2 0, 16, .inl st_31)), (q_2, .inl (G.2 0, 16, .inl a_30))] := hD.sub [1, 2, 3, 4, 5, 6, 0] (by decide) rfl
      replace h := h kp_31 dp_31 st_31 hw_31
      refine lv_iconst (v := 0) hx hb dX5_joins_93 (by decide) ?_
      refine lv_istore (lv' := [(6, .int 0), (5, .ref q_2), (4, .int r_1), (0, .ref p), (1, .int a), (2, .int b)]) hx hb dX5_joins_94 hl (by decide) rfl (fun ls hl => ?_)
      replace h := h (fun (moved_215 : Int32) (seen_216 : Int32) (a_217 : Nat → Int32) (a_218 : Nat → Int32) (a_219 : Nat → Int32) (a_220 : Nat → Int32) => ∀ (H : Heap) (locs : List Loc) (ls : Array Slot), va_P G.1 vwCl [(p, .inr (1, [.ref pk, .ref pd, .ref pw, .ref pv, .ref ps, .int tn, .int tr, .int (tre ||| r_1), .int moved_215, .int seen_216])), (pk, .inl (G.2 0, 16, .inl a_217)), (pd, .inl (G.2 0, 16, .inl a_218)), (pw, .inl (G.2 0, 16, .inl a_219)), (pv, .inl (G.2 0, 16, .inl a_220)), (ps, .inl (G.2 0, 16, .inl st_31)), (q_2, .inl (G.2 0, 16, .inl a_30))] H → va_D AA [(p, .inr (1, [.ref pk, .ref pd, .ref pw, .ref pv, .ref ps, .int tn, .int tr, .int (tre ||| r_1), .int moved_215, .int seen_216])), (pk, .inl (G.2 0, 16, .inl a_217)), (pd, .inl (G.2 0, 16, .inl a_218)), (pw, .inl (G.2 0, 16, .inl a_219)), (pv, .inl (G.2 0, 16, .inl a_220)), (ps, .inl (G.2 0, 16, .inl st_31)), (q_2, .inl (G.2 0, 16, .inl a_30))] → va_S AA sS.heap H locs → lv_has ls 8 [] → W pp lL eE RX5_joins sS mM ar below meth cC H locs 1 16 QQ (F0 mM 167 ls [])) (by
          clear h
          intro moved_215 seen_216 a_217 a_218 a_219 a_220 h H locs ls hP hD hS hl
          subst hQQ; exact gx_vret (a_217, a_218, a_219, a_220, st_31, (tre ||| r_1), moved_215, seen_216) hx hb hr hlocks hAe (hP.sub [0, 1, 2, 3, 4, 5] rfl) (hD.sub [0, 1, 2, 3, 4, 5] (by decide) rfl) hS (Nat.le_of_ble_eq_true rfl) (Nat.le_of_ble_eq_true rfl) h dX5_joins_167)
      refine h (fun (x6_222 : Int32) (moved_223 : Int32) (seen_224 : Int32) (a_225 : Nat → Int32) (a_226 : Nat → Int32) (a_227 : Nat → Int32) (a_228 : Nat → Int32) => ∀ (H : Heap) (locs : List Loc) (ls : Array Slot), va_P G.1 vwCl [(p, .inr (1, [.ref pk, .ref pd, .ref pw, .ref pv, .ref ps, .int tn, .int tr, .int (tre ||| r_1), .int moved_223, .int seen_224])), (pk, .inl (G.2 0, 16, .inl a_225)), (pd, .inl (G.2 0, 16, .inl a_226)), (pw, .inl (G.2 0, 16, .inl a_227)), (pv, .inl (G.2 0, 16, .inl a_228)), (ps, .inl (G.2 0, 16, .inl st_31)), (q_2, .inl (G.2 0, 16, .inl a_30))] H → va_D AA [(p, .inr (1, [.ref pk, .ref pd, .ref pw, .ref pv, .ref ps, .int tn, .int tr, .int (tre ||| r_1), .int moved_223, .int seen_224])), (pk, .inl (G.2 0, 16, .inl a_225)), (pd, .inl (G.2 0, 16, .inl a_226)), (pw, .inl (G.2 0, 16, .inl a_227)), (pv, .inl (G.2 0, 16, .inl a_228)), (ps, .inl (G.2 0, 16, .inl st_31)), (q_2, .inl (G.2 0, 16, .inl a_30))] → va_S AA sS.heap H locs → lv_has ls 8 [(6, .int x6_222), (5, .ref q_2), (0, .ref p)] → W pp lL eE RX5_joins sS mM ar below meth cC H locs 1 16 QQ (F0 mM 96 ls [])) ?_  _ _ _ hP hD hS (lv_sub hl [0, 1, 3] rfl)
      clear h
      intro x6_222 moved_223 seen_224 a_225 a_226 a_227 a_228 h H locs ls hP hD hS hl
      refine lv_iload hx hb dX5_joins_96 (lv_at hl 0 rfl) ?_
      refine lv_aload_n hx hb dX5_joins_98 rfl (lv_at hl 2 rfl) ?_
      refine va_get (D := G.1) (ci := 1) (v := .int tn) (C := RX5) (T := TX5) (N := 10) hx hb hts in_X5 hown hK.1 hP 0 rfl rfl 5 (by decide) (hts _ q379) (fun _ h9 => h9) rfl dX5_joins_99 ?_
      refine lv_icmp_ge (tgt := 167) hx hb dX5_joins_102 (by decide) (fun c_230 => ?_) (fun c_230 => ?_)
      · replace h := h.1 c_230
        exact h _ _ _ hP hD hS (lv_sub hl [] rfl)
      · replace h := h.2 c_230
        refine lv_iconst (v := 0) hx hb dX5_joins_105 (by decide) ?_
        refine lv_istore (lv' := [(7, .int 0), (6, .int x6_222), (5, .ref q_2), (0, .ref p)]) hx hb dX5_joins_106 hl (by decide) rfl (fun ls hl => ?_)
        replace h := h (fun (moved_266 : Int32) (seen_267 : Int32) (a_268 : Nat → Int32) (a_269 : Nat → Int32) (a_270 : Nat → Int32) (a_271 : Nat → Int32) => ∀ (H : Heap) (locs : List Loc) (ls : Array Slot), va_P G.1 vwCl [(p, .inr (1, [.ref pk, .ref pd, .ref pw, .ref pv, .ref ps, .int tn, .int tr, .int (tre ||| r_1), .int moved_266, .int seen_267])), (pk, .inl (G.2 0, 16, .inl a_268)), (pd, .inl (G.2 0, 16, .inl a_269)), (pw, .inl (G.2 0, 16, .inl a_270)), (pv, .inl (G.2 0, 16, .inl a_271)), (ps, .inl (G.2 0, 16, .inl st_31)), (q_2, .inl (G.2 0, 16, .inl a_30))] H → va_D AA [(p, .inr (1, [.ref pk, .ref pd, .ref pw, .ref pv, .ref ps, .int tn, .int tr, .int (tre ||| r_1), .int moved_266, .int seen_267])), (pk, .inl (G.2 0, 16, .inl a_268)), (pd, .inl (G.2 0, 16, .inl a_269)), (pw, .inl (G.2 0, 16, .inl a_270)), (pv, .inl (G.2 0, 16, .inl a_271)), (ps, .inl (G.2 0, 16, .inl st_31)), (q_2, .inl (G.2 0, 16, .inl a_30))] → va_S AA sS.heap H locs → lv_has ls 8 [(6, .int x6_222), (5, .ref q_2), (0, .ref p)] → W pp lL eE RX5_joins sS mM ar below meth cC H locs 1 16 QQ (F0 mM 161 ls [])) (by
            clear h
            intro moved_266 seen_267 a_268 a_269 a_270 a_271 h H locs ls hP hD hS hl
            refine lv_iinc (v := x6_222 + 1) (lv' := [(6, .int (x6_222 + 1)), (5, .ref q_2), (0, .ref p)]) hx hb dX5_joins_161 hl (k := 0) rfl rfl (by decide) rfl (fun ls hl => ?_)
            refine lv_goto (tgt := 96) hx hb dX5_joins_164 (by decide) ?_
            exact h _ _ _ hP hD hS hl)
        refine h (fun (x7_273 : Int32) (moved_274 : Int32) (seen_275 : Int32) (a_276 : Nat → Int32) (a_277 : Nat → Int32) (a_278 : Nat → Int32) (a_279 : Nat → Int32) => ∀ (H : Heap) (locs : List Loc) (ls : Array Slot), va_P G.1 vwCl [(p, .inr (1, [.ref pk, .ref pd, .ref pw, .ref pv, .ref ps, .int tn, .int tr, .int (tre ||| r_1), .int moved_274, .int seen_275])), (pk, .inl (G.2 0, 16, .inl a_276)), (pd, .inl (G.2 0, 16, .inl a_277)), (pw, .inl (G.2 0, 16, .inl a_278)), (pv, .inl (G.2 0, 16, .inl a_279)), (ps, .inl (G.2 0, 16, .inl st_31)), (q_2, .inl (G.2 0, 16, .inl a_30))] H → va_D AA [(p, .inr (1, [.ref pk, .ref pd, .ref pw, .ref pv, .ref ps, .int tn, .int tr, .int (tre ||| r_1), .int moved_274, .int seen_275])), (pk, .inl (G.2 0, 16, .inl a_276)), (pd, .inl (G.2 0, 16, .inl a_277)), (pw, .inl (G.2 0, 16, .inl a_278)), (pv, .inl (G.2 0, 16, .inl a_279)), (ps, .inl (G.2 0, 16, .inl st_31)), (q_2, .inl (G.2 0, 16, .inl a_30))] → va_S AA sS.heap H locs → lv_has ls 8 [(7, .int x7_273), (6, .int x6_222), (5, .ref q_2), (0, .ref p)] → W pp lL eE RX5_joins sS mM ar below meth cC H locs 1 16 QQ (F0 mM 108 ls [])) ?_  _ _ _ hP hD hS hl
        clear h
        intro x7_273 moved_274 seen_275 a_276 a_277 a_278 a_279 h H locs ls hP hD hS hl
        refine lv_iload hx hb dX5_joins_108 (lv_at hl 0 rfl) ?_
        refine lv_aload_n hx hb dX5_joins_110 rfl (lv_at hl 3 rfl) ?_
        refine va_get (D := G.1) (ci := 1) (v := .int tn) (C := RX5) (T := TX5) (N := 10) hx hb hts in_X5 hown hK.1 hP 0 rfl rfl 5 (by decide) (hts _ q379) (fun _ h9 => h9) rfl dX5_joins_111 ?_
        refine lv_icmp_ge (tgt := 161) hx hb dX5_joins_114 (by decide) (fun c_281 => ?_) (fun c_281 => ?_)
        · replace h := h.1 c_281
          exact h _ _ _ hP hD hS (lv_sub hl [1, 2, 3] rfl)
        · replace h := h.2 c_281
          refine lv_aload hx hb dX5_joins_117 (lv_at hl 2 rfl) ?_
          refine lv_iload hx hb dX5_joins_119 (lv_at hl 1 rfl) ?_
          have b_282 := h.1
          refine va_iald hx hb hK.1 hP 6 0 rfl rfl b_282 dX5_joins_121 ?_
          replace h := h.2
          refine lv_iload hx hb dX5_joins_122 (lv_at hl 0 rfl) ?_
          have hPc := hP.sub (ws' := []) [] rfl
          have hDc := hD.sub (ws' := []) [] (by decide) rfl
          refine gx_i (G := G) (wc := []) (wr := [(p, .inr (1, [.ref pk, .ref pd, .ref pw, .ref pv, .ref ps, .int tn, .int tr, .int (tre ||| r_1), .int moved_274, .int seen_275])), (pk, .inl (G.2 0, 16, .inl a_276)), (pd, .inl (G.2 0, 16, .inl a_277)), (pw, .inl (G.2 0, 16, .inl a_278)), (pv, .inl (G.2 0, 16, .inl a_279)), (ps, .inl (G.2 0, 16, .inl st_31)), (q_2, .inl (G.2 0, 16, .inl a_30))]) (va_runSN (As := [.int (a_30 x6_222.toNatClampNeg), .int x7_273]) (rest := []) ⟨hx, hb, hml, hown, hts⟩ (ct_X1_has lL G (a_30 x6_222.toNatClampNeg) x7_273 _) ⟨va_cnB 2 hts (lw_meth q502) rfl rfl rfl (hK.nw q537 rfl) (hts _ q164) (by decide +kernel) ⟨Nat.le_of_ble_eq_true rfl, Nat.le_of_ble_eq_true rfl⟩, hts _ q501, trivial⟩ (gx_preS hK hPc hDc) rfl rfl hl.1 rfl (lv_room (Nat.le_of_ble_eq_true rfl)) dX5_joins_124 ⟨Nat.le_of_ble_eq_true rfl, Nat.le_of_ble_eq_true rfl⟩) hP hD hS hA [] [0, 1, 2, 3, 4, 5, 6] rfl rfl (by decide) (by decide) (fun r_283 u_283 H locs hw_283 hP hD hS => ?_)
          have hP : va_P G.1 vwCl [(p, .inr (1, [.ref pk, .ref pd, .ref pw, .ref pv, .ref ps, .int tn, .int tr, .int (tre ||| r_1), .int moved_274, .int seen_275])), (pk, .inl (G.2 0, 16, .inl a_276)), (pd, .inl (G.2 0, 16, .inl a_277)), (pw, .inl (G.2 0, 16, .inl a_278)), (pv, .inl (G.2 0, 16, .inl a_279)), (ps, .inl (G.2 0, 16, .inl st_31)), (q_2, .inl (G.2 0, 16, .inl a_30))] H := hP
          have hD : va_D AA [(p, .inr (1, [.ref pk, .ref pd, .ref pw, .ref pv, .ref ps, .int tn, .int tr, .int (tre ||| r_1), .int moved_274, .int seen_275])), (pk, .inl (G.2 0, 16, .inl a_276)), (pd, .inl (G.2 0, 16, .inl a_277)), (pw, .inl (G.2 0, 16, .inl a_278)), (pv, .inl (G.2 0, 16, .inl a_279)), (ps, .inl (G.2 0, 16, .inl st_31)), (q_2, .inl (G.2 0, 16, .inl a_30))] := hD
          replace h := h r_283 hw_283
          refine lv_if_ne (tgt := 133) hx hb dX5_joins_127 (by decide) (fun c_284 => ?_) (fun c_284 => ?_)
          · replace h := h.1 c_284
            refine lv_aload_n hx hb dX5_joins_133 rfl (lv_at hl 3 rfl) ?_
            refine va_get (D := G.1) (ci := 1) (v := .ref pw) (C := RX5) (T := TX5) (N := 10) hx hb hts in_X5 hown hK.1 hP 0 rfl rfl 2 (by decide) (hts _ q376) (fun _ h9 => h9) rfl dX5_joins_134 ?_
            refine lv_iload hx hb dX5_joins_137 (lv_at hl 1 rfl) ?_
            refine lv_dup2_11 hx hb dX5_joins_139 rfl rfl ?_
            refine va_iald hx hb hK.1 hP 3 0 rfl rfl b_282 dX5_joins_140 ?_
            refine lv_iconst (v := 1) hx hb dX5_joins_141 (by decide) ?_
            refine lv_iload hx hb dX5_joins_142 (lv_at hl 0 rfl) ?_
            refine lv_ishl hx hb dX5_joins_144 ?_
            refine lv_ior hx hb dX5_joins_145 ?_
            refine va_iast hx hb hK.1 hP hD hS 3 0 rfl rfl b_282 dX5_joins_146 (fun H locs hP hD hS => ?_)
            obtain ⟨u_285, eu_285⟩ : ∃ z__, z__ = upd a_278 x6_222.toNatClampNeg ((a_278 x6_222.toNatClampNeg) ||| (1 <<< (x7_273 &&& 31))) := ⟨_, rfl⟩
            replace h := h u_285 eu_285
            have hP : va_P G.1 vwCl [(p, .inr (1, [.ref pk, .ref pd, .ref pw, .ref pv, .ref ps, .int tn, .int tr, .int (tre ||| r_1), .int moved_274, .int seen_275])), (pk, .inl (G.2 0, 16, .inl a_276)), (pd, .inl (G.2 0, 16, .inl a_277)), (pw, .inl (G.2 0, 16, .inl u_285)), (pv, .inl (G.2 0, 16, .inl a_279)), (ps, .inl (G.2 0, 16, .inl st_31)), (q_2, .inl (G.2 0, 16, .inl a_30))] H := by rw [eu_285]; exact hP
            have hD : va_D AA [(p, .inr (1, [.ref pk, .ref pd, .ref pw, .ref pv, .ref ps, .int tn, .int tr, .int (tre ||| r_1), .int moved_274, .int seen_275])), (pk, .inl (G.2 0, 16, .inl a_276)), (pd, .inl (G.2 0, 16, .inl a_277)), (pw, .inl (G.2 0, 16, .inl u_285)), (pv, .inl (G.2 0, 16, .inl a_279)), (ps, .inl (G.2 0, 16, .inl st_31)), (q_2, .inl (G.2 0, 16, .inl a_30))] := by rw [eu_285]; exact hD
            refine lv_aload_n hx hb dX5_joins_147 rfl (lv_at hl 3 rfl) ?_
            refine lv_iload hx hb dX5_joins_148 (lv_at hl 1 rfl) ?_
            refine lv_iload hx hb dX5_joins_150 (lv_at hl 0 rfl) ?_
            obtain ⟨E_286, r_286, n_286, u_286, v_286, h⟩ := h
            have hPc := hP.sub (ws' := [(p, .inr (1, [.ref pk, .ref pd, .ref pw, .ref pv, .ref ps, .int tn, .int tr, .int (tre ||| r_1), .int moved_274, .int seen_275])), (pk, .inl (G.2 0, 16, .inl a_276)), (pd, .inl (G.2 0, 16, .inl a_277)), (pw, .inl (G.2 0, 16, .inl u_285)), (pv, .inl (G.2 0, 16, .inl a_279)), (ps, .inl (G.2 0, 16, .inl st_31))]) [0, 1, 2, 3, 4, 5] rfl
            have hDc := hD.sub (ws' := [(p, .inr (1, [.ref pk, .ref pd, .ref pw, .ref pv, .ref ps, .int tn, .int tr, .int (tre ||| r_1), .int moved_274, .int seen_275])), (pk, .inl (G.2 0, 16, .inl a_276)), (pd, .inl (G.2 0, 16, .inl a_277)), (pw, .inl (G.2 0, 16, .inl u_285)), (pv, .inl (G.2 0, 16, .inl a_279)), (ps, .inl (G.2 0, 16, .inl st_31))]) [0, 1, 2, 3, 4, 5] (by decide) rfl
            refine gx_v (G := G) (wc := [(p, .inr (1, [.ref pk, .ref pd, .ref pw, .ref pv, .ref ps, .int tn, .int tr, .int (tre ||| r_1), .int moved_274, .int seen_275])), (pk, .inl (G.2 0, 16, .inl a_276)), (pd, .inl (G.2 0, 16, .inl a_277)), (pw, .inl (G.2 0, 16, .inl u_285)), (pv, .inl (G.2 0, 16, .inl a_279)), (ps, .inl (G.2 0, 16, .inl st_31))]) (wr := [(q_2, .inl (G.2 0, 16, .inl a_30))]) (va_runV (As := [.int x6_222, .int x7_273]) (rest := []) ⟨hx, hb, hml, hown, hts⟩ (ct_X5_lifts lL G p pk pd pw pv ps E_286 r_286 n_286 u_286 v_286 a_276 a_277 u_285 a_279 st_31 tn tr (tre ||| r_1) moved_274 seen_275 x6_222 x7_273 h.1 _) (cwV 2 hts (lw_V q1372 q1374 qs59 q171 q1375) rfl rfl rfl (by decide +kernel) ⟨Nat.le_of_ble_eq_true rfl, Nat.le_of_ble_eq_true rfl⟩) (gx_preV hK hPc hDc 1 0 rfl rfl) rfl rfl hl.1 rfl (lv_room (Nat.le_of_ble_eq_true rfl)) dX5_joins_152 ⟨Nat.le_of_ble_eq_true rfl, Nat.le_of_ble_eq_true rfl⟩) hP hD hS hA [0, 1, 2, 3, 4, 5] [6] rfl rfl (by decide) (by decide) (fun u_286 H locs hw_286 hP hD hS => ?_)
            replace h := h.2
            obtain ⟨kp_286, dp_286, wt_286, tm_286, ts_286⟩ := u_286
            have hP : va_P G.1 vwCl [(p, .inr (1, [.ref pk, .ref pd, .ref pw, .ref pv, .ref ps, .int tn, .int tr, .int (tre ||| r_1), .int tm_286, .int ts_286])), (pk, .inl (G.2 0, 16, .inl kp_286)), (pd, .inl (G.2 0, 16, .inl dp_286)), (pw, .inl (G.2 0, 16, .inl u_285)), (pv, .inl (G.2 0, 16, .inl wt_286)), (ps, .inl (G.2 0, 16, .inl st_31)), (q_2, .inl (G.2 0, 16, .inl a_30))] H := hP.sub [1, 2, 3, 4, 5, 6, 0] rfl
            have hD : va_D AA [(p, .inr (1, [.ref pk, .ref pd, .ref pw, .ref pv, .ref ps, .int tn, .int tr, .int (tre ||| r_1), .int tm_286, .int ts_286])), (pk, .inl (G.2 0, 16, .inl kp_286)), (pd, .inl (G.2 0, 16, .inl dp_286)), (pw, .inl (G.2 0, 16, .inl u_285)), (pv, .inl (G.2 0, 16, .inl wt_286)), (ps, .inl (G.2 0, 16, .inl st_31)), (q_2, .inl (G.2 0, 16, .inl a_30))] := hD.sub [1, 2, 3, 4, 5, 6, 0] (by decide) rfl
            replace h := h kp_286 dp_286 wt_286 tm_286 ts_286 hw_286
            refine lv_iinc (v := x7_273 + 1) (lv' := [(7, .int (x7_273 + 1)), (6, .int x6_222), (5, .ref q_2), (0, .ref p)]) hx hb dX5_joins_155 hl (k := 0) rfl rfl (by decide) rfl (fun ls hl => ?_)
            refine lv_goto (tgt := 108) hx hb dX5_joins_158 (by decide) ?_
            exact h _ _ _ hP hD hS hl
          · replace h := h.2 c_284
            refine lv_goto (tgt := 155) hx hb dX5_joins_130 (by decide) ?_
            refine lv_iinc (v := x7_273 + 1) (lv' := [(7, .int (x7_273 + 1)), (6, .int x6_222), (5, .ref q_2), (0, .ref p)]) hx hb dX5_joins_155 hl (k := 0) rfl rfl (by decide) rfl (fun ls hl => ?_)
            refine lv_goto (tgt := 108) hx hb dX5_joins_158 (by decide) ?_
            exact h _ _ _ hP hD hS hl)
  refine h (fun (x6_288 : Int32) (a_289 : Nat → Int32) (a_290 : Nat → Int32) => ∀ (H : Heap) (locs : List Loc) (ls : Array Slot), va_P G.1 vwCl [(p, .inr (1, [.ref pk, .ref pd, .ref pw, .ref pv, .ref ps, .int tn, .int tr, .int tre, .int tm, .int ts])), (pk, .inl (G.2 0, 16, .inl kp)), (pd, .inl (G.2 0, 16, .inl dp)), (pw, .inl (G.2 0, 16, .inl a_289)), (pv, .inl (G.2 0, 16, .inl wt)), (ps, .inl (G.2 0, 16, .inl st)), (q_2, .inl (G.2 0, 16, .inl a_290))] H → va_D AA [(p, .inr (1, [.ref pk, .ref pd, .ref pw, .ref pv, .ref ps, .int tn, .int tr, .int tre, .int tm, .int ts])), (pk, .inl (G.2 0, 16, .inl kp)), (pd, .inl (G.2 0, 16, .inl dp)), (pw, .inl (G.2 0, 16, .inl a_289)), (pv, .inl (G.2 0, 16, .inl wt)), (ps, .inl (G.2 0, 16, .inl st)), (q_2, .inl (G.2 0, 16, .inl a_290))] → va_S AA sS.heap H locs → lv_has ls 8 [(6, .int x6_288), (5, .ref q_2), (4, .int r_1), (3, .int tre), (0, .ref p), (1, .int a), (2, .int b)] → W pp lL eE RX5_joins sS mM ar below meth cC H locs 1 16 QQ (F0 mM 22 ls [])) ?_  _ _ _ hP hD hS hl
  clear h
  intro x6_288 a_289 a_290 h H locs ls hP hD hS hl
  refine lv_iload hx hb dX5_joins_22 (lv_at hl 0 rfl) ?_
  refine lv_aload_n hx hb dX5_joins_24 rfl (lv_at hl 4 rfl) ?_
  refine va_get (D := G.1) (ci := 1) (v := .int tn) (C := RX5) (T := TX5) (N := 10) hx hb hts in_X5 hown hK.1 hP 0 rfl rfl 5 (by decide) (hts _ q379) (fun _ h9 => h9) rfl dX5_joins_25 ?_
  refine lv_icmp_ge (tgt := 74) hx hb dX5_joins_28 (by decide) (fun c_292 => ?_) (fun c_292 => ?_)
  · replace h := h.1 c_292
    exact h _ _ _ hP hD hS (lv_sub hl [1, 2, 4, 5, 6] rfl)
  · replace h := h.2 c_292
    refine lv_iload hx hb dX5_joins_31 (lv_at hl 2 rfl) ?_
    refine lv_iload hx hb dX5_joins_33 (lv_at hl 0 rfl) ?_
    have hPc := hP.sub (ws' := []) [] rfl
    have hDc := hD.sub (ws' := []) [] (by decide) rfl
    refine gx_i (G := G) (wc := []) (wr := [(p, .inr (1, [.ref pk, .ref pd, .ref pw, .ref pv, .ref ps, .int tn, .int tr, .int tre, .int tm, .int ts])), (pk, .inl (G.2 0, 16, .inl kp)), (pd, .inl (G.2 0, 16, .inl dp)), (pw, .inl (G.2 0, 16, .inl a_289)), (pv, .inl (G.2 0, 16, .inl wt)), (ps, .inl (G.2 0, 16, .inl st)), (q_2, .inl (G.2 0, 16, .inl a_290))]) (va_runSN (As := [.int r_1, .int x6_288]) (rest := []) ⟨hx, hb, hml, hown, hts⟩ (ct_X1_has lL G r_1 x6_288 _) ⟨va_cnB 2 hts (lw_meth q502) rfl rfl rfl (hK.nw q537 rfl) (hts _ q164) (by decide +kernel) ⟨Nat.le_of_ble_eq_true rfl, Nat.le_of_ble_eq_true rfl⟩, hts _ q501, trivial⟩ (gx_preS hK hPc hDc) rfl rfl hl.1 rfl (lv_room (Nat.le_of_ble_eq_true rfl)) dX5_joins_35 ⟨Nat.le_of_ble_eq_true rfl, Nat.le_of_ble_eq_true rfl⟩) hP hD hS hA [] [0, 1, 2, 3, 4, 5, 6] rfl rfl (by decide) (by decide) (fun r_293 u_293 H locs hw_293 hP hD hS => ?_)
    have hP : va_P G.1 vwCl [(p, .inr (1, [.ref pk, .ref pd, .ref pw, .ref pv, .ref ps, .int tn, .int tr, .int tre, .int tm, .int ts])), (pk, .inl (G.2 0, 16, .inl kp)), (pd, .inl (G.2 0, 16, .inl dp)), (pw, .inl (G.2 0, 16, .inl a_289)), (pv, .inl (G.2 0, 16, .inl wt)), (ps, .inl (G.2 0, 16, .inl st)), (q_2, .inl (G.2 0, 16, .inl a_290))] H := hP
    have hD : va_D AA [(p, .inr (1, [.ref pk, .ref pd, .ref pw, .ref pv, .ref ps, .int tn, .int tr, .int tre, .int tm, .int ts])), (pk, .inl (G.2 0, 16, .inl kp)), (pd, .inl (G.2 0, 16, .inl dp)), (pw, .inl (G.2 0, 16, .inl a_289)), (pv, .inl (G.2 0, 16, .inl wt)), (ps, .inl (G.2 0, 16, .inl st)), (q_2, .inl (G.2 0, 16, .inl a_290))] := hD
    replace h := h r_293 hw_293
    refine lv_if_eq (tgt := 68) hx hb dX5_joins_38 (by decide) (fun c_294 => ?_) (fun c_294 => ?_)
    · replace h := h.1 c_294
      refine lv_iinc (v := x6_288 + 1) (lv' := [(6, .int (x6_288 + 1)), (5, .ref q_2), (4, .int r_1), (3, .int tre), (0, .ref p), (1, .int a), (2, .int b)]) hx hb dX5_joins_68 hl (k := 0) rfl rfl (by decide) rfl (fun ls hl => ?_)
      refine lv_goto (tgt := 22) hx hb dX5_joins_71 (by decide) ?_
      exact h _ _ _ hP hD hS hl
    · replace h := h.2 c_294
      refine lv_aload hx hb dX5_joins_41 (lv_at hl 1 rfl) ?_
      refine lv_iload hx hb dX5_joins_43 (lv_at hl 0 rfl) ?_
      refine lv_aload_n hx hb dX5_joins_45 rfl (lv_at hl 4 rfl) ?_
      refine va_get (D := G.1) (ci := 1) (v := .ref pw) (C := RX5) (T := TX5) (N := 10) hx hb hts in_X5 hown hK.1 hP 0 rfl rfl 2 (by decide) (hts _ q376) (fun _ h9 => h9) rfl dX5_joins_46 ?_
      refine lv_iload hx hb dX5_joins_49 (lv_at hl 0 rfl) ?_
      have b_295 := h.1
      refine va_iald hx hb hK.1 hP 3 0 rfl rfl b_295 dX5_joins_51 ?_
      replace h := h.2
      refine lv_iload_n hx hb dX5_joins_52 rfl (lv_at hl 3 rfl) ?_
      refine lv_iand hx hb dX5_joins_53 ?_
      refine va_iast hx hb hK.1 hP hD hS 6 0 rfl rfl b_295 dX5_joins_54 (fun H locs hP hD hS => ?_)
      obtain ⟨u_296, eu_296⟩ : ∃ z__, z__ = upd a_290 x6_288.toNatClampNeg ((a_289 x6_288.toNatClampNeg) &&& tre) := ⟨_, rfl⟩
      replace h := h u_296 eu_296
      have hP : va_P G.1 vwCl [(p, .inr (1, [.ref pk, .ref pd, .ref pw, .ref pv, .ref ps, .int tn, .int tr, .int tre, .int tm, .int ts])), (pk, .inl (G.2 0, 16, .inl kp)), (pd, .inl (G.2 0, 16, .inl dp)), (pw, .inl (G.2 0, 16, .inl a_289)), (pv, .inl (G.2 0, 16, .inl wt)), (ps, .inl (G.2 0, 16, .inl st)), (q_2, .inl (G.2 0, 16, .inl u_296))] H := by rw [eu_296]; exact hP
      have hD : va_D AA [(p, .inr (1, [.ref pk, .ref pd, .ref pw, .ref pv, .ref ps, .int tn, .int tr, .int tre, .int tm, .int ts])), (pk, .inl (G.2 0, 16, .inl kp)), (pd, .inl (G.2 0, 16, .inl dp)), (pw, .inl (G.2 0, 16, .inl a_289)), (pv, .inl (G.2 0, 16, .inl wt)), (ps, .inl (G.2 0, 16, .inl st)), (q_2, .inl (G.2 0, 16, .inl u_296))] := by rw [eu_296]; exact hD
      refine lv_aload_n hx hb dX5_joins_55 rfl (lv_at hl 4 rfl) ?_
      refine va_get (D := G.1) (ci := 1) (v := .ref pw) (C := RX5) (T := TX5) (N := 10) hx hb hts in_X5 hown hK.1 hP 0 rfl rfl 2 (by decide) (hts _ q376) (fun _ h9 => h9) rfl dX5_joins_56 ?_
      refine lv_iload hx hb dX5_joins_59 (lv_at hl 0 rfl) ?_
      refine lv_dup2_11 hx hb dX5_joins_61 rfl rfl ?_
      refine va_iald hx hb hK.1 hP 3 0 rfl rfl b_295 dX5_joins_62 ?_
      refine lv_iload_n hx hb dX5_joins_63 rfl (lv_at hl 3 rfl) ?_
      refine lv_iconst (v := (-1)) hx hb dX5_joins_64 (by decide) ?_
      refine lv_ixor hx hb dX5_joins_65 ?_
      refine lv_iand hx hb dX5_joins_66 ?_
      refine va_iast hx hb hK.1 hP hD hS 3 0 rfl rfl b_295 dX5_joins_67 (fun H locs hP hD hS => ?_)
      obtain ⟨u_297, eu_297⟩ : ∃ z__, z__ = upd a_289 x6_288.toNatClampNeg ((a_289 x6_288.toNatClampNeg) &&& (tre ^^^ (-1))) := ⟨_, rfl⟩
      replace h := h u_297 eu_297
      have hP : va_P G.1 vwCl [(p, .inr (1, [.ref pk, .ref pd, .ref pw, .ref pv, .ref ps, .int tn, .int tr, .int tre, .int tm, .int ts])), (pk, .inl (G.2 0, 16, .inl kp)), (pd, .inl (G.2 0, 16, .inl dp)), (pw, .inl (G.2 0, 16, .inl u_297)), (pv, .inl (G.2 0, 16, .inl wt)), (ps, .inl (G.2 0, 16, .inl st)), (q_2, .inl (G.2 0, 16, .inl u_296))] H := by rw [eu_297]; exact hP
      have hD : va_D AA [(p, .inr (1, [.ref pk, .ref pd, .ref pw, .ref pv, .ref ps, .int tn, .int tr, .int tre, .int tm, .int ts])), (pk, .inl (G.2 0, 16, .inl kp)), (pd, .inl (G.2 0, 16, .inl dp)), (pw, .inl (G.2 0, 16, .inl u_297)), (pv, .inl (G.2 0, 16, .inl wt)), (ps, .inl (G.2 0, 16, .inl st)), (q_2, .inl (G.2 0, 16, .inl u_296))] := by rw [eu_297]; exact hD
      refine lv_iinc (v := x6_288 + 1) (lv' := [(6, .int (x6_288 + 1)), (5, .ref q_2), (4, .int r_1), (3, .int tre), (0, .ref p), (1, .int a), (2, .int b)]) hx hb dX5_joins_68 hl (k := 0) rfl rfl (by decide) rfl (fun ls hl => ?_)
      refine lv_goto (tgt := 22) hx hb dX5_joins_71 (by decide) ?_
      exact h _ _ _ hP hD hS hl
theorem ct_X5_joins (lL : Launch) (G : GE) (p pk pd pw pv ps : Nat) (E : Nat → Nat → Prop) (r n u v : Nat) (kp dp tw wt st : Nat → Int32) (tn tr tre tm ts a b : Int32) (hp : pr_X5_joins E r n u v kp dp tw wt st tn tr tre tm ts a b) : CtV lL yX5_joins (ws_ yX5_joins cX5_joins 8 none) RX5_joins G [.ref p, .int a, .int b] [(p, .inr (1, [.ref pk, .ref pd, .ref pw, .ref pv, .ref ps, .int tn, .int tr, .int tre, .int tm, .int ts])), (pk, .inl (G.2 0, 16, .inl kp)), (pd, .inl (G.2 0, 16, .inl dp)), (pw, .inl (G.2 0, 16, .inl tw)), (pv, .inl (G.2 0, 16, .inl wt)), (ps, .inl (G.2 0, 16, .inl st))] (fun (uu_ : (Nat → Int32) × (Nat → Int32) × (Nat → Int32) × (Nat → Int32) × (Nat → Int32) × Int32 × Int32 × Int32) => ps_X5_joins E r n u v kp dp tw wt st tn tr tre tm ts a b uu_.1 uu_.2.1 uu_.2.2.1 uu_.2.2.2.1 uu_.2.2.2.2.1 uu_.2.2.2.2.2.1 uu_.2.2.2.2.2.2.1 uu_.2.2.2.2.2.2.2) (fun (uu_ : (Nat → Int32) × (Nat → Int32) × (Nat → Int32) × (Nat → Int32) × (Nat → Int32) × Int32 × Int32 × Int32) => [(p, .inr (1, [.ref pk, .ref pd, .ref pw, .ref pv, .ref ps, .int tn, .int tr, .int uu_.2.2.2.2.2.1, .int uu_.2.2.2.2.2.2.1, .int uu_.2.2.2.2.2.2.2])), (pk, .inl (G.2 0, 16, .inl uu_.1)), (pd, .inl (G.2 0, 16, .inl uu_.2.1)), (pw, .inl (G.2 0, 16, .inl uu_.2.2.1)), (pv, .inl (G.2 0, 16, .inl uu_.2.2.2.1)), (ps, .inl (G.2 0, 16, .inl uu_.2.2.2.2.1))]) :=
  wk_X5_joins lL G p pk pd pw pv ps kp dp tw wt st tn tr tre tm ts a b _ (pf_X5_joins E r n u v kp dp tw wt st tn tr tre tm ts a b hp)
abbrev RX5_lays : Room := ({ frames := 22, cells := 1, slots := 16, locals := 517 } : Room)
set_option maxHeartbeats 4000000 in
set_option maxRecDepth 100000 in
theorem wk_X5_lays (lL : Launch) (G : GE) (p pk pd pw pv ps : Nat) (kp dp tw wt st : Nat → Int32) (tn tr tre tm ts a b : Int32) (Q : (Nat → Int32) → (Nat → Int32) → (Nat → Int32) → (Nat → Int32) → (Nat → Int32) → Int32 → Int32 → Int32 → Prop) (h : wp_X5_lays kp dp tw wt st tn tr tre tm ts a b Q) : CtV lL yX5_lays (ws_ yX5_lays cX5_lays 3 none) RX5_lays G [.ref p, .int a, .int b] [(p, .inr (1, [.ref pk, .ref pd, .ref pw, .ref pv, .ref ps, .int tn, .int tr, .int tre, .int tm, .int ts])), (pk, .inl (G.2 0, 16, .inl kp)), (pd, .inl (G.2 0, 16, .inl dp)), (pw, .inl (G.2 0, 16, .inl tw)), (pv, .inl (G.2 0, 16, .inl wt)), (ps, .inl (G.2 0, 16, .inl st))] (fun (uu_ : (Nat → Int32) × (Nat → Int32) × (Nat → Int32) × (Nat → Int32) × (Nat → Int32) × Int32 × Int32 × Int32) => Q uu_.1 uu_.2.1 uu_.2.2.1 uu_.2.2.2.1 uu_.2.2.2.2.1 uu_.2.2.2.2.2.1 uu_.2.2.2.2.2.2.1 uu_.2.2.2.2.2.2.2) (fun (uu_ : (Nat → Int32) × (Nat → Int32) × (Nat → Int32) × (Nat → Int32) × (Nat → Int32) × Int32 × Int32 × Int32) => [(p, .inr (1, [.ref pk, .ref pd, .ref pw, .ref pv, .ref ps, .int tn, .int tr, .int uu_.2.2.2.2.2.1, .int uu_.2.2.2.2.2.2.1, .int uu_.2.2.2.2.2.2.2])), (pk, .inl (G.2 0, 16, .inl uu_.1)), (pd, .inl (G.2 0, 16, .inl uu_.2.1)), (pw, .inl (G.2 0, 16, .inl uu_.2.2.1)), (pv, .inl (G.2 0, 16, .inl uu_.2.2.2.1)), (ps, .inl (G.2 0, 16, .inl uu_.2.2.2.2.1))]) := by
  refine gx_of (cc := cX5_lays) (maxL := 3) (ret := none) (by decide) (Nat.le_of_ble_eq_true rfl) ?_
  intro pp eE sS mM ar below meth cC AA ls QQ hx hb hr hml hts hown hlocks hnm hK hAe hQQ hP hD hA hS hl
  have hl : lv_has ls 3 [(0, .ref p), (1, .int a), (2, .int b)] := hl
  refine lv_aload_n hx hb dX5_lays_0 rfl (lv_at hl 0 rfl) ?_
  refine va_get (D := G.1) (ci := 1) (v := .ref pw) (C := RX5) (T := TX5) (N := 10) hx hb hts in_X5 hown hK.1 hP 0 rfl rfl 2 (by decide) (hts _ q376) (fun _ h9 => h9) rfl dX5_lays_1 ?_
  refine lv_iload_n hx hb dX5_lays_4 rfl (lv_at hl 1 rfl) ?_
  refine lv_dup2_11 hx hb dX5_lays_5 rfl rfl ?_
  have b_1 := h.1
  refine va_iald hx hb hK.1 hP 3 0 rfl rfl b_1 dX5_lays_6 ?_
  replace h := h.2
  refine lv_iconst (v := 1) hx hb dX5_lays_7 (by decide) ?_
  refine lv_iload_n hx hb dX5_lays_8 rfl (lv_at hl 2 rfl) ?_
  refine lv_ishl hx hb dX5_lays_9 ?_
  refine lv_ior hx hb dX5_lays_10 ?_
  refine va_iast hx hb hK.1 hP hD hS 3 0 rfl rfl b_1 dX5_lays_11 (fun H locs hP hD hS => ?_)
  obtain ⟨u_2, eu_2⟩ : ∃ z__, z__ = upd tw a.toNatClampNeg ((tw a.toNatClampNeg) ||| (1 <<< (b &&& 31))) := ⟨_, rfl⟩
  replace h := h u_2 eu_2
  have hP : va_P G.1 vwCl [(p, .inr (1, [.ref pk, .ref pd, .ref pw, .ref pv, .ref ps, .int tn, .int tr, .int tre, .int tm, .int ts])), (pk, .inl (G.2 0, 16, .inl kp)), (pd, .inl (G.2 0, 16, .inl dp)), (pw, .inl (G.2 0, 16, .inl u_2)), (pv, .inl (G.2 0, 16, .inl wt)), (ps, .inl (G.2 0, 16, .inl st))] H := by rw [eu_2]; exact hP
  have hD : va_D AA [(p, .inr (1, [.ref pk, .ref pd, .ref pw, .ref pv, .ref ps, .int tn, .int tr, .int tre, .int tm, .int ts])), (pk, .inl (G.2 0, 16, .inl kp)), (pd, .inl (G.2 0, 16, .inl dp)), (pw, .inl (G.2 0, 16, .inl u_2)), (pv, .inl (G.2 0, 16, .inl wt)), (ps, .inl (G.2 0, 16, .inl st))] := by rw [eu_2]; exact hD
  refine lv_aload_n hx hb dX5_lays_12 rfl (lv_at hl 0 rfl) ?_
  refine va_get (D := G.1) (ci := 1) (v := .int tre) (C := RX5) (T := TX5) (N := 10) hx hb hts in_X5 hown hK.1 hP 0 rfl rfl 7 (by decide) (hts _ q381) (fun _ h9 => h9) rfl dX5_lays_13 ?_
  refine lv_iload_n hx hb dX5_lays_16 rfl (lv_at hl 1 rfl) ?_
  have hPc := hP.sub (ws' := []) [] rfl
  have hDc := hD.sub (ws' := []) [] (by decide) rfl
  refine gx_i (G := G) (wc := []) (wr := [(p, .inr (1, [.ref pk, .ref pd, .ref pw, .ref pv, .ref ps, .int tn, .int tr, .int tre, .int tm, .int ts])), (pk, .inl (G.2 0, 16, .inl kp)), (pd, .inl (G.2 0, 16, .inl dp)), (pw, .inl (G.2 0, 16, .inl u_2)), (pv, .inl (G.2 0, 16, .inl wt)), (ps, .inl (G.2 0, 16, .inl st))]) (va_runSN (As := [.int tre, .int a]) (rest := []) ⟨hx, hb, hml, hown, hts⟩ (ct_X1_has lL G tre a _) ⟨va_cnB 2 hts (lw_meth q502) rfl rfl rfl (hK.nw q537 rfl) (hts _ q164) (by decide +kernel) ⟨Nat.le_of_ble_eq_true rfl, Nat.le_of_ble_eq_true rfl⟩, hts _ q501, trivial⟩ (gx_preS hK hPc hDc) rfl rfl hl.1 rfl (lv_room (Nat.le_of_ble_eq_true rfl)) dX5_lays_17 ⟨Nat.le_of_ble_eq_true rfl, Nat.le_of_ble_eq_true rfl⟩) hP hD hS hA [] [0, 1, 2, 3, 4, 5] rfl rfl (by decide) (by decide) (fun r_3 u_3 H locs hw_3 hP hD hS => ?_)
  have hP : va_P G.1 vwCl [(p, .inr (1, [.ref pk, .ref pd, .ref pw, .ref pv, .ref ps, .int tn, .int tr, .int tre, .int tm, .int ts])), (pk, .inl (G.2 0, 16, .inl kp)), (pd, .inl (G.2 0, 16, .inl dp)), (pw, .inl (G.2 0, 16, .inl u_2)), (pv, .inl (G.2 0, 16, .inl wt)), (ps, .inl (G.2 0, 16, .inl st))] H := hP
  have hD : va_D AA [(p, .inr (1, [.ref pk, .ref pd, .ref pw, .ref pv, .ref ps, .int tn, .int tr, .int tre, .int tm, .int ts])), (pk, .inl (G.2 0, 16, .inl kp)), (pd, .inl (G.2 0, 16, .inl dp)), (pw, .inl (G.2 0, 16, .inl u_2)), (pv, .inl (G.2 0, 16, .inl wt)), (ps, .inl (G.2 0, 16, .inl st))] := hD
  replace h := h r_3 hw_3
  refine lv_if_ne (tgt := 24) hx hb dX5_lays_20 (by decide) (fun c_4 => ?_) (fun c_4 => ?_)
  · replace h := h.1 c_4
    refine lv_aload_n hx hb dX5_lays_24 rfl (lv_at hl 0 rfl) ?_
    refine va_get (D := G.1) (ci := 1) (v := .int tre) (C := RX5) (T := TX5) (N := 10) hx hb hts in_X5 hown hK.1 hP 0 rfl rfl 7 (by decide) (hts _ q381) (fun _ h9 => h9) rfl dX5_lays_25 ?_
    refine lv_iload_n hx hb dX5_lays_28 rfl (lv_at hl 2 rfl) ?_
    have hPc := hP.sub (ws' := []) [] rfl
    have hDc := hD.sub (ws' := []) [] (by decide) rfl
    refine gx_i (G := G) (wc := []) (wr := [(p, .inr (1, [.ref pk, .ref pd, .ref pw, .ref pv, .ref ps, .int tn, .int tr, .int tre, .int tm, .int ts])), (pk, .inl (G.2 0, 16, .inl kp)), (pd, .inl (G.2 0, 16, .inl dp)), (pw, .inl (G.2 0, 16, .inl u_2)), (pv, .inl (G.2 0, 16, .inl wt)), (ps, .inl (G.2 0, 16, .inl st))]) (va_runSN (As := [.int tre, .int b]) (rest := []) ⟨hx, hb, hml, hown, hts⟩ (ct_X1_has lL G tre b _) ⟨va_cnB 2 hts (lw_meth q502) rfl rfl rfl (hK.nw q537 rfl) (hts _ q164) (by decide +kernel) ⟨Nat.le_of_ble_eq_true rfl, Nat.le_of_ble_eq_true rfl⟩, hts _ q501, trivial⟩ (gx_preS hK hPc hDc) rfl rfl hl.1 rfl (lv_room (Nat.le_of_ble_eq_true rfl)) dX5_lays_29 ⟨Nat.le_of_ble_eq_true rfl, Nat.le_of_ble_eq_true rfl⟩) hP hD hS hA [] [0, 1, 2, 3, 4, 5] rfl rfl (by decide) (by decide) (fun r_5 u_5 H locs hw_5 hP hD hS => ?_)
    have hP : va_P G.1 vwCl [(p, .inr (1, [.ref pk, .ref pd, .ref pw, .ref pv, .ref ps, .int tn, .int tr, .int tre, .int tm, .int ts])), (pk, .inl (G.2 0, 16, .inl kp)), (pd, .inl (G.2 0, 16, .inl dp)), (pw, .inl (G.2 0, 16, .inl u_2)), (pv, .inl (G.2 0, 16, .inl wt)), (ps, .inl (G.2 0, 16, .inl st))] H := hP
    have hD : va_D AA [(p, .inr (1, [.ref pk, .ref pd, .ref pw, .ref pv, .ref ps, .int tn, .int tr, .int tre, .int tm, .int ts])), (pk, .inl (G.2 0, 16, .inl kp)), (pd, .inl (G.2 0, 16, .inl dp)), (pw, .inl (G.2 0, 16, .inl u_2)), (pv, .inl (G.2 0, 16, .inl wt)), (ps, .inl (G.2 0, 16, .inl st))] := hD
    replace h := h r_5 hw_5
    refine lv_if_eq (tgt := 44) hx hb dX5_lays_32 (by decide) (fun c_6 => ?_) (fun c_6 => ?_)
    · replace h := h.1 c_6
      refine lv_aload_n hx hb dX5_lays_44 rfl (lv_at hl 0 rfl) ?_
      refine lv_iload_n hx hb dX5_lays_45 rfl (lv_at hl 1 rfl) ?_
      refine lv_iload_n hx hb dX5_lays_46 rfl (lv_at hl 2 rfl) ?_
      obtain ⟨E_7, r_7, n_7, u_7, v_7, h⟩ := h
      have hPc := hP.sub (ws' := [(p, .inr (1, [.ref pk, .ref pd, .ref pw, .ref pv, .ref ps, .int tn, .int tr, .int tre, .int tm, .int ts])), (pk, .inl (G.2 0, 16, .inl kp)), (pd, .inl (G.2 0, 16, .inl dp)), (pw, .inl (G.2 0, 16, .inl u_2)), (pv, .inl (G.2 0, 16, .inl wt)), (ps, .inl (G.2 0, 16, .inl st))]) [0, 1, 2, 3, 4, 5] rfl
      have hDc := hD.sub (ws' := [(p, .inr (1, [.ref pk, .ref pd, .ref pw, .ref pv, .ref ps, .int tn, .int tr, .int tre, .int tm, .int ts])), (pk, .inl (G.2 0, 16, .inl kp)), (pd, .inl (G.2 0, 16, .inl dp)), (pw, .inl (G.2 0, 16, .inl u_2)), (pv, .inl (G.2 0, 16, .inl wt)), (ps, .inl (G.2 0, 16, .inl st))]) [0, 1, 2, 3, 4, 5] (by decide) rfl
      refine gx_v (G := G) (wc := [(p, .inr (1, [.ref pk, .ref pd, .ref pw, .ref pv, .ref ps, .int tn, .int tr, .int tre, .int tm, .int ts])), (pk, .inl (G.2 0, 16, .inl kp)), (pd, .inl (G.2 0, 16, .inl dp)), (pw, .inl (G.2 0, 16, .inl u_2)), (pv, .inl (G.2 0, 16, .inl wt)), (ps, .inl (G.2 0, 16, .inl st))]) (wr := []) (va_runV (As := [.int a, .int b]) (rest := []) ⟨hx, hb, hml, hown, hts⟩ (ct_X5_joins lL G p pk pd pw pv ps E_7 r_7 n_7 u_7 v_7 kp dp u_2 wt st tn tr tre tm ts a b h.1 _) (cwV 2 hts (lw_V q1385 q1387 qs61 q171 q1388) rfl rfl rfl (by decide +kernel) ⟨Nat.le_of_ble_eq_true rfl, Nat.le_of_ble_eq_true rfl⟩) (gx_preV hK hPc hDc 1 0 rfl rfl) rfl rfl hl.1 rfl (lv_room (Nat.le_of_ble_eq_true rfl)) dX5_lays_47 ⟨Nat.le_of_ble_eq_true rfl, Nat.le_of_ble_eq_true rfl⟩) hP hD hS hA [0, 1, 2, 3, 4, 5] [] rfl rfl (by decide) (by decide) (fun u_7 H locs hw_7 hP hD hS => ?_)
      replace h := h.2
      obtain ⟨kp_7, dp_7, tw_7, wt_7, st_7, tre_7, tm_7, ts_7⟩ := u_7
      have hP : va_P G.1 vwCl [(p, .inr (1, [.ref pk, .ref pd, .ref pw, .ref pv, .ref ps, .int tn, .int tr, .int tre_7, .int tm_7, .int ts_7])), (pk, .inl (G.2 0, 16, .inl kp_7)), (pd, .inl (G.2 0, 16, .inl dp_7)), (pw, .inl (G.2 0, 16, .inl tw_7)), (pv, .inl (G.2 0, 16, .inl wt_7)), (ps, .inl (G.2 0, 16, .inl st_7))] H := hP
      have hD : va_D AA [(p, .inr (1, [.ref pk, .ref pd, .ref pw, .ref pv, .ref ps, .int tn, .int tr, .int tre_7, .int tm_7, .int ts_7])), (pk, .inl (G.2 0, 16, .inl kp_7)), (pd, .inl (G.2 0, 16, .inl dp_7)), (pw, .inl (G.2 0, 16, .inl tw_7)), (pv, .inl (G.2 0, 16, .inl wt_7)), (ps, .inl (G.2 0, 16, .inl st_7))] := hD
      replace h := h kp_7 dp_7 tw_7 wt_7 st_7 tre_7 tm_7 ts_7 hw_7
      subst hQQ; exact gx_vret (kp_7, dp_7, tw_7, wt_7, st_7, tre_7, tm_7, ts_7) hx hb hr hlocks hAe hP hD hS (Nat.le_of_ble_eq_true rfl) (Nat.le_of_ble_eq_true rfl) h dX5_lays_50
    · replace h := h.2 c_6
      refine lv_aload_n hx hb dX5_lays_35 rfl (lv_at hl 0 rfl) ?_
      refine lv_iload_n hx hb dX5_lays_36 rfl (lv_at hl 1 rfl) ?_
      refine lv_iload_n hx hb dX5_lays_37 rfl (lv_at hl 2 rfl) ?_
      obtain ⟨E_8, r_8, n_8, u_8, v_8, h⟩ := h
      have hPc := hP.sub (ws' := [(p, .inr (1, [.ref pk, .ref pd, .ref pw, .ref pv, .ref ps, .int tn, .int tr, .int tre, .int tm, .int ts])), (pk, .inl (G.2 0, 16, .inl kp)), (pd, .inl (G.2 0, 16, .inl dp)), (pw, .inl (G.2 0, 16, .inl u_2)), (pv, .inl (G.2 0, 16, .inl wt)), (ps, .inl (G.2 0, 16, .inl st))]) [0, 1, 2, 3, 4, 5] rfl
      have hDc := hD.sub (ws' := [(p, .inr (1, [.ref pk, .ref pd, .ref pw, .ref pv, .ref ps, .int tn, .int tr, .int tre, .int tm, .int ts])), (pk, .inl (G.2 0, 16, .inl kp)), (pd, .inl (G.2 0, 16, .inl dp)), (pw, .inl (G.2 0, 16, .inl u_2)), (pv, .inl (G.2 0, 16, .inl wt)), (ps, .inl (G.2 0, 16, .inl st))]) [0, 1, 2, 3, 4, 5] (by decide) rfl
      refine gx_v (G := G) (wc := [(p, .inr (1, [.ref pk, .ref pd, .ref pw, .ref pv, .ref ps, .int tn, .int tr, .int tre, .int tm, .int ts])), (pk, .inl (G.2 0, 16, .inl kp)), (pd, .inl (G.2 0, 16, .inl dp)), (pw, .inl (G.2 0, 16, .inl u_2)), (pv, .inl (G.2 0, 16, .inl wt)), (ps, .inl (G.2 0, 16, .inl st))]) (wr := []) (va_runV (As := [.int a, .int b]) (rest := []) ⟨hx, hb, hml, hown, hts⟩ (ct_X5_lifts lL G p pk pd pw pv ps E_8 r_8 n_8 u_8 v_8 kp dp u_2 wt st tn tr tre tm ts a b h.1 _) (cwV 2 hts (lw_V q1372 q1374 qs59 q171 q1375) rfl rfl rfl (by decide +kernel) ⟨Nat.le_of_ble_eq_true rfl, Nat.le_of_ble_eq_true rfl⟩) (gx_preV hK hPc hDc 1 0 rfl rfl) rfl rfl hl.1 rfl (lv_room (Nat.le_of_ble_eq_true rfl)) dX5_lays_38 ⟨Nat.le_of_ble_eq_true rfl, Nat.le_of_ble_eq_true rfl⟩) hP hD hS hA [0, 1, 2, 3, 4, 5] [] rfl rfl (by decide) (by decide) (fun u_8 H locs hw_8 hP hD hS => ?_)
      replace h := h.2
      obtain ⟨kp_8, dp_8, wt_8, tm_8, ts_8⟩ := u_8
      have hP : va_P G.1 vwCl [(p, .inr (1, [.ref pk, .ref pd, .ref pw, .ref pv, .ref ps, .int tn, .int tr, .int tre, .int tm_8, .int ts_8])), (pk, .inl (G.2 0, 16, .inl kp_8)), (pd, .inl (G.2 0, 16, .inl dp_8)), (pw, .inl (G.2 0, 16, .inl u_2)), (pv, .inl (G.2 0, 16, .inl wt_8)), (ps, .inl (G.2 0, 16, .inl st))] H := hP
      have hD : va_D AA [(p, .inr (1, [.ref pk, .ref pd, .ref pw, .ref pv, .ref ps, .int tn, .int tr, .int tre, .int tm_8, .int ts_8])), (pk, .inl (G.2 0, 16, .inl kp_8)), (pd, .inl (G.2 0, 16, .inl dp_8)), (pw, .inl (G.2 0, 16, .inl u_2)), (pv, .inl (G.2 0, 16, .inl wt_8)), (ps, .inl (G.2 0, 16, .inl st))] := hD
      replace h := h kp_8 dp_8 wt_8 tm_8 ts_8 hw_8
      refine lv_goto (tgt := 50) hx hb dX5_lays_41 (by decide) ?_
      subst hQQ; exact gx_vret (kp_8, dp_8, u_2, wt_8, st, tre, tm_8, ts_8) hx hb hr hlocks hAe hP hD hS (Nat.le_of_ble_eq_true rfl) (Nat.le_of_ble_eq_true rfl) h dX5_lays_50
  · replace h := h.2 c_4
    subst hQQ; exact gx_vret (kp, dp, u_2, wt, st, tre, tm, ts) hx hb hr hlocks hAe hP hD hS (Nat.le_of_ble_eq_true rfl) (Nat.le_of_ble_eq_true rfl) h dX5_lays_23
theorem ct_X5_lays (lL : Launch) (G : GE) (p pk pd pw pv ps : Nat) (E : Nat → Nat → Prop) (r n u v : Nat) (kp dp tw wt st : Nat → Int32) (tn tr tre tm ts a b : Int32) (hp : pr_X5_lays E r n u v kp dp tw wt st tn tr tre tm ts a b) : CtV lL yX5_lays (ws_ yX5_lays cX5_lays 3 none) RX5_lays G [.ref p, .int a, .int b] [(p, .inr (1, [.ref pk, .ref pd, .ref pw, .ref pv, .ref ps, .int tn, .int tr, .int tre, .int tm, .int ts])), (pk, .inl (G.2 0, 16, .inl kp)), (pd, .inl (G.2 0, 16, .inl dp)), (pw, .inl (G.2 0, 16, .inl tw)), (pv, .inl (G.2 0, 16, .inl wt)), (ps, .inl (G.2 0, 16, .inl st))] (fun (uu_ : (Nat → Int32) × (Nat → Int32) × (Nat → Int32) × (Nat → Int32) × (Nat → Int32) × Int32 × Int32 × Int32) => ps_X5_lays E r n u v kp dp tw wt st tn tr tre tm ts a b uu_.1 uu_.2.1 uu_.2.2.1 uu_.2.2.2.1 uu_.2.2.2.2.1 uu_.2.2.2.2.2.1 uu_.2.2.2.2.2.2.1 uu_.2.2.2.2.2.2.2) (fun (uu_ : (Nat → Int32) × (Nat → Int32) × (Nat → Int32) × (Nat → Int32) × (Nat → Int32) × Int32 × Int32 × Int32) => [(p, .inr (1, [.ref pk, .ref pd, .ref pw, .ref pv, .ref ps, .int tn, .int tr, .int uu_.2.2.2.2.2.1, .int uu_.2.2.2.2.2.2.1, .int uu_.2.2.2.2.2.2.2])), (pk, .inl (G.2 0, 16, .inl uu_.1)), (pd, .inl (G.2 0, 16, .inl uu_.2.1)), (pw, .inl (G.2 0, 16, .inl uu_.2.2.1)), (pv, .inl (G.2 0, 16, .inl uu_.2.2.2.1)), (ps, .inl (G.2 0, 16, .inl uu_.2.2.2.2.1))]) :=
  wk_X5_lays lL G p pk pd pw pv ps kp dp tw wt st tn tr tre tm ts a b _ (pf_X5_lays E r n u v kp dp tw wt st tn tr tre tm ts a b hp)
