set_option linter.all false
/-! tree1: the walks (printed by gen.py) -/
abbrev RJ7_bitCount : Room := ({ frames := 1, cells := 0, slots := 0, locals := 12 } : Room)
set_option maxHeartbeats 4000000 in
set_option maxRecDepth 100000 in
theorem wk_J7_bitCount (lL : Launch) (G : GE)  (s : Int32) (Q : Int32 → Prop) (h : wp_J7_bitCount s Q) : CtI lL yJ7_bitCount (ws_ yJ7_bitCount cJ7_bitCount 1 (some .int)) RJ7_bitCount G [.int s] [] (fun (rr_ : Int32) (uu_ : Unit) => Q rr_ ) (fun (uu_ : Unit) => []) := by
  refine gx_of (cc := cJ7_bitCount) (maxL := 1) (ret := (some .int)) (by decide) (Nat.le_of_ble_eq_true rfl) ?_
  intro pp eE sS mM ar below meth cC AA ls QQ hx hb hr hml hts hown hlocks hnm hK hAe hQQ hP hD hA hS hl
  have hl : lv_has ls 1 [(0, .int s)] := hl
  refine lv_iload_n hx hb dJ7_bitCount_0 rfl (lv_at hl 0 rfl) ?_
  refine lv_iload_n hx hb dJ7_bitCount_1 rfl (lv_at hl 0 rfl) ?_
  refine lv_iconst (v := 1) hx hb dJ7_bitCount_2 (by decide) ?_
  refine lv_iushr (v := (s.toUInt32 >>> ((1 : Int32).toUInt32 &&& Int32.toUInt32 31)).toInt32) hx hb dJ7_bitCount_3 rfl ?_
  refine lv_ldcw hx hb hown (hts _ q545) dJ7_bitCount_4 ?_
  refine lv_iand hx hb dJ7_bitCount_7 ?_
  refine lv_isub hx hb dJ7_bitCount_8 ?_
  refine lv_istore_n (lv' := [(0, .int (s - (((s.toUInt32 >>> ((1 : Int32).toUInt32 &&& Int32.toUInt32 31)).toInt32) &&& 1431655765)))]) hx hb dJ7_bitCount_9 rfl hl (by decide) rfl (fun ls hl => ?_)
  refine lv_iload_n hx hb dJ7_bitCount_10 rfl (lv_at hl 0 rfl) ?_
  refine lv_ldcw hx hb hown (hts _ q546) dJ7_bitCount_11 ?_
  refine lv_iand hx hb dJ7_bitCount_14 ?_
  refine lv_iload_n hx hb dJ7_bitCount_15 rfl (lv_at hl 0 rfl) ?_
  refine lv_iconst (v := 2) hx hb dJ7_bitCount_16 (by decide) ?_
  refine lv_iushr (v := ((s - (((s.toUInt32 >>> ((1 : Int32).toUInt32 &&& Int32.toUInt32 31)).toInt32) &&& 1431655765)).toUInt32 >>> ((2 : Int32).toUInt32 &&& Int32.toUInt32 31)).toInt32) hx hb dJ7_bitCount_17 rfl ?_
  refine lv_ldcw hx hb hown (hts _ q546) dJ7_bitCount_18 ?_
  refine lv_iand hx hb dJ7_bitCount_21 ?_
  refine lv_iadd hx hb dJ7_bitCount_22 ?_
  refine lv_istore_n (lv' := [(0, .int (((s - (((s.toUInt32 >>> ((1 : Int32).toUInt32 &&& Int32.toUInt32 31)).toInt32) &&& 1431655765)) &&& 858993459) + ((((s - (((s.toUInt32 >>> ((1 : Int32).toUInt32 &&& Int32.toUInt32 31)).toInt32) &&& 1431655765)).toUInt32 >>> ((2 : Int32).toUInt32 &&& Int32.toUInt32 31)).toInt32) &&& 858993459)))]) hx hb dJ7_bitCount_23 rfl hl (by decide) rfl (fun ls hl => ?_)
  refine lv_iload_n hx hb dJ7_bitCount_24 rfl (lv_at hl 0 rfl) ?_
  refine lv_iload_n hx hb dJ7_bitCount_25 rfl (lv_at hl 0 rfl) ?_
  refine lv_iconst (v := 4) hx hb dJ7_bitCount_26 (by decide) ?_
  refine lv_iushr (v := ((((s - (((s.toUInt32 >>> ((1 : Int32).toUInt32 &&& Int32.toUInt32 31)).toInt32) &&& 1431655765)) &&& 858993459) + ((((s - (((s.toUInt32 >>> ((1 : Int32).toUInt32 &&& Int32.toUInt32 31)).toInt32) &&& 1431655765)).toUInt32 >>> ((2 : Int32).toUInt32 &&& Int32.toUInt32 31)).toInt32) &&& 858993459)).toUInt32 >>> ((4 : Int32).toUInt32 &&& Int32.toUInt32 31)).toInt32) hx hb dJ7_bitCount_27 rfl ?_
  refine lv_iadd hx hb dJ7_bitCount_28 ?_
  refine lv_ldcw hx hb hown (hts _ q547) dJ7_bitCount_29 ?_
  refine lv_iand hx hb dJ7_bitCount_32 ?_
  refine lv_istore_n (lv' := [(0, .int (((((s - (((s.toUInt32 >>> ((1 : Int32).toUInt32 &&& Int32.toUInt32 31)).toInt32) &&& 1431655765)) &&& 858993459) + ((((s - (((s.toUInt32 >>> ((1 : Int32).toUInt32 &&& Int32.toUInt32 31)).toInt32) &&& 1431655765)).toUInt32 >>> ((2 : Int32).toUInt32 &&& Int32.toUInt32 31)).toInt32) &&& 858993459)) + (((((s - (((s.toUInt32 >>> ((1 : Int32).toUInt32 &&& Int32.toUInt32 31)).toInt32) &&& 1431655765)) &&& 858993459) + ((((s - (((s.toUInt32 >>> ((1 : Int32).toUInt32 &&& Int32.toUInt32 31)).toInt32) &&& 1431655765)).toUInt32 >>> ((2 : Int32).toUInt32 &&& Int32.toUInt32 31)).toInt32) &&& 858993459)).toUInt32 >>> ((4 : Int32).toUInt32 &&& Int32.toUInt32 31)).toInt32)) &&& 252645135))]) hx hb dJ7_bitCount_33 rfl hl (by decide) rfl (fun ls hl => ?_)
  refine lv_iload_n hx hb dJ7_bitCount_34 rfl (lv_at hl 0 rfl) ?_
  refine lv_iload_n hx hb dJ7_bitCount_35 rfl (lv_at hl 0 rfl) ?_
  refine lv_bipush (v := 8) hx hb dJ7_bitCount_36 (by decide) ?_
  refine lv_iushr (v := ((((((s - (((s.toUInt32 >>> ((1 : Int32).toUInt32 &&& Int32.toUInt32 31)).toInt32) &&& 1431655765)) &&& 858993459) + ((((s - (((s.toUInt32 >>> ((1 : Int32).toUInt32 &&& Int32.toUInt32 31)).toInt32) &&& 1431655765)).toUInt32 >>> ((2 : Int32).toUInt32 &&& Int32.toUInt32 31)).toInt32) &&& 858993459)) + (((((s - (((s.toUInt32 >>> ((1 : Int32).toUInt32 &&& Int32.toUInt32 31)).toInt32) &&& 1431655765)) &&& 858993459) + ((((s - (((s.toUInt32 >>> ((1 : Int32).toUInt32 &&& Int32.toUInt32 31)).toInt32) &&& 1431655765)).toUInt32 >>> ((2 : Int32).toUInt32 &&& Int32.toUInt32 31)).toInt32) &&& 858993459)).toUInt32 >>> ((4 : Int32).toUInt32 &&& Int32.toUInt32 31)).toInt32)) &&& 252645135).toUInt32 >>> ((8 : Int32).toUInt32 &&& Int32.toUInt32 31)).toInt32) hx hb dJ7_bitCount_38 rfl ?_
  refine lv_iadd hx hb dJ7_bitCount_39 ?_
  refine lv_istore_n (lv' := [(0, .int ((((((s - (((s.toUInt32 >>> ((1 : Int32).toUInt32 &&& Int32.toUInt32 31)).toInt32) &&& 1431655765)) &&& 858993459) + ((((s - (((s.toUInt32 >>> ((1 : Int32).toUInt32 &&& Int32.toUInt32 31)).toInt32) &&& 1431655765)).toUInt32 >>> ((2 : Int32).toUInt32 &&& Int32.toUInt32 31)).toInt32) &&& 858993459)) + (((((s - (((s.toUInt32 >>> ((1 : Int32).toUInt32 &&& Int32.toUInt32 31)).toInt32) &&& 1431655765)) &&& 858993459) + ((((s - (((s.toUInt32 >>> ((1 : Int32).toUInt32 &&& Int32.toUInt32 31)).toInt32) &&& 1431655765)).toUInt32 >>> ((2 : Int32).toUInt32 &&& Int32.toUInt32 31)).toInt32) &&& 858993459)).toUInt32 >>> ((4 : Int32).toUInt32 &&& Int32.toUInt32 31)).toInt32)) &&& 252645135) + (((((((s - (((s.toUInt32 >>> ((1 : Int32).toUInt32 &&& Int32.toUInt32 31)).toInt32) &&& 1431655765)) &&& 858993459) + ((((s - (((s.toUInt32 >>> ((1 : Int32).toUInt32 &&& Int32.toUInt32 31)).toInt32) &&& 1431655765)).toUInt32 >>> ((2 : Int32).toUInt32 &&& Int32.toUInt32 31)).toInt32) &&& 858993459)) + (((((s - (((s.toUInt32 >>> ((1 : Int32).toUInt32 &&& Int32.toUInt32 31)).toInt32) &&& 1431655765)) &&& 858993459) + ((((s - (((s.toUInt32 >>> ((1 : Int32).toUInt32 &&& Int32.toUInt32 31)).toInt32) &&& 1431655765)).toUInt32 >>> ((2 : Int32).toUInt32 &&& Int32.toUInt32 31)).toInt32) &&& 858993459)).toUInt32 >>> ((4 : Int32).toUInt32 &&& Int32.toUInt32 31)).toInt32)) &&& 252645135).toUInt32 >>> ((8 : Int32).toUInt32 &&& Int32.toUInt32 31)).toInt32)))]) hx hb dJ7_bitCount_40 rfl hl (by decide) rfl (fun ls hl => ?_)
  refine lv_iload_n hx hb dJ7_bitCount_41 rfl (lv_at hl 0 rfl) ?_
  refine lv_iload_n hx hb dJ7_bitCount_42 rfl (lv_at hl 0 rfl) ?_
  refine lv_bipush (v := 16) hx hb dJ7_bitCount_43 (by decide) ?_
  refine lv_iushr (v := (((((((s - (((s.toUInt32 >>> ((1 : Int32).toUInt32 &&& Int32.toUInt32 31)).toInt32) &&& 1431655765)) &&& 858993459) + ((((s - (((s.toUInt32 >>> ((1 : Int32).toUInt32 &&& Int32.toUInt32 31)).toInt32) &&& 1431655765)).toUInt32 >>> ((2 : Int32).toUInt32 &&& Int32.toUInt32 31)).toInt32) &&& 858993459)) + (((((s - (((s.toUInt32 >>> ((1 : Int32).toUInt32 &&& Int32.toUInt32 31)).toInt32) &&& 1431655765)) &&& 858993459) + ((((s - (((s.toUInt32 >>> ((1 : Int32).toUInt32 &&& Int32.toUInt32 31)).toInt32) &&& 1431655765)).toUInt32 >>> ((2 : Int32).toUInt32 &&& Int32.toUInt32 31)).toInt32) &&& 858993459)).toUInt32 >>> ((4 : Int32).toUInt32 &&& Int32.toUInt32 31)).toInt32)) &&& 252645135) + (((((((s - (((s.toUInt32 >>> ((1 : Int32).toUInt32 &&& Int32.toUInt32 31)).toInt32) &&& 1431655765)) &&& 858993459) + ((((s - (((s.toUInt32 >>> ((1 : Int32).toUInt32 &&& Int32.toUInt32 31)).toInt32) &&& 1431655765)).toUInt32 >>> ((2 : Int32).toUInt32 &&& Int32.toUInt32 31)).toInt32) &&& 858993459)) + (((((s - (((s.toUInt32 >>> ((1 : Int32).toUInt32 &&& Int32.toUInt32 31)).toInt32) &&& 1431655765)) &&& 858993459) + ((((s - (((s.toUInt32 >>> ((1 : Int32).toUInt32 &&& Int32.toUInt32 31)).toInt32) &&& 1431655765)).toUInt32 >>> ((2 : Int32).toUInt32 &&& Int32.toUInt32 31)).toInt32) &&& 858993459)).toUInt32 >>> ((4 : Int32).toUInt32 &&& Int32.toUInt32 31)).toInt32)) &&& 252645135).toUInt32 >>> ((8 : Int32).toUInt32 &&& Int32.toUInt32 31)).toInt32)).toUInt32 >>> ((16 : Int32).toUInt32 &&& Int32.toUInt32 31)).toInt32) hx hb dJ7_bitCount_45 rfl ?_
  refine lv_iadd hx hb dJ7_bitCount_46 ?_
  refine lv_istore_n (lv' := [(0, .int (((((((s - (((s.toUInt32 >>> ((1 : Int32).toUInt32 &&& Int32.toUInt32 31)).toInt32) &&& 1431655765)) &&& 858993459) + ((((s - (((s.toUInt32 >>> ((1 : Int32).toUInt32 &&& Int32.toUInt32 31)).toInt32) &&& 1431655765)).toUInt32 >>> ((2 : Int32).toUInt32 &&& Int32.toUInt32 31)).toInt32) &&& 858993459)) + (((((s - (((s.toUInt32 >>> ((1 : Int32).toUInt32 &&& Int32.toUInt32 31)).toInt32) &&& 1431655765)) &&& 858993459) + ((((s - (((s.toUInt32 >>> ((1 : Int32).toUInt32 &&& Int32.toUInt32 31)).toInt32) &&& 1431655765)).toUInt32 >>> ((2 : Int32).toUInt32 &&& Int32.toUInt32 31)).toInt32) &&& 858993459)).toUInt32 >>> ((4 : Int32).toUInt32 &&& Int32.toUInt32 31)).toInt32)) &&& 252645135) + (((((((s - (((s.toUInt32 >>> ((1 : Int32).toUInt32 &&& Int32.toUInt32 31)).toInt32) &&& 1431655765)) &&& 858993459) + ((((s - (((s.toUInt32 >>> ((1 : Int32).toUInt32 &&& Int32.toUInt32 31)).toInt32) &&& 1431655765)).toUInt32 >>> ((2 : Int32).toUInt32 &&& Int32.toUInt32 31)).toInt32) &&& 858993459)) + (((((s - (((s.toUInt32 >>> ((1 : Int32).toUInt32 &&& Int32.toUInt32 31)).toInt32) &&& 1431655765)) &&& 858993459) + ((((s - (((s.toUInt32 >>> ((1 : Int32).toUInt32 &&& Int32.toUInt32 31)).toInt32) &&& 1431655765)).toUInt32 >>> ((2 : Int32).toUInt32 &&& Int32.toUInt32 31)).toInt32) &&& 858993459)).toUInt32 >>> ((4 : Int32).toUInt32 &&& Int32.toUInt32 31)).toInt32)) &&& 252645135).toUInt32 >>> ((8 : Int32).toUInt32 &&& Int32.toUInt32 31)).toInt32)) + ((((((((s - (((s.toUInt32 >>> ((1 : Int32).toUInt32 &&& Int32.toUInt32 31)).toInt32) &&& 1431655765)) &&& 858993459) + ((((s - (((s.toUInt32 >>> ((1 : Int32).toUInt32 &&& Int32.toUInt32 31)).toInt32) &&& 1431655765)).toUInt32 >>> ((2 : Int32).toUInt32 &&& Int32.toUInt32 31)).toInt32) &&& 858993459)) + (((((s - (((s.toUInt32 >>> ((1 : Int32).toUInt32 &&& Int32.toUInt32 31)).toInt32) &&& 1431655765)) &&& 858993459) + ((((s - (((s.toUInt32 >>> ((1 : Int32).toUInt32 &&& Int32.toUInt32 31)).toInt32) &&& 1431655765)).toUInt32 >>> ((2 : Int32).toUInt32 &&& Int32.toUInt32 31)).toInt32) &&& 858993459)).toUInt32 >>> ((4 : Int32).toUInt32 &&& Int32.toUInt32 31)).toInt32)) &&& 252645135) + (((((((s - (((s.toUInt32 >>> ((1 : Int32).toUInt32 &&& Int32.toUInt32 31)).toInt32) &&& 1431655765)) &&& 858993459) + ((((s - (((s.toUInt32 >>> ((1 : Int32).toUInt32 &&& Int32.toUInt32 31)).toInt32) &&& 1431655765)).toUInt32 >>> ((2 : Int32).toUInt32 &&& Int32.toUInt32 31)).toInt32) &&& 858993459)) + (((((s - (((s.toUInt32 >>> ((1 : Int32).toUInt32 &&& Int32.toUInt32 31)).toInt32) &&& 1431655765)) &&& 858993459) + ((((s - (((s.toUInt32 >>> ((1 : Int32).toUInt32 &&& Int32.toUInt32 31)).toInt32) &&& 1431655765)).toUInt32 >>> ((2 : Int32).toUInt32 &&& Int32.toUInt32 31)).toInt32) &&& 858993459)).toUInt32 >>> ((4 : Int32).toUInt32 &&& Int32.toUInt32 31)).toInt32)) &&& 252645135).toUInt32 >>> ((8 : Int32).toUInt32 &&& Int32.toUInt32 31)).toInt32)).toUInt32 >>> ((16 : Int32).toUInt32 &&& Int32.toUInt32 31)).toInt32)))]) hx hb dJ7_bitCount_47 rfl hl (by decide) rfl (fun ls hl => ?_)
  refine lv_iload_n hx hb dJ7_bitCount_48 rfl (lv_at hl 0 rfl) ?_
  refine lv_bipush (v := 63) hx hb dJ7_bitCount_49 (by decide) ?_
  refine lv_iand hx hb dJ7_bitCount_51 ?_
  subst hQQ; exact gx_iret () hx hb hr hlocks hAe hP hD hS (Nat.le_of_ble_eq_true rfl) (Nat.le_of_ble_eq_true rfl) h dJ7_bitCount_52
theorem ct_J7_bitCount (lL : Launch) (G : GE)  (s : Int32) (hp : pr_J7_bitCount s) : CtI lL yJ7_bitCount (ws_ yJ7_bitCount cJ7_bitCount 1 (some .int)) RJ7_bitCount G [.int s] [] (fun (rr_ : Int32) (uu_ : Unit) => ps_J7_bitCount s rr_ ) (fun (uu_ : Unit) => []) :=
  wk_J7_bitCount lL G  s _ (pf_J7_bitCount s hp)
abbrev RJ7_numberOfTrailingZeros : Room := ({ frames := 1, cells := 0, slots := 0, locals := 12 } : Room)
set_option maxHeartbeats 4000000 in
set_option maxRecDepth 100000 in
theorem wk_J7_numberOfTrailingZeros (lL : Launch) (G : GE)  (s : Int32) (Q : Int32 → Prop) (h : wp_J7_numberOfTrailingZeros s Q) : CtI lL yJ7_numberOfTrailingZeros (ws_ yJ7_numberOfTrailingZeros cJ7_numberOfTrailingZeros 2 (some .int)) RJ7_numberOfTrailingZeros G [.int s] [] (fun (rr_ : Int32) (uu_ : Unit) => Q rr_ ) (fun (uu_ : Unit) => []) := by
  refine gx_of (cc := cJ7_numberOfTrailingZeros) (maxL := 2) (ret := (some .int)) (by decide) (Nat.le_of_ble_eq_true rfl) ?_
  intro pp eE sS mM ar below meth cC AA ls QQ hx hb hr hml hts hown hlocks hnm hK hAe hQQ hP hD hA hS hl
  have hl : lv_has ls 2 [(0, .int s)] := hl
  refine lv_iload_n hx hb dJ7_numberOfTrailingZeros_0 rfl (lv_at hl 0 rfl) ?_
  refine lv_iconst (v := (-1)) hx hb dJ7_numberOfTrailingZeros_1 (by decide) ?_
  refine lv_ixor hx hb dJ7_numberOfTrailingZeros_2 ?_
  refine lv_iload_n hx hb dJ7_numberOfTrailingZeros_3 rfl (lv_at hl 0 rfl) ?_
  refine lv_iconst (v := 1) hx hb dJ7_numberOfTrailingZeros_4 (by decide) ?_
  refine lv_isub hx hb dJ7_numberOfTrailingZeros_5 ?_
  refine lv_iand hx hb dJ7_numberOfTrailingZeros_6 ?_
  refine lv_istore_n (lv' := [(0, .int ((s ^^^ (-1)) &&& (s - 1)))]) hx hb dJ7_numberOfTrailingZeros_7 rfl hl (by decide) rfl (fun ls hl => ?_)
  refine lv_iload_n hx hb dJ7_numberOfTrailingZeros_8 rfl (lv_at hl 0 rfl) ?_
  refine lv_if_gt (tgt := 17) hx hb dJ7_numberOfTrailingZeros_9 (by decide) (fun c_1 => ?_) (fun c_1 => ?_)
  · replace h := h.1 c_1
    refine lv_iconst (v := 1) hx hb dJ7_numberOfTrailingZeros_17 (by decide) ?_
    refine lv_istore_n (lv' := [(1, .int 1), (0, .int ((s ^^^ (-1)) &&& (s - 1)))]) hx hb dJ7_numberOfTrailingZeros_18 rfl hl (by decide) rfl (fun ls hl => ?_)
    refine lv_iload_n hx hb dJ7_numberOfTrailingZeros_19 rfl (lv_at hl 1 rfl) ?_
    refine lv_ldcw hx hb hown (hts _ q886) dJ7_numberOfTrailingZeros_20 ?_
    replace h := h (fun (x1_3 : Int32) (x0_4 : Int32) => ∀ (H : Heap) (locs : List Loc) (ls : Array Slot), va_P G.1 vwCl [] H → va_D AA [] → va_S AA sS.heap H locs → lv_has ls 2 [(1, .int x1_3), (0, .int x0_4)] → W pp lL eE RJ7_numberOfTrailingZeros sS mM ar below meth cC H locs 0 0 QQ (F0 mM 34 ls [])) (by
        clear h
        intro x1_3 x0_4 h H locs ls hP hD hS hl
        refine lv_iload_n hx hb dJ7_numberOfTrailingZeros_34 rfl (lv_at hl 1 rfl) ?_
        refine lv_sipush (v := 256) hx hb dJ7_numberOfTrailingZeros_35 (by decide) ?_
        refine lv_icmp_le (tgt := 49) hx hb dJ7_numberOfTrailingZeros_38 (by decide) (fun c_5 => ?_) (fun c_5 => ?_)
        · replace h := h.1 c_5
          refine lv_iload_n hx hb dJ7_numberOfTrailingZeros_49 rfl (lv_at hl 1 rfl) ?_
          refine lv_bipush (v := 16) hx hb dJ7_numberOfTrailingZeros_50 (by decide) ?_
          replace h := h (fun (x1_7 : Int32) (x0_8 : Int32) => ∀ (H : Heap) (locs : List Loc) (ls : Array Slot), va_P G.1 vwCl [] H → va_D AA [] → va_S AA sS.heap H locs → lv_has ls 2 [(1, .int x1_7), (0, .int x0_8)] → W pp lL eE RJ7_numberOfTrailingZeros sS mM ar below meth cC H locs 0 0 QQ (F0 mM 62 ls [])) (by
              clear h
              intro x1_7 x0_8 h H locs ls hP hD hS hl
              refine lv_iload_n hx hb dJ7_numberOfTrailingZeros_62 rfl (lv_at hl 1 rfl) ?_
              refine lv_iconst (v := 4) hx hb dJ7_numberOfTrailingZeros_63 (by decide) ?_
              refine lv_icmp_le (tgt := 74) hx hb dJ7_numberOfTrailingZeros_64 (by decide) (fun c_9 => ?_) (fun c_9 => ?_)
              · replace h := h.1 c_9
                refine lv_iload_n hx hb dJ7_numberOfTrailingZeros_74 rfl (lv_at hl 0 rfl) ?_
                refine lv_iload_n hx hb dJ7_numberOfTrailingZeros_75 rfl (lv_at hl 1 rfl) ?_
                refine lv_iconst (v := 1) hx hb dJ7_numberOfTrailingZeros_76 (by decide) ?_
                refine lv_iushr (v := (x0_8.toUInt32 >>> ((1 : Int32).toUInt32 &&& Int32.toUInt32 31)).toInt32) hx hb dJ7_numberOfTrailingZeros_77 rfl ?_
                refine lv_iadd hx hb dJ7_numberOfTrailingZeros_78 ?_
                subst hQQ; exact gx_iret () hx hb hr hlocks hAe hP hD hS (Nat.le_of_ble_eq_true rfl) (Nat.le_of_ble_eq_true rfl) h dJ7_numberOfTrailingZeros_79
              · replace h := h.2 c_9
                refine lv_iinc (v := x1_7 + 2) (lv' := [(1, .int (x1_7 + 2)), (0, .int x0_8)]) hx hb dJ7_numberOfTrailingZeros_67 hl (k := 0) rfl rfl (by decide) rfl (fun ls hl => ?_)
                refine lv_iload_n hx hb dJ7_numberOfTrailingZeros_70 rfl (lv_at hl 1 rfl) ?_
                refine lv_iconst (v := 2) hx hb dJ7_numberOfTrailingZeros_71 (by decide) ?_
                refine lv_iushr (v := (x0_8.toUInt32 >>> ((2 : Int32).toUInt32 &&& Int32.toUInt32 31)).toInt32) hx hb dJ7_numberOfTrailingZeros_72 rfl ?_
                refine lv_istore_n (lv' := [(0, .int ((x0_8.toUInt32 >>> ((2 : Int32).toUInt32 &&& Int32.toUInt32 31)).toInt32)), (1, .int (x1_7 + 2))]) hx hb dJ7_numberOfTrailingZeros_73 rfl hl (by decide) rfl (fun ls hl => ?_)
                refine lv_iload_n hx hb dJ7_numberOfTrailingZeros_74 rfl (lv_at hl 1 rfl) ?_
                refine lv_iload_n hx hb dJ7_numberOfTrailingZeros_75 rfl (lv_at hl 0 rfl) ?_
                refine lv_iconst (v := 1) hx hb dJ7_numberOfTrailingZeros_76 (by decide) ?_
                refine lv_iushr (v := (((x0_8.toUInt32 >>> ((2 : Int32).toUInt32 &&& Int32.toUInt32 31)).toInt32).toUInt32 >>> ((1 : Int32).toUInt32 &&& Int32.toUInt32 31)).toInt32) hx hb dJ7_numberOfTrailingZeros_77 rfl ?_
                refine lv_iadd hx hb dJ7_numberOfTrailingZeros_78 ?_
                subst hQQ; exact gx_iret () hx hb hr hlocks hAe hP hD hS (Nat.le_of_ble_eq_true rfl) (Nat.le_of_ble_eq_true rfl) h dJ7_numberOfTrailingZeros_79)
          refine lv_icmp_le (tgt := 62) hx hb dJ7_numberOfTrailingZeros_52 (by decide) (fun c_11 => ?_) (fun c_11 => ?_)
          · replace h := h.1 c_11
            exact h _ _ _ hP hD hS hl
          · replace h := h.2 c_11
            refine lv_iinc (v := x1_3 + 4) (lv' := [(1, .int (x1_3 + 4)), (0, .int x0_4)]) hx hb dJ7_numberOfTrailingZeros_55 hl (k := 0) rfl rfl (by decide) rfl (fun ls hl => ?_)
            refine lv_iload_n hx hb dJ7_numberOfTrailingZeros_58 rfl (lv_at hl 1 rfl) ?_
            refine lv_iconst (v := 4) hx hb dJ7_numberOfTrailingZeros_59 (by decide) ?_
            refine lv_iushr (v := (x0_4.toUInt32 >>> ((4 : Int32).toUInt32 &&& Int32.toUInt32 31)).toInt32) hx hb dJ7_numberOfTrailingZeros_60 rfl ?_
            refine lv_istore_n (lv' := [(0, .int ((x0_4.toUInt32 >>> ((4 : Int32).toUInt32 &&& Int32.toUInt32 31)).toInt32)), (1, .int (x1_3 + 4))]) hx hb dJ7_numberOfTrailingZeros_61 rfl hl (by decide) rfl (fun ls hl => ?_)
            exact h _ _ _ hP hD hS (lv_sub hl [1, 0] rfl)
        · replace h := h.2 c_5
          refine lv_iinc (v := x1_3 + 8) (lv' := [(1, .int (x1_3 + 8)), (0, .int x0_4)]) hx hb dJ7_numberOfTrailingZeros_41 hl (k := 0) rfl rfl (by decide) rfl (fun ls hl => ?_)
          refine lv_iload_n hx hb dJ7_numberOfTrailingZeros_44 rfl (lv_at hl 1 rfl) ?_
          refine lv_bipush (v := 8) hx hb dJ7_numberOfTrailingZeros_45 (by decide) ?_
          refine lv_iushr (v := (x0_4.toUInt32 >>> ((8 : Int32).toUInt32 &&& Int32.toUInt32 31)).toInt32) hx hb dJ7_numberOfTrailingZeros_47 rfl ?_
          refine lv_istore_n (lv' := [(0, .int ((x0_4.toUInt32 >>> ((8 : Int32).toUInt32 &&& Int32.toUInt32 31)).toInt32)), (1, .int (x1_3 + 8))]) hx hb dJ7_numberOfTrailingZeros_48 rfl hl (by decide) rfl (fun ls hl => ?_)
          refine lv_iload_n hx hb dJ7_numberOfTrailingZeros_49 rfl (lv_at hl 0 rfl) ?_
          refine lv_bipush (v := 16) hx hb dJ7_numberOfTrailingZeros_50 (by decide) ?_
          replace h := h (fun (x0_13 : Int32) (x1_14 : Int32) => ∀ (H : Heap) (locs : List Loc) (ls : Array Slot), va_P G.1 vwCl [] H → va_D AA [] → va_S AA sS.heap H locs → lv_has ls 2 [(0, .int x0_13), (1, .int x1_14)] → W pp lL eE RJ7_numberOfTrailingZeros sS mM ar below meth cC H locs 0 0 QQ (F0 mM 62 ls [])) (by
              clear h
              intro x0_13 x1_14 h H locs ls hP hD hS hl
              refine lv_iload_n hx hb dJ7_numberOfTrailingZeros_62 rfl (lv_at hl 0 rfl) ?_
              refine lv_iconst (v := 4) hx hb dJ7_numberOfTrailingZeros_63 (by decide) ?_
              refine lv_icmp_le (tgt := 74) hx hb dJ7_numberOfTrailingZeros_64 (by decide) (fun c_15 => ?_) (fun c_15 => ?_)
              · replace h := h.1 c_15
                refine lv_iload_n hx hb dJ7_numberOfTrailingZeros_74 rfl (lv_at hl 1 rfl) ?_
                refine lv_iload_n hx hb dJ7_numberOfTrailingZeros_75 rfl (lv_at hl 0 rfl) ?_
                refine lv_iconst (v := 1) hx hb dJ7_numberOfTrailingZeros_76 (by decide) ?_
                refine lv_iushr (v := (x0_13.toUInt32 >>> ((1 : Int32).toUInt32 &&& Int32.toUInt32 31)).toInt32) hx hb dJ7_numberOfTrailingZeros_77 rfl ?_
                refine lv_iadd hx hb dJ7_numberOfTrailingZeros_78 ?_
                subst hQQ; exact gx_iret () hx hb hr hlocks hAe hP hD hS (Nat.le_of_ble_eq_true rfl) (Nat.le_of_ble_eq_true rfl) h dJ7_numberOfTrailingZeros_79
              · replace h := h.2 c_15
                refine lv_iinc (v := x1_14 + 2) (lv' := [(1, .int (x1_14 + 2)), (0, .int x0_13)]) hx hb dJ7_numberOfTrailingZeros_67 hl (k := 1) rfl rfl (by decide) rfl (fun ls hl => ?_)
                refine lv_iload_n hx hb dJ7_numberOfTrailingZeros_70 rfl (lv_at hl 1 rfl) ?_
                refine lv_iconst (v := 2) hx hb dJ7_numberOfTrailingZeros_71 (by decide) ?_
                refine lv_iushr (v := (x0_13.toUInt32 >>> ((2 : Int32).toUInt32 &&& Int32.toUInt32 31)).toInt32) hx hb dJ7_numberOfTrailingZeros_72 rfl ?_
                refine lv_istore_n (lv' := [(0, .int ((x0_13.toUInt32 >>> ((2 : Int32).toUInt32 &&& Int32.toUInt32 31)).toInt32)), (1, .int (x1_14 + 2))]) hx hb dJ7_numberOfTrailingZeros_73 rfl hl (by decide) rfl (fun ls hl => ?_)
                refine lv_iload_n hx hb dJ7_numberOfTrailingZeros_74 rfl (lv_at hl 1 rfl) ?_
                refine lv_iload_n hx hb dJ7_numberOfTrailingZeros_75 rfl (lv_at hl 0 rfl) ?_
                refine lv_iconst (v := 1) hx hb dJ7_numberOfTrailingZeros_76 (by decide) ?_
                refine lv_iushr (v := (((x0_13.toUInt32 >>> ((2 : Int32).toUInt32 &&& Int32.toUInt32 31)).toInt32).toUInt32 >>> ((1 : Int32).toUInt32 &&& Int32.toUInt32 31)).toInt32) hx hb dJ7_numberOfTrailingZeros_77 rfl ?_
                refine lv_iadd hx hb dJ7_numberOfTrailingZeros_78 ?_
                subst hQQ; exact gx_iret () hx hb hr hlocks hAe hP hD hS (Nat.le_of_ble_eq_true rfl) (Nat.le_of_ble_eq_true rfl) h dJ7_numberOfTrailingZeros_79)
          refine lv_icmp_le (tgt := 62) hx hb dJ7_numberOfTrailingZeros_52 (by decide) (fun c_17 => ?_) (fun c_17 => ?_)
          · replace h := h.1 c_17
            exact h _ _ _ hP hD hS hl
          · replace h := h.2 c_17
            refine lv_iinc (v := (x1_3 + 8) + 4) (lv' := [(1, .int ((x1_3 + 8) + 4)), (0, .int ((x0_4.toUInt32 >>> ((8 : Int32).toUInt32 &&& Int32.toUInt32 31)).toInt32))]) hx hb dJ7_numberOfTrailingZeros_55 hl (k := 1) rfl rfl (by decide) rfl (fun ls hl => ?_)
            refine lv_iload_n hx hb dJ7_numberOfTrailingZeros_58 rfl (lv_at hl 1 rfl) ?_
            refine lv_iconst (v := 4) hx hb dJ7_numberOfTrailingZeros_59 (by decide) ?_
            refine lv_iushr (v := (((x0_4.toUInt32 >>> ((8 : Int32).toUInt32 &&& Int32.toUInt32 31)).toInt32).toUInt32 >>> ((4 : Int32).toUInt32 &&& Int32.toUInt32 31)).toInt32) hx hb dJ7_numberOfTrailingZeros_60 rfl ?_
            refine lv_istore_n (lv' := [(0, .int ((((x0_4.toUInt32 >>> ((8 : Int32).toUInt32 &&& Int32.toUInt32 31)).toInt32).toUInt32 >>> ((4 : Int32).toUInt32 &&& Int32.toUInt32 31)).toInt32)), (1, .int ((x1_3 + 8) + 4))]) hx hb dJ7_numberOfTrailingZeros_61 rfl hl (by decide) rfl (fun ls hl => ?_)
            exact h _ _ _ hP hD hS hl)
    refine lv_icmp_le (tgt := 34) hx hb dJ7_numberOfTrailingZeros_23 (by decide) (fun c_19 => ?_) (fun c_19 => ?_)
    · replace h := h.1 c_19
      exact h _ _ _ hP hD hS hl
    · replace h := h.2 c_19
      refine lv_iinc (v := 1 + 16) (lv' := [(1, .int (1 + 16)), (0, .int ((s ^^^ (-1)) &&& (s - 1)))]) hx hb dJ7_numberOfTrailingZeros_26 hl (k := 0) rfl rfl (by decide) rfl (fun ls hl => ?_)
      refine lv_iload_n hx hb dJ7_numberOfTrailingZeros_29 rfl (lv_at hl 1 rfl) ?_
      refine lv_bipush (v := 16) hx hb dJ7_numberOfTrailingZeros_30 (by decide) ?_
      refine lv_iushr (v := (((s ^^^ (-1)) &&& (s - 1)).toUInt32 >>> ((16 : Int32).toUInt32 &&& Int32.toUInt32 31)).toInt32) hx hb dJ7_numberOfTrailingZeros_32 rfl ?_
      refine lv_istore_n (lv' := [(0, .int ((((s ^^^ (-1)) &&& (s - 1)).toUInt32 >>> ((16 : Int32).toUInt32 &&& Int32.toUInt32 31)).toInt32)), (1, .int (1 + 16))]) hx hb dJ7_numberOfTrailingZeros_33 rfl hl (by decide) rfl (fun ls hl => ?_)
      exact h _ _ _ hP hD hS (lv_sub hl [1, 0] rfl)
  · replace h := h.2 c_1
    refine lv_iload_n hx hb dJ7_numberOfTrailingZeros_12 rfl (lv_at hl 0 rfl) ?_
    refine lv_bipush (v := 32) hx hb dJ7_numberOfTrailingZeros_13 (by decide) ?_
    refine lv_iand hx hb dJ7_numberOfTrailingZeros_15 ?_
    subst hQQ; exact gx_iret () hx hb hr hlocks hAe hP hD hS (Nat.le_of_ble_eq_true rfl) (Nat.le_of_ble_eq_true rfl) h dJ7_numberOfTrailingZeros_16
theorem ct_J7_numberOfTrailingZeros (lL : Launch) (G : GE)  (s : Int32) (hp : pr_J7_numberOfTrailingZeros s) : CtI lL yJ7_numberOfTrailingZeros (ws_ yJ7_numberOfTrailingZeros cJ7_numberOfTrailingZeros 2 (some .int)) RJ7_numberOfTrailingZeros G [.int s] [] (fun (rr_ : Int32) (uu_ : Unit) => ps_J7_numberOfTrailingZeros s rr_ ) (fun (uu_ : Unit) => []) :=
  wk_J7_numberOfTrailingZeros lL G  s _ (pf_J7_numberOfTrailingZeros s hp)
abbrev RX1_gates_T : Room := ({ frames := 2, cells := 0, slots := 0, locals := 33 } : Room)
set_option maxHeartbeats 4000000 in
set_option maxRecDepth 100000 in
theorem wk_X1_gates_T (lL : Launch) (G : GE) (p pk pd pw pv ps : Nat) (kp dp tw wt st : Nat → Int32) (tn tr tre tm ts fr al : Int32) (Q : (Nat → Int32) → Prop) (h : wp_X1_gates_T kp dp tw wt st tn tr tre tm ts fr al Q) : CtV lL yX1_gates (ws_ yX1_gates cX1_gates 8 none) RX1_gates_T G [.ref p, .int fr, .int al, .ref ps] [(p, .inr (1, [.ref pk, .ref pd, .ref pw, .ref pv, .ref ps, .int tn, .int tr, .int tre, .int tm, .int ts])), (pk, .inl (G.2 0, 16, .inl kp)), (pd, .inl (G.2 0, 16, .inl dp)), (pw, .inl (G.2 0, 16, .inl tw)), (pv, .inl (G.2 0, 16, .inl wt)), (ps, .inl (G.2 0, 16, .inl st))] (fun (uu_ : (Nat → Int32)) => Q uu_) (fun (uu_ : (Nat → Int32)) => [(p, .inr (1, [.ref pk, .ref pd, .ref pw, .ref pv, .ref ps, .int tn, .int tr, .int tre, .int tm, .int ts])), (pk, .inl (G.2 0, 16, .inl kp)), (pd, .inl (G.2 0, 16, .inl dp)), (pw, .inl (G.2 0, 16, .inl tw)), (pv, .inl (G.2 0, 16, .inl wt)), (ps, .inl (G.2 0, 16, .inl uu_))]) := by
  refine gx_of (cc := cX1_gates) (maxL := 8) (ret := none) (by decide) (Nat.le_of_ble_eq_true rfl) ?_
  intro pp eE sS mM ar below meth cC AA ls QQ hx hb hr hml hts hown hlocks hnm hK hAe hQQ hP hD hA hS hl
  have hl : lv_has ls 8 [(0, .ref p), (1, .int fr), (2, .int al), (3, .ref ps)] := hl
  refine lv_iconst (v := 0) hx hb dX1_gates_0 (by decide) ?_
  refine lv_istore (lv' := [(4, .int 0), (0, .ref p), (1, .int fr), (2, .int al), (3, .ref ps)]) hx hb dX1_gates_1 hl (by decide) rfl (fun ls hl => ?_)
  replace h := h (fun (a_38 : Nat → Int32) => ∀ (H : Heap) (locs : List Loc) (ls : Array Slot), va_P G.1 vwCl [(p, .inr (1, [.ref pk, .ref pd, .ref pw, .ref pv, .ref ps, .int tn, .int tr, .int tre, .int tm, .int ts])), (pk, .inl (G.2 0, 16, .inl kp)), (pd, .inl (G.2 0, 16, .inl dp)), (pw, .inl (G.2 0, 16, .inl tw)), (pv, .inl (G.2 0, 16, .inl wt)), (ps, .inl (G.2 0, 16, .inl a_38))] H → va_D AA [(p, .inr (1, [.ref pk, .ref pd, .ref pw, .ref pv, .ref ps, .int tn, .int tr, .int tre, .int tm, .int ts])), (pk, .inl (G.2 0, 16, .inl kp)), (pd, .inl (G.2 0, 16, .inl dp)), (pw, .inl (G.2 0, 16, .inl tw)), (pv, .inl (G.2 0, 16, .inl wt)), (ps, .inl (G.2 0, 16, .inl a_38))] → va_S AA sS.heap H locs → lv_has ls 8 [(0, .ref p), (1, .int fr), (2, .int al), (3, .ref ps)] → W pp lL eE RX1_gates_T sS mM ar below meth cC H locs 0 0 QQ (F0 mM 51 ls [])) (by
      clear h
      intro a_38 h H locs ls hP hD hS hl
      refine lv_iconst (v := 1) hx hb dX1_gates_51 (by decide) ?_
      refine lv_istore (lv' := [(4, .int 1), (0, .ref p), (1, .int fr), (2, .int al), (3, .ref ps)]) hx hb dX1_gates_52 hl (by decide) rfl (fun ls hl => ?_)
      replace h := h (fun (a_744 : Nat → Int32) => ∀ (H : Heap) (locs : List Loc) (ls : Array Slot), va_P G.1 vwCl [(p, .inr (1, [.ref pk, .ref pd, .ref pw, .ref pv, .ref ps, .int tn, .int tr, .int tre, .int tm, .int ts])), (pk, .inl (G.2 0, 16, .inl kp)), (pd, .inl (G.2 0, 16, .inl dp)), (pw, .inl (G.2 0, 16, .inl tw)), (pv, .inl (G.2 0, 16, .inl wt)), (ps, .inl (G.2 0, 16, .inl a_744))] H → va_D AA [(p, .inr (1, [.ref pk, .ref pd, .ref pw, .ref pv, .ref ps, .int tn, .int tr, .int tre, .int tm, .int ts])), (pk, .inl (G.2 0, 16, .inl kp)), (pd, .inl (G.2 0, 16, .inl dp)), (pw, .inl (G.2 0, 16, .inl tw)), (pv, .inl (G.2 0, 16, .inl wt)), (ps, .inl (G.2 0, 16, .inl a_744))] → va_S AA sS.heap H locs → lv_has ls 8 [] → W pp lL eE RX1_gates_T sS mM ar below meth cC H locs 0 0 QQ (F0 mM 196 ls [])) (by
          clear h
          intro a_744 h H locs ls hP hD hS hl
          subst hQQ; exact gx_vret a_744 hx hb hr hlocks hAe hP hD hS (Nat.le_of_ble_eq_true rfl) (Nat.le_of_ble_eq_true rfl) h dX1_gates_196)
      refine h (fun (x4_746 : Int32) (a_747 : Nat → Int32) => ∀ (H : Heap) (locs : List Loc) (ls : Array Slot), va_P G.1 vwCl [(p, .inr (1, [.ref pk, .ref pd, .ref pw, .ref pv, .ref ps, .int tn, .int tr, .int tre, .int tm, .int ts])), (pk, .inl (G.2 0, 16, .inl kp)), (pd, .inl (G.2 0, 16, .inl dp)), (pw, .inl (G.2 0, 16, .inl tw)), (pv, .inl (G.2 0, 16, .inl wt)), (ps, .inl (G.2 0, 16, .inl a_747))] H → va_D AA [(p, .inr (1, [.ref pk, .ref pd, .ref pw, .ref pv, .ref ps, .int tn, .int tr, .int tre, .int tm, .int ts])), (pk, .inl (G.2 0, 16, .inl kp)), (pd, .inl (G.2 0, 16, .inl dp)), (pw, .inl (G.2 0, 16, .inl tw)), (pv, .inl (G.2 0, 16, .inl wt)), (ps, .inl (G.2 0, 16, .inl a_747))] → va_S AA sS.heap H locs → lv_has ls 8 [(4, .int x4_746), (0, .ref p), (1, .int fr), (2, .int al), (3, .ref ps)] → W pp lL eE RX1_gates_T sS mM ar below meth cC H locs 0 0 QQ (F0 mM 54 ls [])) ?_  _ _ _ hP hD hS hl
      clear h
      intro x4_746 a_747 h H locs ls hP hD hS hl
      refine lv_iload hx hb dX1_gates_54 (lv_at hl 0 rfl) ?_
      refine lv_if_eq (tgt := 196) hx hb dX1_gates_56 (by decide) (fun c_749 => ?_) (fun c_749 => ?_)
      · replace h := h.1 c_749
        exact h _ _ _ hP hD hS (lv_sub hl [] rfl)
      · replace h := h.2 c_749
        refine lv_iconst (v := 0) hx hb dX1_gates_59 (by decide) ?_
        refine lv_istore (lv' := [(4, .int 0), (0, .ref p), (1, .int fr), (2, .int al), (3, .ref ps)]) hx hb dX1_gates_60 hl (by decide) rfl (fun ls hl => ?_)
        refine lv_iconst (v := 0) hx hb dX1_gates_62 (by decide) ?_
        refine lv_istore (lv' := [(5, .int 0), (4, .int 0), (0, .ref p), (1, .int fr), (2, .int al), (3, .ref ps)]) hx hb dX1_gates_63 hl (by decide) rfl (fun ls hl => ?_)
        replace h := h (fun (x4_920 : Int32) (a_921 : Nat → Int32) => ∀ (H : Heap) (locs : List Loc) (ls : Array Slot), va_P G.1 vwCl [(p, .inr (1, [.ref pk, .ref pd, .ref pw, .ref pv, .ref ps, .int tn, .int tr, .int tre, .int tm, .int ts])), (pk, .inl (G.2 0, 16, .inl kp)), (pd, .inl (G.2 0, 16, .inl dp)), (pw, .inl (G.2 0, 16, .inl tw)), (pv, .inl (G.2 0, 16, .inl wt)), (ps, .inl (G.2 0, 16, .inl a_921))] H → va_D AA [(p, .inr (1, [.ref pk, .ref pd, .ref pw, .ref pv, .ref ps, .int tn, .int tr, .int tre, .int tm, .int ts])), (pk, .inl (G.2 0, 16, .inl kp)), (pd, .inl (G.2 0, 16, .inl dp)), (pw, .inl (G.2 0, 16, .inl tw)), (pv, .inl (G.2 0, 16, .inl wt)), (ps, .inl (G.2 0, 16, .inl a_921))] → va_S AA sS.heap H locs → lv_has ls 8 [(4, .int x4_920), (0, .ref p), (1, .int fr), (2, .int al), (3, .ref ps)] → W pp lL eE RX1_gates_T sS mM ar below meth cC H locs 0 0 QQ (F0 mM 193 ls [])) (by
            clear h
            intro x4_920 a_921 h H locs ls hP hD hS hl
            refine lv_goto (tgt := 54) hx hb dX1_gates_193 (by decide) ?_
            exact h _ _ _ hP hD hS hl)
        refine h (fun (x5_923 : Int32) (x4_924 : Int32) (a_925 : Nat → Int32) => ∀ (H : Heap) (locs : List Loc) (ls : Array Slot), va_P G.1 vwCl [(p, .inr (1, [.ref pk, .ref pd, .ref pw, .ref pv, .ref ps, .int tn, .int tr, .int tre, .int tm, .int ts])), (pk, .inl (G.2 0, 16, .inl kp)), (pd, .inl (G.2 0, 16, .inl dp)), (pw, .inl (G.2 0, 16, .inl tw)), (pv, .inl (G.2 0, 16, .inl wt)), (ps, .inl (G.2 0, 16, .inl a_925))] H → va_D AA [(p, .inr (1, [.ref pk, .ref pd, .ref pw, .ref pv, .ref ps, .int tn, .int tr, .int tre, .int tm, .int ts])), (pk, .inl (G.2 0, 16, .inl kp)), (pd, .inl (G.2 0, 16, .inl dp)), (pw, .inl (G.2 0, 16, .inl tw)), (pv, .inl (G.2 0, 16, .inl wt)), (ps, .inl (G.2 0, 16, .inl a_925))] → va_S AA sS.heap H locs → lv_has ls 8 [(5, .int x5_923), (4, .int x4_924), (0, .ref p), (1, .int fr), (2, .int al), (3, .ref ps)] → W pp lL eE RX1_gates_T sS mM ar below meth cC H locs 0 0 QQ (F0 mM 65 ls [])) ?_  _ _ _ hP hD hS hl
        clear h
        intro x5_923 x4_924 a_925 h H locs ls hP hD hS hl
        refine lv_iload hx hb dX1_gates_65 (lv_at hl 0 rfl) ?_
        refine lv_aload_n hx hb dX1_gates_67 rfl (lv_at hl 2 rfl) ?_
        have hPc := hP.sub (ws' := [(p, .inr (1, [.ref pk, .ref pd, .ref pw, .ref pv, .ref ps, .int tn, .int tr, .int tre, .int tm, .int ts])), (pk, .inl (G.2 0, 16, .inl kp)), (pd, .inl (G.2 0, 16, .inl dp)), (pw, .inl (G.2 0, 16, .inl tw)), (pv, .inl (G.2 0, 16, .inl wt)), (ps, .inl (G.2 0, 16, .inl a_925))]) [0, 1, 2, 3, 4, 5] rfl
        have hDc := hD.sub (ws' := [(p, .inr (1, [.ref pk, .ref pd, .ref pw, .ref pv, .ref ps, .int tn, .int tr, .int tre, .int tm, .int ts])), (pk, .inl (G.2 0, 16, .inl kp)), (pd, .inl (G.2 0, 16, .inl dp)), (pw, .inl (G.2 0, 16, .inl tw)), (pv, .inl (G.2 0, 16, .inl wt)), (ps, .inl (G.2 0, 16, .inl a_925))]) [0, 1, 2, 3, 4, 5] (by decide) rfl
        refine gx_Fi (G := G) (wc := [(p, .inr (1, [.ref pk, .ref pd, .ref pw, .ref pv, .ref ps, .int tn, .int tr, .int tre, .int tm, .int ts])), (pk, .inl (G.2 0, 16, .inl kp)), (pd, .inl (G.2 0, 16, .inl dp)), (pw, .inl (G.2 0, 16, .inl tw)), (pv, .inl (G.2 0, 16, .inl wt)), (ps, .inl (G.2 0, 16, .inl a_925))]) (wr := []) (va_runF (As := []) (rest := [.int x5_923]) (hK.1.1 1 _ rfl).2 ⟨hx, hb, hml, hown, hts⟩ (ct_X5_nodes lL G p pk pd pw pv ps kp dp tw wt a_925 tn tr tre tm ts _) (va_cwF 0 hts (lw_F q533 q487 q489 q171 q491) rfl rfl rfl (hK.2.2.1 ("GateLifter$Tree", yF_nodes, yX5_nodes) (by decide)) (by decide +kernel) ⟨Nat.le_of_ble_eq_true rfl, Nat.le_of_ble_eq_true rfl⟩) (gx_preV hK hPc hDc 1 0 rfl rfl) rfl rfl hl.1 rfl (lv_room (Nat.le_of_ble_eq_true rfl)) dX1_gates_68 ⟨Nat.le_of_ble_eq_true rfl, Nat.le_of_ble_eq_true rfl⟩) hP hD hS hA [0, 1, 2, 3, 4, 5] [] rfl rfl (by decide) (by decide) (fun r_927 u_927 H locs hw_927 hP hD hS => ?_)
        have hP : va_P G.1 vwCl [(p, .inr (1, [.ref pk, .ref pd, .ref pw, .ref pv, .ref ps, .int tn, .int tr, .int tre, .int tm, .int ts])), (pk, .inl (G.2 0, 16, .inl kp)), (pd, .inl (G.2 0, 16, .inl dp)), (pw, .inl (G.2 0, 16, .inl tw)), (pv, .inl (G.2 0, 16, .inl wt)), (ps, .inl (G.2 0, 16, .inl a_925))] H := hP
        have hD : va_D AA [(p, .inr (1, [.ref pk, .ref pd, .ref pw, .ref pv, .ref ps, .int tn, .int tr, .int tre, .int tm, .int ts])), (pk, .inl (G.2 0, 16, .inl kp)), (pd, .inl (G.2 0, 16, .inl dp)), (pw, .inl (G.2 0, 16, .inl tw)), (pv, .inl (G.2 0, 16, .inl wt)), (ps, .inl (G.2 0, 16, .inl a_925))] := hD
        replace h := h r_927 hw_927
        refine lv_icmp_ge (tgt := 193) hx hb dX1_gates_73 (by decide) (fun c_928 => ?_) (fun c_928 => ?_)
        · replace h := h.1 c_928
          exact h _ _ _ hP hD hS (lv_sub hl [1, 2, 3, 4, 5] rfl)
        · replace h := h.2 c_928
          refine lv_iload_n hx hb dX1_gates_76 rfl (lv_at hl 4 rfl) ?_
          refine lv_iload hx hb dX1_gates_77 (lv_at hl 0 rfl) ?_
          have hPc := hP.sub (ws' := []) [] rfl
          have hDc := hD.sub (ws' := []) [] (by decide) rfl
          refine gx_i (G := G) (wc := []) (wr := [(p, .inr (1, [.ref pk, .ref pd, .ref pw, .ref pv, .ref ps, .int tn, .int tr, .int tre, .int tm, .int ts])), (pk, .inl (G.2 0, 16, .inl kp)), (pd, .inl (G.2 0, 16, .inl dp)), (pw, .inl (G.2 0, 16, .inl tw)), (pv, .inl (G.2 0, 16, .inl wt)), (ps, .inl (G.2 0, 16, .inl a_925))]) (va_runS (As := [.int al, .int x5_923]) (rest := []) ⟨hx, hb, hml, hown, hts⟩ (ct_X1_has lL G al x5_923 _) (va_cwS 2 hts (lw_S q534 q501 q164 q502) rfl rfl rfl (by decide +kernel) ⟨Nat.le_of_ble_eq_true rfl, Nat.le_of_ble_eq_true rfl⟩) (gx_preS hK hPc hDc) rfl rfl hl.1 rfl (lv_room (Nat.le_of_ble_eq_true rfl)) dX1_gates_79 ⟨Nat.le_of_ble_eq_true rfl, Nat.le_of_ble_eq_true rfl⟩) hP hD hS hA [] [0, 1, 2, 3, 4, 5] rfl rfl (by decide) (by decide) (fun r_929 u_929 H locs hw_929 hP hD hS => ?_)
          have hP : va_P G.1 vwCl [(p, .inr (1, [.ref pk, .ref pd, .ref pw, .ref pv, .ref ps, .int tn, .int tr, .int tre, .int tm, .int ts])), (pk, .inl (G.2 0, 16, .inl kp)), (pd, .inl (G.2 0, 16, .inl dp)), (pw, .inl (G.2 0, 16, .inl tw)), (pv, .inl (G.2 0, 16, .inl wt)), (ps, .inl (G.2 0, 16, .inl a_925))] H := hP
          have hD : va_D AA [(p, .inr (1, [.ref pk, .ref pd, .ref pw, .ref pv, .ref ps, .int tn, .int tr, .int tre, .int tm, .int ts])), (pk, .inl (G.2 0, 16, .inl kp)), (pd, .inl (G.2 0, 16, .inl dp)), (pw, .inl (G.2 0, 16, .inl tw)), (pv, .inl (G.2 0, 16, .inl wt)), (ps, .inl (G.2 0, 16, .inl a_925))] := hD
          replace h := h r_929 hw_929
          refine lv_if_eq (tgt := 187) hx hb dX1_gates_82 (by decide) (fun c_930 => ?_) (fun c_930 => ?_)
          · replace h := h.1 c_930
            refine lv_iinc (v := x5_923 + 1) (lv' := [(5, .int (x5_923 + 1)), (4, .int x4_924), (0, .ref p), (1, .int fr), (2, .int al), (3, .ref ps)]) hx hb dX1_gates_187 hl (k := 0) rfl rfl (by decide) rfl (fun ls hl => ?_)
            refine lv_goto (tgt := 65) hx hb dX1_gates_190 (by decide) ?_
            exact h _ _ _ hP hD hS hl
          · replace h := h.2 c_930
            refine lv_iload hx hb dX1_gates_85 (lv_at hl 0 rfl) ?_
            refine lv_iload_n hx hb dX1_gates_87 rfl (lv_at hl 3 rfl) ?_
            refine lv_icmp_ne (tgt := 94) hx hb dX1_gates_88 (by decide) (fun c_931 => ?_) (fun c_931 => ?_)
            · replace h := h.1 c_931
              refine lv_iload_n hx hb dX1_gates_94 rfl (lv_at hl 4 rfl) ?_
              refine lv_istore (lv' := [(6, .int al), (5, .int x5_923), (4, .int x4_924), (0, .ref p), (1, .int fr), (2, .int al), (3, .ref ps)]) hx hb dX1_gates_95 hl (by decide) rfl (fun ls hl => ?_)
              refine lv_iconst (v := 0) hx hb dX1_gates_97 (by decide) ?_
              refine lv_istore (lv' := [(7, .int 0), (6, .int al), (5, .int x5_923), (4, .int x4_924), (0, .ref p), (1, .int fr), (2, .int al), (3, .ref ps)]) hx hb dX1_gates_98 hl (by decide) rfl (fun ls hl => ?_)
              replace h := h (fun (x6_962 : Int32) => ∀ (H : Heap) (locs : List Loc) (ls : Array Slot), va_P G.1 vwCl [(p, .inr (1, [.ref pk, .ref pd, .ref pw, .ref pv, .ref ps, .int tn, .int tr, .int tre, .int tm, .int ts])), (pk, .inl (G.2 0, 16, .inl kp)), (pd, .inl (G.2 0, 16, .inl dp)), (pw, .inl (G.2 0, 16, .inl tw)), (pv, .inl (G.2 0, 16, .inl wt)), (ps, .inl (G.2 0, 16, .inl a_925))] H → va_D AA [(p, .inr (1, [.ref pk, .ref pd, .ref pw, .ref pv, .ref ps, .int tn, .int tr, .int tre, .int tm, .int ts])), (pk, .inl (G.2 0, 16, .inl kp)), (pd, .inl (G.2 0, 16, .inl dp)), (pw, .inl (G.2 0, 16, .inl tw)), (pv, .inl (G.2 0, 16, .inl wt)), (ps, .inl (G.2 0, 16, .inl a_925))] → va_S AA sS.heap H locs → lv_has ls 8 [(6, .int x6_962), (5, .int x5_923), (4, .int x4_924), (0, .ref p), (1, .int fr), (2, .int al), (3, .ref ps)] → W pp lL eE RX1_gates_T sS mM ar below meth cC H locs 0 0 QQ (F0 mM 151 ls [])) (by
                  clear h
                  intro x6_962 h H locs ls hP hD hS hl
                  refine lv_iload hx hb dX1_gates_151 (lv_at hl 0 rfl) ?_
                  refine lv_iconst (v := 1) hx hb dX1_gates_153 (by decide) ?_
                  refine lv_iload hx hb dX1_gates_154 (lv_at hl 1 rfl) ?_
                  refine lv_ishl hx hb dX1_gates_156 ?_
                  refine lv_ior hx hb dX1_gates_157 ?_
                  refine lv_istore (lv' := [(6, .int (x6_962 ||| (1 <<< (x5_923 &&& 31)))), (5, .int x5_923), (4, .int x4_924), (0, .ref p), (1, .int fr), (2, .int al), (3, .ref ps)]) hx hb dX1_gates_158 hl (by decide) rfl (fun ls hl => ?_)
                  refine lv_iload hx hb dX1_gates_160 (lv_at hl 2 rfl) ?_
                  refine lv_if_ne (tgt := 174) hx hb dX1_gates_162 (by decide) (fun c_963 => ?_) (fun c_963 => ?_)
                  · replace h := h.1 c_963
                    refine lv_iconst (v := 1) hx hb dX1_gates_174 (by decide) ?_
                    refine lv_goto (tgt := 179) hx hb dX1_gates_175 (by decide) ?_
                    refine lv_istore (lv' := [(4, .int 1), (6, .int (x6_962 ||| (1 <<< (x5_923 &&& 31)))), (5, .int x5_923), (0, .ref p), (1, .int fr), (2, .int al), (3, .ref ps)]) hx hb dX1_gates_179 hl (by decide) rfl (fun ls hl => ?_)
                    refine lv_aload_n hx hb dX1_gates_181 rfl (lv_at hl 6 rfl) ?_
                    refine lv_iload hx hb dX1_gates_182 (lv_at hl 2 rfl) ?_
                    refine lv_iload hx hb dX1_gates_184 (lv_at hl 1 rfl) ?_
                    have b_964 := h.1
                    refine va_iast hx hb hK.1 hP hD hS 5 0 rfl rfl b_964 dX1_gates_186 (fun H locs hP hD hS => ?_)
                    replace h := h.2
                    obtain ⟨u_965, eu_965⟩ : ∃ z__, z__ = upd a_925 x5_923.toNatClampNeg (x6_962 ||| (1 <<< (x5_923 &&& 31))) := ⟨_, rfl⟩
                    replace h := h u_965 eu_965
                    have hP : va_P G.1 vwCl [(p, .inr (1, [.ref pk, .ref pd, .ref pw, .ref pv, .ref ps, .int tn, .int tr, .int tre, .int tm, .int ts])), (pk, .inl (G.2 0, 16, .inl kp)), (pd, .inl (G.2 0, 16, .inl dp)), (pw, .inl (G.2 0, 16, .inl tw)), (pv, .inl (G.2 0, 16, .inl wt)), (ps, .inl (G.2 0, 16, .inl u_965))] H := by rw [eu_965]; exact hP
                    have hD : va_D AA [(p, .inr (1, [.ref pk, .ref pd, .ref pw, .ref pv, .ref ps, .int tn, .int tr, .int tre, .int tm, .int ts])), (pk, .inl (G.2 0, 16, .inl kp)), (pd, .inl (G.2 0, 16, .inl dp)), (pw, .inl (G.2 0, 16, .inl tw)), (pv, .inl (G.2 0, 16, .inl wt)), (ps, .inl (G.2 0, 16, .inl u_965))] := by rw [eu_965]; exact hD
                    refine lv_iinc (v := x5_923 + 1) (lv' := [(5, .int (x5_923 + 1)), (4, .int 1), (6, .int (x6_962 ||| (1 <<< (x5_923 &&& 31)))), (0, .ref p), (1, .int fr), (2, .int al), (3, .ref ps)]) hx hb dX1_gates_187 hl (k := 2) rfl rfl (by decide) rfl (fun ls hl => ?_)
                    refine lv_goto (tgt := 65) hx hb dX1_gates_190 (by decide) ?_
                    exact h _ _ _ hP hD hS (lv_sub hl [0, 1, 3, 4, 5, 6] rfl)
                  · replace h := h.2 c_963
                    refine lv_iload hx hb dX1_gates_165 (lv_at hl 0 rfl) ?_
                    refine lv_aload_n hx hb dX1_gates_167 rfl (lv_at hl 6 rfl) ?_
                    refine lv_iload hx hb dX1_gates_168 (lv_at hl 1 rfl) ?_
                    have b_966 := h.1
                    refine va_iald hx hb hK.1 hP 5 0 rfl rfl b_966 dX1_gates_170 ?_
                    replace h := h.2
                    refine lv_icmp_eq (tgt := 178) hx hb dX1_gates_171 (by decide) (fun c_967 => ?_) (fun c_967 => ?_)
                    · replace h := h.1 c_967
                      refine lv_iconst (v := 0) hx hb dX1_gates_178 (by decide) ?_
                      refine lv_istore (lv' := [(4, .int 0), (6, .int (x6_962 ||| (1 <<< (x5_923 &&& 31)))), (5, .int x5_923), (0, .ref p), (1, .int fr), (2, .int al), (3, .ref ps)]) hx hb dX1_gates_179 hl (by decide) rfl (fun ls hl => ?_)
                      refine lv_aload_n hx hb dX1_gates_181 rfl (lv_at hl 6 rfl) ?_
                      refine lv_iload hx hb dX1_gates_182 (lv_at hl 2 rfl) ?_
                      refine lv_iload hx hb dX1_gates_184 (lv_at hl 1 rfl) ?_
                      refine va_iast hx hb hK.1 hP hD hS 5 0 rfl rfl b_966 dX1_gates_186 (fun H locs hP hD hS => ?_)
                      obtain ⟨u_968, eu_968⟩ : ∃ z__, z__ = upd a_925 x5_923.toNatClampNeg (x6_962 ||| (1 <<< (x5_923 &&& 31))) := ⟨_, rfl⟩
                      replace h := h u_968 eu_968
                      have hP : va_P G.1 vwCl [(p, .inr (1, [.ref pk, .ref pd, .ref pw, .ref pv, .ref ps, .int tn, .int tr, .int tre, .int tm, .int ts])), (pk, .inl (G.2 0, 16, .inl kp)), (pd, .inl (G.2 0, 16, .inl dp)), (pw, .inl (G.2 0, 16, .inl tw)), (pv, .inl (G.2 0, 16, .inl wt)), (ps, .inl (G.2 0, 16, .inl u_968))] H := by rw [eu_968]; exact hP
                      have hD : va_D AA [(p, .inr (1, [.ref pk, .ref pd, .ref pw, .ref pv, .ref ps, .int tn, .int tr, .int tre, .int tm, .int ts])), (pk, .inl (G.2 0, 16, .inl kp)), (pd, .inl (G.2 0, 16, .inl dp)), (pw, .inl (G.2 0, 16, .inl tw)), (pv, .inl (G.2 0, 16, .inl wt)), (ps, .inl (G.2 0, 16, .inl u_968))] := by rw [eu_968]; exact hD
                      refine lv_iinc (v := x5_923 + 1) (lv' := [(5, .int (x5_923 + 1)), (4, .int 0), (6, .int (x6_962 ||| (1 <<< (x5_923 &&& 31)))), (0, .ref p), (1, .int fr), (2, .int al), (3, .ref ps)]) hx hb dX1_gates_187 hl (k := 2) rfl rfl (by decide) rfl (fun ls hl => ?_)
                      refine lv_goto (tgt := 65) hx hb dX1_gates_190 (by decide) ?_
                      exact h _ _ _ hP hD hS (lv_sub hl [0, 1, 3, 4, 5, 6] rfl)
                    · replace h := h.2 c_967
                      refine lv_iconst (v := 1) hx hb dX1_gates_174 (by decide) ?_
                      refine lv_goto (tgt := 179) hx hb dX1_gates_175 (by decide) ?_
                      refine lv_istore (lv' := [(4, .int 1), (6, .int (x6_962 ||| (1 <<< (x5_923 &&& 31)))), (5, .int x5_923), (0, .ref p), (1, .int fr), (2, .int al), (3, .ref ps)]) hx hb dX1_gates_179 hl (by decide) rfl (fun ls hl => ?_)
                      refine lv_aload_n hx hb dX1_gates_181 rfl (lv_at hl 6 rfl) ?_
                      refine lv_iload hx hb dX1_gates_182 (lv_at hl 2 rfl) ?_
                      refine lv_iload hx hb dX1_gates_184 (lv_at hl 1 rfl) ?_
                      refine va_iast hx hb hK.1 hP hD hS 5 0 rfl rfl b_966 dX1_gates_186 (fun H locs hP hD hS => ?_)
                      obtain ⟨u_969, eu_969⟩ : ∃ z__, z__ = upd a_925 x5_923.toNatClampNeg (x6_962 ||| (1 <<< (x5_923 &&& 31))) := ⟨_, rfl⟩
                      replace h := h u_969 eu_969
                      have hP : va_P G.1 vwCl [(p, .inr (1, [.ref pk, .ref pd, .ref pw, .ref pv, .ref ps, .int tn, .int tr, .int tre, .int tm, .int ts])), (pk, .inl (G.2 0, 16, .inl kp)), (pd, .inl (G.2 0, 16, .inl dp)), (pw, .inl (G.2 0, 16, .inl tw)), (pv, .inl (G.2 0, 16, .inl wt)), (ps, .inl (G.2 0, 16, .inl u_969))] H := by rw [eu_969]; exact hP
                      have hD : va_D AA [(p, .inr (1, [.ref pk, .ref pd, .ref pw, .ref pv, .ref ps, .int tn, .int tr, .int tre, .int tm, .int ts])), (pk, .inl (G.2 0, 16, .inl kp)), (pd, .inl (G.2 0, 16, .inl dp)), (pw, .inl (G.2 0, 16, .inl tw)), (pv, .inl (G.2 0, 16, .inl wt)), (ps, .inl (G.2 0, 16, .inl u_969))] := by rw [eu_969]; exact hD
                      refine lv_iinc (v := x5_923 + 1) (lv' := [(5, .int (x5_923 + 1)), (4, .int 1), (6, .int (x6_962 ||| (1 <<< (x5_923 &&& 31)))), (0, .ref p), (1, .int fr), (2, .int al), (3, .ref ps)]) hx hb dX1_gates_187 hl (k := 2) rfl rfl (by decide) rfl (fun ls hl => ?_)
                      refine lv_goto (tgt := 65) hx hb dX1_gates_190 (by decide) ?_
                      exact h _ _ _ hP hD hS (lv_sub hl [0, 1, 3, 4, 5, 6] rfl))
              refine h (fun (x7_971 : Int32) (x6_972 : Int32) => ∀ (H : Heap) (locs : List Loc) (ls : Array Slot), va_P G.1 vwCl [(p, .inr (1, [.ref pk, .ref pd, .ref pw, .ref pv, .ref ps, .int tn, .int tr, .int tre, .int tm, .int ts])), (pk, .inl (G.2 0, 16, .inl kp)), (pd, .inl (G.2 0, 16, .inl dp)), (pw, .inl (G.2 0, 16, .inl tw)), (pv, .inl (G.2 0, 16, .inl wt)), (ps, .inl (G.2 0, 16, .inl a_925))] H → va_D AA [(p, .inr (1, [.ref pk, .ref pd, .ref pw, .ref pv, .ref ps, .int tn, .int tr, .int tre, .int tm, .int ts])), (pk, .inl (G.2 0, 16, .inl kp)), (pd, .inl (G.2 0, 16, .inl dp)), (pw, .inl (G.2 0, 16, .inl tw)), (pv, .inl (G.2 0, 16, .inl wt)), (ps, .inl (G.2 0, 16, .inl a_925))] → va_S AA sS.heap H locs → lv_has ls 8 [(7, .int x7_971), (6, .int x6_972), (5, .int x5_923), (4, .int x4_924), (0, .ref p), (1, .int fr), (2, .int al), (3, .ref ps)] → W pp lL eE RX1_gates_T sS mM ar below meth cC H locs 0 0 QQ (F0 mM 100 ls [])) ?_  _ _ _ hP hD hS hl
              clear h
              intro x7_971 x6_972 h H locs ls hP hD hS hl
              refine lv_iload hx hb dX1_gates_100 (lv_at hl 0 rfl) ?_
              refine lv_aload_n hx hb dX1_gates_102 rfl (lv_at hl 4 rfl) ?_
              have hPc := hP.sub (ws' := [(p, .inr (1, [.ref pk, .ref pd, .ref pw, .ref pv, .ref ps, .int tn, .int tr, .int tre, .int tm, .int ts])), (pk, .inl (G.2 0, 16, .inl kp)), (pd, .inl (G.2 0, 16, .inl dp)), (pw, .inl (G.2 0, 16, .inl tw)), (pv, .inl (G.2 0, 16, .inl wt)), (ps, .inl (G.2 0, 16, .inl a_925))]) [0, 1, 2, 3, 4, 5] rfl
              have hDc := hD.sub (ws' := [(p, .inr (1, [.ref pk, .ref pd, .ref pw, .ref pv, .ref ps, .int tn, .int tr, .int tre, .int tm, .int ts])), (pk, .inl (G.2 0, 16, .inl kp)), (pd, .inl (G.2 0, 16, .inl dp)), (pw, .inl (G.2 0, 16, .inl tw)), (pv, .inl (G.2 0, 16, .inl wt)), (ps, .inl (G.2 0, 16, .inl a_925))]) [0, 1, 2, 3, 4, 5] (by decide) rfl
              refine gx_Fi (G := G) (wc := [(p, .inr (1, [.ref pk, .ref pd, .ref pw, .ref pv, .ref ps, .int tn, .int tr, .int tre, .int tm, .int ts])), (pk, .inl (G.2 0, 16, .inl kp)), (pd, .inl (G.2 0, 16, .inl dp)), (pw, .inl (G.2 0, 16, .inl tw)), (pv, .inl (G.2 0, 16, .inl wt)), (ps, .inl (G.2 0, 16, .inl a_925))]) (wr := []) (va_runF (As := []) (rest := [.int x7_971]) (hK.1.1 1 _ rfl).2 ⟨hx, hb, hml, hown, hts⟩ (ct_X5_nodes lL G p pk pd pw pv ps kp dp tw wt a_925 tn tr tre tm ts _) (va_cwF 0 hts (lw_F q533 q487 q489 q171 q491) rfl rfl rfl (hK.2.2.1 ("GateLifter$Tree", yF_nodes, yX5_nodes) (by decide)) (by decide +kernel) ⟨Nat.le_of_ble_eq_true rfl, Nat.le_of_ble_eq_true rfl⟩) (gx_preV hK hPc hDc 1 0 rfl rfl) rfl rfl hl.1 rfl (lv_room (Nat.le_of_ble_eq_true rfl)) dX1_gates_103 ⟨Nat.le_of_ble_eq_true rfl, Nat.le_of_ble_eq_true rfl⟩) hP hD hS hA [0, 1, 2, 3, 4, 5] [] rfl rfl (by decide) (by decide) (fun r_974 u_974 H locs hw_974 hP hD hS => ?_)
              have hP : va_P G.1 vwCl [(p, .inr (1, [.ref pk, .ref pd, .ref pw, .ref pv, .ref ps, .int tn, .int tr, .int tre, .int tm, .int ts])), (pk, .inl (G.2 0, 16, .inl kp)), (pd, .inl (G.2 0, 16, .inl dp)), (pw, .inl (G.2 0, 16, .inl tw)), (pv, .inl (G.2 0, 16, .inl wt)), (ps, .inl (G.2 0, 16, .inl a_925))] H := hP
              have hD : va_D AA [(p, .inr (1, [.ref pk, .ref pd, .ref pw, .ref pv, .ref ps, .int tn, .int tr, .int tre, .int tm, .int ts])), (pk, .inl (G.2 0, 16, .inl kp)), (pd, .inl (G.2 0, 16, .inl dp)), (pw, .inl (G.2 0, 16, .inl tw)), (pv, .inl (G.2 0, 16, .inl wt)), (ps, .inl (G.2 0, 16, .inl a_925))] := hD
              replace h := h r_974 hw_974
              refine lv_icmp_ge (tgt := 151) hx hb dX1_gates_108 (by decide) (fun c_975 => ?_) (fun c_975 => ?_)
              · replace h := h.1 c_975
                exact h _ _ _ hP hD hS (lv_sub hl [1, 2, 3, 4, 5, 6, 7] rfl)
              · replace h := h.2 c_975
                refine lv_iload_n hx hb dX1_gates_111 rfl (lv_at hl 6 rfl) ?_
                refine lv_iload hx hb dX1_gates_112 (lv_at hl 0 rfl) ?_
                have hPc := hP.sub (ws' := []) [] rfl
                have hDc := hD.sub (ws' := []) [] (by decide) rfl
                refine gx_i (G := G) (wc := []) (wr := [(p, .inr (1, [.ref pk, .ref pd, .ref pw, .ref pv, .ref ps, .int tn, .int tr, .int tre, .int tm, .int ts])), (pk, .inl (G.2 0, 16, .inl kp)), (pd, .inl (G.2 0, 16, .inl dp)), (pw, .inl (G.2 0, 16, .inl tw)), (pv, .inl (G.2 0, 16, .inl wt)), (ps, .inl (G.2 0, 16, .inl a_925))]) (va_runS (As := [.int al, .int x7_971]) (rest := []) ⟨hx, hb, hml, hown, hts⟩ (ct_X1_has lL G al x7_971 _) (va_cwS 2 hts (lw_S q534 q501 q164 q502) rfl rfl rfl (by decide +kernel) ⟨Nat.le_of_ble_eq_true rfl, Nat.le_of_ble_eq_true rfl⟩) (gx_preS hK hPc hDc) rfl rfl hl.1 rfl (lv_room (Nat.le_of_ble_eq_true rfl)) dX1_gates_114 ⟨Nat.le_of_ble_eq_true rfl, Nat.le_of_ble_eq_true rfl⟩) hP hD hS hA [] [0, 1, 2, 3, 4, 5] rfl rfl (by decide) (by decide) (fun r_976 u_976 H locs hw_976 hP hD hS => ?_)
                have hP : va_P G.1 vwCl [(p, .inr (1, [.ref pk, .ref pd, .ref pw, .ref pv, .ref ps, .int tn, .int tr, .int tre, .int tm, .int ts])), (pk, .inl (G.2 0, 16, .inl kp)), (pd, .inl (G.2 0, 16, .inl dp)), (pw, .inl (G.2 0, 16, .inl tw)), (pv, .inl (G.2 0, 16, .inl wt)), (ps, .inl (G.2 0, 16, .inl a_925))] H := hP
                have hD : va_D AA [(p, .inr (1, [.ref pk, .ref pd, .ref pw, .ref pv, .ref ps, .int tn, .int tr, .int tre, .int tm, .int ts])), (pk, .inl (G.2 0, 16, .inl kp)), (pd, .inl (G.2 0, 16, .inl dp)), (pw, .inl (G.2 0, 16, .inl tw)), (pv, .inl (G.2 0, 16, .inl wt)), (ps, .inl (G.2 0, 16, .inl a_925))] := hD
                replace h := h r_976 hw_976
                refine lv_if_eq (tgt := 145) hx hb dX1_gates_117 (by decide) (fun c_977 => ?_) (fun c_977 => ?_)
                · replace h := h.1 c_977
                  refine lv_iinc (v := x7_971 + 1) (lv' := [(7, .int (x7_971 + 1)), (6, .int x6_972), (5, .int x5_923), (4, .int x4_924), (0, .ref p), (1, .int fr), (2, .int al), (3, .ref ps)]) hx hb dX1_gates_145 hl (k := 0) rfl rfl (by decide) rfl (fun ls hl => ?_)
                  refine lv_goto (tgt := 100) hx hb dX1_gates_148 (by decide) ?_
                  exact h _ _ _ hP hD hS hl
                · replace h := h.2 c_977
                  refine lv_aload_n hx hb dX1_gates_120 rfl (lv_at hl 4 rfl) ?_
                  refine lv_iload hx hb dX1_gates_121 (lv_at hl 0 rfl) ?_
                  have hPc := hP.sub (ws' := [(p, .inr (1, [.ref pk, .ref pd, .ref pw, .ref pv, .ref ps, .int tn, .int tr, .int tre, .int tm, .int ts])), (pk, .inl (G.2 0, 16, .inl kp)), (pd, .inl (G.2 0, 16, .inl dp)), (pw, .inl (G.2 0, 16, .inl tw)), (pv, .inl (G.2 0, 16, .inl wt)), (ps, .inl (G.2 0, 16, .inl a_925))]) [0, 1, 2, 3, 4, 5] rfl
                  have hDc := hD.sub (ws' := [(p, .inr (1, [.ref pk, .ref pd, .ref pw, .ref pv, .ref ps, .int tn, .int tr, .int tre, .int tm, .int ts])), (pk, .inl (G.2 0, 16, .inl kp)), (pd, .inl (G.2 0, 16, .inl dp)), (pw, .inl (G.2 0, 16, .inl tw)), (pv, .inl (G.2 0, 16, .inl wt)), (ps, .inl (G.2 0, 16, .inl a_925))]) [0, 1, 2, 3, 4, 5] (by decide) rfl
                  refine gx_Fi (G := G) (wc := [(p, .inr (1, [.ref pk, .ref pd, .ref pw, .ref pv, .ref ps, .int tn, .int tr, .int tre, .int tm, .int ts])), (pk, .inl (G.2 0, 16, .inl kp)), (pd, .inl (G.2 0, 16, .inl dp)), (pw, .inl (G.2 0, 16, .inl tw)), (pv, .inl (G.2 0, 16, .inl wt)), (ps, .inl (G.2 0, 16, .inl a_925))]) (wr := []) (va_runF (As := [.int x7_971]) (rest := []) (hK.1.1 1 _ rfl).2 ⟨hx, hb, hml, hown, hts⟩ (ct_X5_next lL G p pk pd pw pv ps kp dp tw wt a_925 tn tr tre tm ts x7_971 h.1 _) (va_cwF 1 hts (lw_F q536 q512 q514 q171 q516) rfl rfl rfl (hK.2.2.1 ("GateLifter$Tree", yF_next, yX5_next) (by decide)) (by decide +kernel) ⟨Nat.le_of_ble_eq_true rfl, Nat.le_of_ble_eq_true rfl⟩) (gx_preV hK hPc hDc 1 0 rfl rfl) rfl rfl hl.1 rfl (lv_room (Nat.le_of_ble_eq_true rfl)) dX1_gates_123 ⟨Nat.le_of_ble_eq_true rfl, Nat.le_of_ble_eq_true rfl⟩) hP hD hS hA [0, 1, 2, 3, 4, 5] [] rfl rfl (by decide) (by decide) (fun r_978 u_978 H locs hw_978 hP hD hS => ?_)
                  replace h := h.2
                  have hP : va_P G.1 vwCl [(p, .inr (1, [.ref pk, .ref pd, .ref pw, .ref pv, .ref ps, .int tn, .int tr, .int tre, .int tm, .int ts])), (pk, .inl (G.2 0, 16, .inl kp)), (pd, .inl (G.2 0, 16, .inl dp)), (pw, .inl (G.2 0, 16, .inl tw)), (pv, .inl (G.2 0, 16, .inl wt)), (ps, .inl (G.2 0, 16, .inl a_925))] H := hP
                  have hD : va_D AA [(p, .inr (1, [.ref pk, .ref pd, .ref pw, .ref pv, .ref ps, .int tn, .int tr, .int tre, .int tm, .int ts])), (pk, .inl (G.2 0, 16, .inl kp)), (pd, .inl (G.2 0, 16, .inl dp)), (pw, .inl (G.2 0, 16, .inl tw)), (pv, .inl (G.2 0, 16, .inl wt)), (ps, .inl (G.2 0, 16, .inl a_925))] := hD
                  replace h := h r_978 hw_978
                  refine lv_iload hx hb dX1_gates_128 (lv_at hl 2 rfl) ?_
                  have hPc := hP.sub (ws' := []) [] rfl
                  have hDc := hD.sub (ws' := []) [] (by decide) rfl
                  refine gx_i (G := G) (wc := []) (wr := [(p, .inr (1, [.ref pk, .ref pd, .ref pw, .ref pv, .ref ps, .int tn, .int tr, .int tre, .int tm, .int ts])), (pk, .inl (G.2 0, 16, .inl kp)), (pd, .inl (G.2 0, 16, .inl dp)), (pw, .inl (G.2 0, 16, .inl tw)), (pv, .inl (G.2 0, 16, .inl wt)), (ps, .inl (G.2 0, 16, .inl a_925))]) (va_runS (As := [.int r_978, .int x5_923]) (rest := []) ⟨hx, hb, hml, hown, hts⟩ (ct_X1_has lL G r_978 x5_923 _) (va_cwS 2 hts (lw_S q534 q501 q164 q502) rfl rfl rfl (by decide +kernel) ⟨Nat.le_of_ble_eq_true rfl, Nat.le_of_ble_eq_true rfl⟩) (gx_preS hK hPc hDc) rfl rfl hl.1 rfl (lv_room (Nat.le_of_ble_eq_true rfl)) dX1_gates_130 ⟨Nat.le_of_ble_eq_true rfl, Nat.le_of_ble_eq_true rfl⟩) hP hD hS hA [] [0, 1, 2, 3, 4, 5] rfl rfl (by decide) (by decide) (fun r_979 u_979 H locs hw_979 hP hD hS => ?_)
                  have hP : va_P G.1 vwCl [(p, .inr (1, [.ref pk, .ref pd, .ref pw, .ref pv, .ref ps, .int tn, .int tr, .int tre, .int tm, .int ts])), (pk, .inl (G.2 0, 16, .inl kp)), (pd, .inl (G.2 0, 16, .inl dp)), (pw, .inl (G.2 0, 16, .inl tw)), (pv, .inl (G.2 0, 16, .inl wt)), (ps, .inl (G.2 0, 16, .inl a_925))] H := hP
                  have hD : va_D AA [(p, .inr (1, [.ref pk, .ref pd, .ref pw, .ref pv, .ref ps, .int tn, .int tr, .int tre, .int tm, .int ts])), (pk, .inl (G.2 0, 16, .inl kp)), (pd, .inl (G.2 0, 16, .inl dp)), (pw, .inl (G.2 0, 16, .inl tw)), (pv, .inl (G.2 0, 16, .inl wt)), (ps, .inl (G.2 0, 16, .inl a_925))] := hD
                  replace h := h r_979 hw_979
                  refine lv_if_eq (tgt := 145) hx hb dX1_gates_133 (by decide) (fun c_980 => ?_) (fun c_980 => ?_)
                  · replace h := h.1 c_980
                    refine lv_iinc (v := x7_971 + 1) (lv' := [(7, .int (x7_971 + 1)), (6, .int x6_972), (5, .int x5_923), (4, .int x4_924), (0, .ref p), (1, .int fr), (2, .int al), (3, .ref ps)]) hx hb dX1_gates_145 hl (k := 0) rfl rfl (by decide) rfl (fun ls hl => ?_)
                    refine lv_goto (tgt := 100) hx hb dX1_gates_148 (by decide) ?_
                    exact h _ _ _ hP hD hS hl
                  · replace h := h.2 c_980
                    refine lv_iload hx hb dX1_gates_136 (lv_at hl 1 rfl) ?_
                    refine lv_aload_n hx hb dX1_gates_138 rfl (lv_at hl 7 rfl) ?_
                    refine lv_iload hx hb dX1_gates_139 (lv_at hl 0 rfl) ?_
                    have b_981 := h.1
                    refine va_iald hx hb hK.1 hP 5 0 rfl rfl b_981 dX1_gates_141 ?_
                    replace h := h.2
                    refine lv_iand hx hb dX1_gates_142 ?_
                    refine lv_istore (lv' := [(6, .int (x6_972 &&& (a_925 x7_971.toNatClampNeg))), (7, .int x7_971), (5, .int x5_923), (4, .int x4_924), (0, .ref p), (1, .int fr), (2, .int al), (3, .ref ps)]) hx hb dX1_gates_143 hl (by decide) rfl (fun ls hl => ?_)
                    refine lv_iinc (v := x7_971 + 1) (lv' := [(7, .int (x7_971 + 1)), (6, .int (x6_972 &&& (a_925 x7_971.toNatClampNeg))), (5, .int x5_923), (4, .int x4_924), (0, .ref p), (1, .int fr), (2, .int al), (3, .ref ps)]) hx hb dX1_gates_145 hl (k := 1) rfl rfl (by decide) rfl (fun ls hl => ?_)
                    refine lv_goto (tgt := 100) hx hb dX1_gates_148 (by decide) ?_
                    exact h _ _ _ hP hD hS hl
            · replace h := h.2 c_931
              refine lv_goto (tgt := 187) hx hb dX1_gates_91 (by decide) ?_
              refine lv_iinc (v := x5_923 + 1) (lv' := [(5, .int (x5_923 + 1)), (4, .int x4_924), (0, .ref p), (1, .int fr), (2, .int al), (3, .ref ps)]) hx hb dX1_gates_187 hl (k := 0) rfl rfl (by decide) rfl (fun ls hl => ?_)
              refine lv_goto (tgt := 65) hx hb dX1_gates_190 (by decide) ?_
              exact h _ _ _ hP hD hS hl)
  refine h (fun (x4_983 : Int32) (a_984 : Nat → Int32) => ∀ (H : Heap) (locs : List Loc) (ls : Array Slot), va_P G.1 vwCl [(p, .inr (1, [.ref pk, .ref pd, .ref pw, .ref pv, .ref ps, .int tn, .int tr, .int tre, .int tm, .int ts])), (pk, .inl (G.2 0, 16, .inl kp)), (pd, .inl (G.2 0, 16, .inl dp)), (pw, .inl (G.2 0, 16, .inl tw)), (pv, .inl (G.2 0, 16, .inl wt)), (ps, .inl (G.2 0, 16, .inl a_984))] H → va_D AA [(p, .inr (1, [.ref pk, .ref pd, .ref pw, .ref pv, .ref ps, .int tn, .int tr, .int tre, .int tm, .int ts])), (pk, .inl (G.2 0, 16, .inl kp)), (pd, .inl (G.2 0, 16, .inl dp)), (pw, .inl (G.2 0, 16, .inl tw)), (pv, .inl (G.2 0, 16, .inl wt)), (ps, .inl (G.2 0, 16, .inl a_984))] → va_S AA sS.heap H locs → lv_has ls 8 [(4, .int x4_983), (0, .ref p), (1, .int fr), (2, .int al), (3, .ref ps)] → W pp lL eE RX1_gates_T sS mM ar below meth cC H locs 0 0 QQ (F0 mM 3 ls [])) ?_  _ _ _ hP hD hS hl
  clear h
  intro x4_983 a_984 h H locs ls hP hD hS hl
  refine lv_iload hx hb dX1_gates_3 (lv_at hl 0 rfl) ?_
  refine lv_aload_n hx hb dX1_gates_5 rfl (lv_at hl 1 rfl) ?_
  have hPc := hP.sub (ws' := [(p, .inr (1, [.ref pk, .ref pd, .ref pw, .ref pv, .ref ps, .int tn, .int tr, .int tre, .int tm, .int ts])), (pk, .inl (G.2 0, 16, .inl kp)), (pd, .inl (G.2 0, 16, .inl dp)), (pw, .inl (G.2 0, 16, .inl tw)), (pv, .inl (G.2 0, 16, .inl wt)), (ps, .inl (G.2 0, 16, .inl a_984))]) [0, 1, 2, 3, 4, 5] rfl
  have hDc := hD.sub (ws' := [(p, .inr (1, [.ref pk, .ref pd, .ref pw, .ref pv, .ref ps, .int tn, .int tr, .int tre, .int tm, .int ts])), (pk, .inl (G.2 0, 16, .inl kp)), (pd, .inl (G.2 0, 16, .inl dp)), (pw, .inl (G.2 0, 16, .inl tw)), (pv, .inl (G.2 0, 16, .inl wt)), (ps, .inl (G.2 0, 16, .inl a_984))]) [0, 1, 2, 3, 4, 5] (by decide) rfl
  refine gx_Fi (G := G) (wc := [(p, .inr (1, [.ref pk, .ref pd, .ref pw, .ref pv, .ref ps, .int tn, .int tr, .int tre, .int tm, .int ts])), (pk, .inl (G.2 0, 16, .inl kp)), (pd, .inl (G.2 0, 16, .inl dp)), (pw, .inl (G.2 0, 16, .inl tw)), (pv, .inl (G.2 0, 16, .inl wt)), (ps, .inl (G.2 0, 16, .inl a_984))]) (wr := []) (va_runF (As := []) (rest := [.int x4_983]) (hK.1.1 1 _ rfl).2 ⟨hx, hb, hml, hown, hts⟩ (ct_X5_nodes lL G p pk pd pw pv ps kp dp tw wt a_984 tn tr tre tm ts _) (va_cwF 0 hts (lw_F q533 q487 q489 q171 q491) rfl rfl rfl (hK.2.2.1 ("GateLifter$Tree", yF_nodes, yX5_nodes) (by decide)) (by decide +kernel) ⟨Nat.le_of_ble_eq_true rfl, Nat.le_of_ble_eq_true rfl⟩) (gx_preV hK hPc hDc 1 0 rfl rfl) rfl rfl hl.1 rfl (lv_room (Nat.le_of_ble_eq_true rfl)) dX1_gates_6 ⟨Nat.le_of_ble_eq_true rfl, Nat.le_of_ble_eq_true rfl⟩) hP hD hS hA [0, 1, 2, 3, 4, 5] [] rfl rfl (by decide) (by decide) (fun r_986 u_986 H locs hw_986 hP hD hS => ?_)
  have hP : va_P G.1 vwCl [(p, .inr (1, [.ref pk, .ref pd, .ref pw, .ref pv, .ref ps, .int tn, .int tr, .int tre, .int tm, .int ts])), (pk, .inl (G.2 0, 16, .inl kp)), (pd, .inl (G.2 0, 16, .inl dp)), (pw, .inl (G.2 0, 16, .inl tw)), (pv, .inl (G.2 0, 16, .inl wt)), (ps, .inl (G.2 0, 16, .inl a_984))] H := hP
  have hD : va_D AA [(p, .inr (1, [.ref pk, .ref pd, .ref pw, .ref pv, .ref ps, .int tn, .int tr, .int tre, .int tm, .int ts])), (pk, .inl (G.2 0, 16, .inl kp)), (pd, .inl (G.2 0, 16, .inl dp)), (pw, .inl (G.2 0, 16, .inl tw)), (pv, .inl (G.2 0, 16, .inl wt)), (ps, .inl (G.2 0, 16, .inl a_984))] := hD
  replace h := h r_986 hw_986
  refine lv_icmp_ge (tgt := 51) hx hb dX1_gates_11 (by decide) (fun c_987 => ?_) (fun c_987 => ?_)
  · replace h := h.1 c_987
    exact h _ _ _ hP hD hS (lv_sub hl [1, 2, 3, 4] rfl)
  · replace h := h.2 c_987
    refine lv_aload_n hx hb dX1_gates_14 rfl (lv_at hl 4 rfl) ?_
    refine lv_iload hx hb dX1_gates_15 (lv_at hl 0 rfl) ?_
    refine lv_iload_n hx hb dX1_gates_17 rfl (lv_at hl 3 rfl) ?_
    refine lv_iload hx hb dX1_gates_18 (lv_at hl 0 rfl) ?_
    have hPc := hP.sub (ws' := []) [] rfl
    have hDc := hD.sub (ws' := []) [] (by decide) rfl
    refine gx_i (G := G) (wc := []) (wr := [(p, .inr (1, [.ref pk, .ref pd, .ref pw, .ref pv, .ref ps, .int tn, .int tr, .int tre, .int tm, .int ts])), (pk, .inl (G.2 0, 16, .inl kp)), (pd, .inl (G.2 0, 16, .inl dp)), (pw, .inl (G.2 0, 16, .inl tw)), (pv, .inl (G.2 0, 16, .inl wt)), (ps, .inl (G.2 0, 16, .inl a_984))]) (va_runS (As := [.int al, .int x4_983]) (rest := [.int x4_983, .ref ps]) ⟨hx, hb, hml, hown, hts⟩ (ct_X1_has lL G al x4_983 _) (va_cwS 2 hts (lw_S q534 q501 q164 q502) rfl rfl rfl (by decide +kernel) ⟨Nat.le_of_ble_eq_true rfl, Nat.le_of_ble_eq_true rfl⟩) (gx_preS hK hPc hDc) rfl rfl hl.1 rfl (lv_room (Nat.le_of_ble_eq_true rfl)) dX1_gates_20 ⟨Nat.le_of_ble_eq_true rfl, Nat.le_of_ble_eq_true rfl⟩) hP hD hS hA [] [0, 1, 2, 3, 4, 5] rfl rfl (by decide) (by decide) (fun r_988 u_988 H locs hw_988 hP hD hS => ?_)
    have hP : va_P G.1 vwCl [(p, .inr (1, [.ref pk, .ref pd, .ref pw, .ref pv, .ref ps, .int tn, .int tr, .int tre, .int tm, .int ts])), (pk, .inl (G.2 0, 16, .inl kp)), (pd, .inl (G.2 0, 16, .inl dp)), (pw, .inl (G.2 0, 16, .inl tw)), (pv, .inl (G.2 0, 16, .inl wt)), (ps, .inl (G.2 0, 16, .inl a_984))] H := hP
    have hD : va_D AA [(p, .inr (1, [.ref pk, .ref pd, .ref pw, .ref pv, .ref ps, .int tn, .int tr, .int tre, .int tm, .int ts])), (pk, .inl (G.2 0, 16, .inl kp)), (pd, .inl (G.2 0, 16, .inl dp)), (pw, .inl (G.2 0, 16, .inl tw)), (pv, .inl (G.2 0, 16, .inl wt)), (ps, .inl (G.2 0, 16, .inl a_984))] := hD
    replace h := h r_988 hw_988
    refine lv_if_eq (tgt := 43) hx hb dX1_gates_23 (by decide) (fun c_989 => ?_) (fun c_989 => ?_)
    · replace h := h.1 c_989
      refine lv_iconst (v := 0) hx hb dX1_gates_43 (by decide) ?_
      have b_990 := h.1
      refine va_iast hx hb hK.1 hP hD hS 5 0 rfl rfl b_990 dX1_gates_44 (fun H locs hP hD hS => ?_)
      replace h := h.2
      obtain ⟨u_991, eu_991⟩ : ∃ z__, z__ = upd a_984 x4_983.toNatClampNeg 0 := ⟨_, rfl⟩
      replace h := h u_991 eu_991
      have hP : va_P G.1 vwCl [(p, .inr (1, [.ref pk, .ref pd, .ref pw, .ref pv, .ref ps, .int tn, .int tr, .int tre, .int tm, .int ts])), (pk, .inl (G.2 0, 16, .inl kp)), (pd, .inl (G.2 0, 16, .inl dp)), (pw, .inl (G.2 0, 16, .inl tw)), (pv, .inl (G.2 0, 16, .inl wt)), (ps, .inl (G.2 0, 16, .inl u_991))] H := by rw [eu_991]; exact hP
      have hD : va_D AA [(p, .inr (1, [.ref pk, .ref pd, .ref pw, .ref pv, .ref ps, .int tn, .int tr, .int tre, .int tm, .int ts])), (pk, .inl (G.2 0, 16, .inl kp)), (pd, .inl (G.2 0, 16, .inl dp)), (pw, .inl (G.2 0, 16, .inl tw)), (pv, .inl (G.2 0, 16, .inl wt)), (ps, .inl (G.2 0, 16, .inl u_991))] := by rw [eu_991]; exact hD
      refine lv_iinc (v := x4_983 + 1) (lv' := [(4, .int (x4_983 + 1)), (0, .ref p), (1, .int fr), (2, .int al), (3, .ref ps)]) hx hb dX1_gates_45 hl (k := 0) rfl rfl (by decide) rfl (fun ls hl => ?_)
      refine lv_goto (tgt := 3) hx hb dX1_gates_48 (by decide) ?_
      exact h _ _ _ hP hD hS hl
    · replace h := h.2 c_989
      refine lv_iload hx hb dX1_gates_26 (lv_at hl 0 rfl) ?_
      refine lv_iload_n hx hb dX1_gates_28 rfl (lv_at hl 2 rfl) ?_
      refine lv_icmp_ne (tgt := 39) hx hb dX1_gates_29 (by decide) (fun c_992 => ?_) (fun c_992 => ?_)
      · replace h := h.1 c_992
        refine lv_iload_n hx hb dX1_gates_39 rfl (lv_at hl 3 rfl) ?_
        refine lv_goto (tgt := 44) hx hb dX1_gates_40 (by decide) ?_
        have b_993 := h.1
        refine va_iast hx hb hK.1 hP hD hS 5 0 rfl rfl b_993 dX1_gates_44 (fun H locs hP hD hS => ?_)
        replace h := h.2
        obtain ⟨u_994, eu_994⟩ : ∃ z__, z__ = upd a_984 x4_983.toNatClampNeg al := ⟨_, rfl⟩
        replace h := h u_994 eu_994
        have hP : va_P G.1 vwCl [(p, .inr (1, [.ref pk, .ref pd, .ref pw, .ref pv, .ref ps, .int tn, .int tr, .int tre, .int tm, .int ts])), (pk, .inl (G.2 0, 16, .inl kp)), (pd, .inl (G.2 0, 16, .inl dp)), (pw, .inl (G.2 0, 16, .inl tw)), (pv, .inl (G.2 0, 16, .inl wt)), (ps, .inl (G.2 0, 16, .inl u_994))] H := by rw [eu_994]; exact hP
        have hD : va_D AA [(p, .inr (1, [.ref pk, .ref pd, .ref pw, .ref pv, .ref ps, .int tn, .int tr, .int tre, .int tm, .int ts])), (pk, .inl (G.2 0, 16, .inl kp)), (pd, .inl (G.2 0, 16, .inl dp)), (pw, .inl (G.2 0, 16, .inl tw)), (pv, .inl (G.2 0, 16, .inl wt)), (ps, .inl (G.2 0, 16, .inl u_994))] := by rw [eu_994]; exact hD
        refine lv_iinc (v := x4_983 + 1) (lv' := [(4, .int (x4_983 + 1)), (0, .ref p), (1, .int fr), (2, .int al), (3, .ref ps)]) hx hb dX1_gates_45 hl (k := 0) rfl rfl (by decide) rfl (fun ls hl => ?_)
        refine lv_goto (tgt := 3) hx hb dX1_gates_48 (by decide) ?_
        exact h _ _ _ hP hD hS hl
      · replace h := h.2 c_992
        refine lv_iconst (v := 1) hx hb dX1_gates_32 (by decide) ?_
        refine lv_iload hx hb dX1_gates_33 (lv_at hl 0 rfl) ?_
        refine lv_ishl hx hb dX1_gates_35 ?_
        refine lv_goto (tgt := 44) hx hb dX1_gates_36 (by decide) ?_
        have b_995 := h.1
        refine va_iast hx hb hK.1 hP hD hS 5 0 rfl rfl b_995 dX1_gates_44 (fun H locs hP hD hS => ?_)
        replace h := h.2
        obtain ⟨u_996, eu_996⟩ : ∃ z__, z__ = upd a_984 x4_983.toNatClampNeg (1 <<< (x4_983 &&& 31)) := ⟨_, rfl⟩
        replace h := h u_996 eu_996
        have hP : va_P G.1 vwCl [(p, .inr (1, [.ref pk, .ref pd, .ref pw, .ref pv, .ref ps, .int tn, .int tr, .int tre, .int tm, .int ts])), (pk, .inl (G.2 0, 16, .inl kp)), (pd, .inl (G.2 0, 16, .inl dp)), (pw, .inl (G.2 0, 16, .inl tw)), (pv, .inl (G.2 0, 16, .inl wt)), (ps, .inl (G.2 0, 16, .inl u_996))] H := by rw [eu_996]; exact hP
        have hD : va_D AA [(p, .inr (1, [.ref pk, .ref pd, .ref pw, .ref pv, .ref ps, .int tn, .int tr, .int tre, .int tm, .int ts])), (pk, .inl (G.2 0, 16, .inl kp)), (pd, .inl (G.2 0, 16, .inl dp)), (pw, .inl (G.2 0, 16, .inl tw)), (pv, .inl (G.2 0, 16, .inl wt)), (ps, .inl (G.2 0, 16, .inl u_996))] := by rw [eu_996]; exact hD
        refine lv_iinc (v := x4_983 + 1) (lv' := [(4, .int (x4_983 + 1)), (0, .ref p), (1, .int fr), (2, .int al), (3, .ref ps)]) hx hb dX1_gates_45 hl (k := 0) rfl rfl (by decide) rfl (fun ls hl => ?_)
        refine lv_goto (tgt := 3) hx hb dX1_gates_48 (by decide) ?_
        exact h _ _ _ hP hD hS hl
theorem ct_X1_gates_T (lL : Launch) (G : GE) (p pk pd pw pv ps : Nat) (kp dp tw wt st : Nat → Int32) (tn tr tre tm ts fr al : Int32) (hp : pr_X1_gates_T kp dp tw wt st tn tr tre tm ts fr al) : CtV lL yX1_gates (ws_ yX1_gates cX1_gates 8 none) RX1_gates_T G [.ref p, .int fr, .int al, .ref ps] [(p, .inr (1, [.ref pk, .ref pd, .ref pw, .ref pv, .ref ps, .int tn, .int tr, .int tre, .int tm, .int ts])), (pk, .inl (G.2 0, 16, .inl kp)), (pd, .inl (G.2 0, 16, .inl dp)), (pw, .inl (G.2 0, 16, .inl tw)), (pv, .inl (G.2 0, 16, .inl wt)), (ps, .inl (G.2 0, 16, .inl st))] (fun (uu_ : (Nat → Int32)) => ps_X1_gates_T kp dp tw wt st tn tr tre tm ts fr al uu_) (fun (uu_ : (Nat → Int32)) => [(p, .inr (1, [.ref pk, .ref pd, .ref pw, .ref pv, .ref ps, .int tn, .int tr, .int tre, .int tm, .int ts])), (pk, .inl (G.2 0, 16, .inl kp)), (pd, .inl (G.2 0, 16, .inl dp)), (pw, .inl (G.2 0, 16, .inl tw)), (pv, .inl (G.2 0, 16, .inl wt)), (ps, .inl (G.2 0, 16, .inl uu_))]) :=
  wk_X1_gates_T lL G p pk pd pw pv ps kp dp tw wt st tn tr tre tm ts fr al _ (pf_X1_gates_T kp dp tw wt st tn tr tre tm ts fr al hp)
abbrev RX5_deepest : Room := ({ frames := 2, cells := 0, slots := 0, locals := 33 } : Room)
set_option maxHeartbeats 4000000 in
set_option maxRecDepth 100000 in
theorem wk_X5_deepest (lL : Launch) (G : GE) (p pk pd pw pv ps : Nat) (kp dp tw wt st : Nat → Int32) (tn tr tre tm ts s : Int32) (Q : Int32 → Prop) (h : wp_X5_deepest kp dp tw wt st tn tr tre tm ts s Q) : CtI lL yX5_deepest (ws_ yX5_deepest cX5_deepest 4 (some .int)) RX5_deepest G [.ref p, .int s] [(p, .inr (1, [.ref pk, .ref pd, .ref pw, .ref pv, .ref ps, .int tn, .int tr, .int tre, .int tm, .int ts])), (pk, .inl (G.2 0, 16, .inl kp)), (pd, .inl (G.2 0, 16, .inl dp)), (pw, .inl (G.2 0, 16, .inl tw)), (pv, .inl (G.2 0, 16, .inl wt)), (ps, .inl (G.2 0, 16, .inl st))] (fun (rr_ : Int32) (uu_ : Unit) => Q rr_ ) (fun (uu_ : Unit) => [(p, .inr (1, [.ref pk, .ref pd, .ref pw, .ref pv, .ref ps, .int tn, .int tr, .int tre, .int tm, .int ts])), (pk, .inl (G.2 0, 16, .inl kp)), (pd, .inl (G.2 0, 16, .inl dp)), (pw, .inl (G.2 0, 16, .inl tw)), (pv, .inl (G.2 0, 16, .inl wt)), (ps, .inl (G.2 0, 16, .inl st))]) := by
  refine gx_of (cc := cX5_deepest) (maxL := 4) (ret := (some .int)) (by decide) (Nat.le_of_ble_eq_true rfl) ?_
  intro pp eE sS mM ar below meth cC AA ls QQ hx hb hr hml hts hown hlocks hnm hK hAe hQQ hP hD hA hS hl
  have hl : lv_has ls 4 [(0, .ref p), (1, .int s)] := hl
  refine lv_iconst (v := (-1)) hx hb dX5_deepest_0 (by decide) ?_
  refine lv_istore_n (lv' := [(2, .int (-1)), (0, .ref p), (1, .int s)]) hx hb dX5_deepest_1 rfl hl (by decide) rfl (fun ls hl => ?_)
  refine lv_iconst (v := 0) hx hb dX5_deepest_2 (by decide) ?_
  refine lv_istore_n (lv' := [(3, .int 0), (2, .int (-1)), (0, .ref p), (1, .int s)]) hx hb dX5_deepest_3 rfl hl (by decide) rfl (fun ls hl => ?_)
  replace h := h (fun (x2_29 : Int32) => ∀ (H : Heap) (locs : List Loc) (ls : Array Slot), va_P G.1 vwCl [(p, .inr (1, [.ref pk, .ref pd, .ref pw, .ref pv, .ref ps, .int tn, .int tr, .int tre, .int tm, .int ts])), (pk, .inl (G.2 0, 16, .inl kp)), (pd, .inl (G.2 0, 16, .inl dp)), (pw, .inl (G.2 0, 16, .inl tw)), (pv, .inl (G.2 0, 16, .inl wt)), (ps, .inl (G.2 0, 16, .inl st))] H → va_D AA [(p, .inr (1, [.ref pk, .ref pd, .ref pw, .ref pv, .ref ps, .int tn, .int tr, .int tre, .int tm, .int ts])), (pk, .inl (G.2 0, 16, .inl kp)), (pd, .inl (G.2 0, 16, .inl dp)), (pw, .inl (G.2 0, 16, .inl tw)), (pv, .inl (G.2 0, 16, .inl wt)), (ps, .inl (G.2 0, 16, .inl st))] → va_S AA sS.heap H locs → lv_has ls 4 [(2, .int x2_29)] → W pp lL eE RX5_deepest sS mM ar below meth cC H locs 0 0 QQ (F0 mM 54 ls [])) (by
      clear h
      intro x2_29 h H locs ls hP hD hS hl
      refine lv_iload_n hx hb dX5_deepest_54 rfl (lv_at hl 0 rfl) ?_
      subst hQQ; exact gx_iret () hx hb hr hlocks hAe hP hD hS (Nat.le_of_ble_eq_true rfl) (Nat.le_of_ble_eq_true rfl) h dX5_deepest_55)
  refine h (fun (x3_31 : Int32) (x2_32 : Int32) => ∀ (H : Heap) (locs : List Loc) (ls : Array Slot), va_P G.1 vwCl [(p, .inr (1, [.ref pk, .ref pd, .ref pw, .ref pv, .ref ps, .int tn, .int tr, .int tre, .int tm, .int ts])), (pk, .inl (G.2 0, 16, .inl kp)), (pd, .inl (G.2 0, 16, .inl dp)), (pw, .inl (G.2 0, 16, .inl tw)), (pv, .inl (G.2 0, 16, .inl wt)), (ps, .inl (G.2 0, 16, .inl st))] H → va_D AA [(p, .inr (1, [.ref pk, .ref pd, .ref pw, .ref pv, .ref ps, .int tn, .int tr, .int tre, .int tm, .int ts])), (pk, .inl (G.2 0, 16, .inl kp)), (pd, .inl (G.2 0, 16, .inl dp)), (pw, .inl (G.2 0, 16, .inl tw)), (pv, .inl (G.2 0, 16, .inl wt)), (ps, .inl (G.2 0, 16, .inl st))] → va_S AA sS.heap H locs → lv_has ls 4 [(3, .int x3_31), (2, .int x2_32), (0, .ref p), (1, .int s)] → W pp lL eE RX5_deepest sS mM ar below meth cC H locs 0 0 QQ (F0 mM 4 ls [])) ?_  _ _ _ hP hD hS hl
  clear h
  intro x3_31 x2_32 h H locs ls hP hD hS hl
  refine lv_iload_n hx hb dX5_deepest_4 rfl (lv_at hl 0 rfl) ?_
  refine lv_aload_n hx hb dX5_deepest_5 rfl (lv_at hl 2 rfl) ?_
  refine va_get (D := G.1) (ci := 1) (v := .int tn) (C := RX5) (T := TX5) (N := 10) hx hb hts in_X5 hown hK.1 hP 0 rfl rfl 5 (by decide) (hts _ q379) (fun _ h9 => h9) rfl dX5_deepest_6 ?_
  refine lv_icmp_ge (tgt := 54) hx hb dX5_deepest_9 (by decide) (fun c_34 => ?_) (fun c_34 => ?_)
  · replace h := h.1 c_34
    exact h _ _ _ hP hD hS (lv_sub hl [1] rfl)
  · replace h := h.2 c_34
    refine lv_iload_n hx hb dX5_deepest_12 rfl (lv_at hl 3 rfl) ?_
    refine lv_iload_n hx hb dX5_deepest_13 rfl (lv_at hl 0 rfl) ?_
    have hPc := hP.sub (ws' := []) [] rfl
    have hDc := hD.sub (ws' := []) [] (by decide) rfl
    refine gx_i (G := G) (wc := []) (wr := [(p, .inr (1, [.ref pk, .ref pd, .ref pw, .ref pv, .ref ps, .int tn, .int tr, .int tre, .int tm, .int ts])), (pk, .inl (G.2 0, 16, .inl kp)), (pd, .inl (G.2 0, 16, .inl dp)), (pw, .inl (G.2 0, 16, .inl tw)), (pv, .inl (G.2 0, 16, .inl wt)), (ps, .inl (G.2 0, 16, .inl st))]) (va_runSN (As := [.int s, .int x3_31]) (rest := []) ⟨hx, hb, hml, hown, hts⟩ (ct_X1_has lL G s x3_31 _) ⟨va_cnB 2 hts (lw_meth q502) rfl rfl rfl (hK.nw q537 rfl) (hts _ q164) (by decide +kernel) ⟨Nat.le_of_ble_eq_true rfl, Nat.le_of_ble_eq_true rfl⟩, hts _ q501, trivial⟩ (gx_preS hK hPc hDc) rfl rfl hl.1 rfl (lv_room (Nat.le_of_ble_eq_true rfl)) dX5_deepest_14 ⟨Nat.le_of_ble_eq_true rfl, Nat.le_of_ble_eq_true rfl⟩) hP hD hS hA [] [0, 1, 2, 3, 4, 5] rfl rfl (by decide) (by decide) (fun r_35 u_35 H locs hw_35 hP hD hS => ?_)
    have hP : va_P G.1 vwCl [(p, .inr (1, [.ref pk, .ref pd, .ref pw, .ref pv, .ref ps, .int tn, .int tr, .int tre, .int tm, .int ts])), (pk, .inl (G.2 0, 16, .inl kp)), (pd, .inl (G.2 0, 16, .inl dp)), (pw, .inl (G.2 0, 16, .inl tw)), (pv, .inl (G.2 0, 16, .inl wt)), (ps, .inl (G.2 0, 16, .inl st))] H := hP
    have hD : va_D AA [(p, .inr (1, [.ref pk, .ref pd, .ref pw, .ref pv, .ref ps, .int tn, .int tr, .int tre, .int tm, .int ts])), (pk, .inl (G.2 0, 16, .inl kp)), (pd, .inl (G.2 0, 16, .inl dp)), (pw, .inl (G.2 0, 16, .inl tw)), (pv, .inl (G.2 0, 16, .inl wt)), (ps, .inl (G.2 0, 16, .inl st))] := hD
    replace h := h r_35 hw_35
    refine lv_if_eq (tgt := 48) hx hb dX5_deepest_17 (by decide) (fun c_36 => ?_) (fun c_36 => ?_)
    · replace h := h.1 c_36
      refine lv_iinc (v := x3_31 + 1) (lv' := [(3, .int (x3_31 + 1)), (2, .int x2_32), (0, .ref p), (1, .int s)]) hx hb dX5_deepest_48 hl (k := 0) rfl rfl (by decide) rfl (fun ls hl => ?_)
      refine lv_goto (tgt := 4) hx hb dX5_deepest_51 (by decide) ?_
      exact h _ _ _ hP hD hS hl
    · replace h := h.2 c_36
      refine lv_iload_n hx hb dX5_deepest_20 rfl (lv_at hl 1 rfl) ?_
      refine lv_iconst (v := (-1)) hx hb dX5_deepest_21 (by decide) ?_
      refine lv_icmp_eq (tgt := 46) hx hb dX5_deepest_22 (by decide) (fun c_37 => ?_) (fun c_37 => ?_)
      · replace h := h.1 c_37
        refine lv_iload_n hx hb dX5_deepest_46 rfl (lv_at hl 0 rfl) ?_
        refine lv_istore_n (lv' := [(2, .int x3_31), (3, .int x3_31), (0, .ref p), (1, .int s)]) hx hb dX5_deepest_47 rfl hl (by decide) rfl (fun ls hl => ?_)
        refine lv_iinc (v := x3_31 + 1) (lv' := [(3, .int (x3_31 + 1)), (2, .int x3_31), (0, .ref p), (1, .int s)]) hx hb dX5_deepest_48 hl (k := 1) rfl rfl (by decide) rfl (fun ls hl => ?_)
        refine lv_goto (tgt := 4) hx hb dX5_deepest_51 (by decide) ?_
        exact h _ _ _ hP hD hS hl
      · replace h := h.2 c_37
        refine lv_aload_n hx hb dX5_deepest_25 rfl (lv_at hl 2 rfl) ?_
        refine va_get (D := G.1) (ci := 1) (v := .ref ps) (C := RX5) (T := TX5) (N := 10) hx hb hts in_X5 hown hK.1 hP 0 rfl rfl 4 (by decide) (hts _ q378) (fun _ h9 => h9) rfl dX5_deepest_26 ?_
        refine lv_iload_n hx hb dX5_deepest_29 rfl (lv_at hl 0 rfl) ?_
        have b_38 := h.1
        refine va_iald hx hb hK.1 hP 5 0 rfl rfl b_38 dX5_deepest_30 ?_
        replace h := h.2
        have hPc := hP.sub (ws' := []) [] rfl
        have hDc := hD.sub (ws' := []) [] (by decide) rfl
        refine gx_i (G := G) (wc := []) (wr := [(p, .inr (1, [.ref pk, .ref pd, .ref pw, .ref pv, .ref ps, .int tn, .int tr, .int tre, .int tm, .int ts])), (pk, .inl (G.2 0, 16, .inl kp)), (pd, .inl (G.2 0, 16, .inl dp)), (pw, .inl (G.2 0, 16, .inl tw)), (pv, .inl (G.2 0, 16, .inl wt)), (ps, .inl (G.2 0, 16, .inl st))]) (va_runS (As := [.int (st x3_31.toNatClampNeg)]) (rest := []) ⟨hx, hb, hml, hown, hts⟩ (ct_J7_bitCount lL G (st x3_31.toNatClampNeg) h.1 _) (va_cwS 1 hts (lw_S q542 q543 q179 q544) rfl rfl rfl (by decide +kernel) ⟨Nat.le_of_ble_eq_true rfl, Nat.le_of_ble_eq_true rfl⟩) (gx_preS hK hPc hDc) rfl rfl hl.1 rfl (lv_room (Nat.le_of_ble_eq_true rfl)) dX5_deepest_31 ⟨Nat.le_of_ble_eq_true rfl, Nat.le_of_ble_eq_true rfl⟩) hP hD hS hA [] [0, 1, 2, 3, 4, 5] rfl rfl (by decide) (by decide) (fun r_39 u_39 H locs hw_39 hP hD hS => ?_)
        replace h := h.2
        have hP : va_P G.1 vwCl [(p, .inr (1, [.ref pk, .ref pd, .ref pw, .ref pv, .ref ps, .int tn, .int tr, .int tre, .int tm, .int ts])), (pk, .inl (G.2 0, 16, .inl kp)), (pd, .inl (G.2 0, 16, .inl dp)), (pw, .inl (G.2 0, 16, .inl tw)), (pv, .inl (G.2 0, 16, .inl wt)), (ps, .inl (G.2 0, 16, .inl st))] H := hP
        have hD : va_D AA [(p, .inr (1, [.ref pk, .ref pd, .ref pw, .ref pv, .ref ps, .int tn, .int tr, .int tre, .int tm, .int ts])), (pk, .inl (G.2 0, 16, .inl kp)), (pd, .inl (G.2 0, 16, .inl dp)), (pw, .inl (G.2 0, 16, .inl tw)), (pv, .inl (G.2 0, 16, .inl wt)), (ps, .inl (G.2 0, 16, .inl st))] := hD
        replace h := h r_39 hw_39
        refine lv_aload_n hx hb dX5_deepest_34 rfl (lv_at hl 2 rfl) ?_
        refine va_get (D := G.1) (ci := 1) (v := .ref ps) (C := RX5) (T := TX5) (N := 10) hx hb hts in_X5 hown hK.1 hP 0 rfl rfl 4 (by decide) (hts _ q378) (fun _ h9 => h9) rfl dX5_deepest_35 ?_
        refine lv_iload_n hx hb dX5_deepest_38 rfl (lv_at hl 1 rfl) ?_
        have b_40 := h.1
        refine va_iald hx hb hK.1 hP 5 0 rfl rfl b_40 dX5_deepest_39 ?_
        replace h := h.2
        have hPc := hP.sub (ws' := []) [] rfl
        have hDc := hD.sub (ws' := []) [] (by decide) rfl
        refine gx_i (G := G) (wc := []) (wr := [(p, .inr (1, [.ref pk, .ref pd, .ref pw, .ref pv, .ref ps, .int tn, .int tr, .int tre, .int tm, .int ts])), (pk, .inl (G.2 0, 16, .inl kp)), (pd, .inl (G.2 0, 16, .inl dp)), (pw, .inl (G.2 0, 16, .inl tw)), (pv, .inl (G.2 0, 16, .inl wt)), (ps, .inl (G.2 0, 16, .inl st))]) (va_runS (As := [.int (st x2_32.toNatClampNeg)]) (rest := [.int r_39]) ⟨hx, hb, hml, hown, hts⟩ (ct_J7_bitCount lL G (st x2_32.toNatClampNeg) h.1 _) (va_cwS 1 hts (lw_S q542 q543 q179 q544) rfl rfl rfl (by decide +kernel) ⟨Nat.le_of_ble_eq_true rfl, Nat.le_of_ble_eq_true rfl⟩) (gx_preS hK hPc hDc) rfl rfl hl.1 rfl (lv_room (Nat.le_of_ble_eq_true rfl)) dX5_deepest_40 ⟨Nat.le_of_ble_eq_true rfl, Nat.le_of_ble_eq_true rfl⟩) hP hD hS hA [] [0, 1, 2, 3, 4, 5] rfl rfl (by decide) (by decide) (fun r_41 u_41 H locs hw_41 hP hD hS => ?_)
        replace h := h.2
        have hP : va_P G.1 vwCl [(p, .inr (1, [.ref pk, .ref pd, .ref pw, .ref pv, .ref ps, .int tn, .int tr, .int tre, .int tm, .int ts])), (pk, .inl (G.2 0, 16, .inl kp)), (pd, .inl (G.2 0, 16, .inl dp)), (pw, .inl (G.2 0, 16, .inl tw)), (pv, .inl (G.2 0, 16, .inl wt)), (ps, .inl (G.2 0, 16, .inl st))] H := hP
        have hD : va_D AA [(p, .inr (1, [.ref pk, .ref pd, .ref pw, .ref pv, .ref ps, .int tn, .int tr, .int tre, .int tm, .int ts])), (pk, .inl (G.2 0, 16, .inl kp)), (pd, .inl (G.2 0, 16, .inl dp)), (pw, .inl (G.2 0, 16, .inl tw)), (pv, .inl (G.2 0, 16, .inl wt)), (ps, .inl (G.2 0, 16, .inl st))] := hD
        replace h := h r_41 hw_41
        refine lv_icmp_le (tgt := 48) hx hb dX5_deepest_43 (by decide) (fun c_42 => ?_) (fun c_42 => ?_)
        · replace h := h.1 c_42
          refine lv_iinc (v := x3_31 + 1) (lv' := [(3, .int (x3_31 + 1)), (2, .int x2_32), (0, .ref p), (1, .int s)]) hx hb dX5_deepest_48 hl (k := 0) rfl rfl (by decide) rfl (fun ls hl => ?_)
          refine lv_goto (tgt := 4) hx hb dX5_deepest_51 (by decide) ?_
          exact h _ _ _ hP hD hS hl
        · replace h := h.2 c_42
          refine lv_iload_n hx hb dX5_deepest_46 rfl (lv_at hl 0 rfl) ?_
          refine lv_istore_n (lv' := [(2, .int x3_31), (3, .int x3_31), (0, .ref p), (1, .int s)]) hx hb dX5_deepest_47 rfl hl (by decide) rfl (fun ls hl => ?_)
          refine lv_iinc (v := x3_31 + 1) (lv' := [(3, .int (x3_31 + 1)), (2, .int x3_31), (0, .ref p), (1, .int s)]) hx hb dX5_deepest_48 hl (k := 1) rfl rfl (by decide) rfl (fun ls hl => ?_)
          refine lv_goto (tgt := 4) hx hb dX5_deepest_51 (by decide) ?_
          exact h _ _ _ hP hD hS hl
theorem ct_X5_deepest (lL : Launch) (G : GE) (p pk pd pw pv ps : Nat) (kp dp tw wt st : Nat → Int32) (tn tr tre tm ts s : Int32) (hp : pr_X5_deepest kp dp tw wt st tn tr tre tm ts s) : CtI lL yX5_deepest (ws_ yX5_deepest cX5_deepest 4 (some .int)) RX5_deepest G [.ref p, .int s] [(p, .inr (1, [.ref pk, .ref pd, .ref pw, .ref pv, .ref ps, .int tn, .int tr, .int tre, .int tm, .int ts])), (pk, .inl (G.2 0, 16, .inl kp)), (pd, .inl (G.2 0, 16, .inl dp)), (pw, .inl (G.2 0, 16, .inl tw)), (pv, .inl (G.2 0, 16, .inl wt)), (ps, .inl (G.2 0, 16, .inl st))] (fun (rr_ : Int32) (uu_ : Unit) => ps_X5_deepest kp dp tw wt st tn tr tre tm ts s rr_ ) (fun (uu_ : Unit) => [(p, .inr (1, [.ref pk, .ref pd, .ref pw, .ref pv, .ref ps, .int tn, .int tr, .int tre, .int tm, .int ts])), (pk, .inl (G.2 0, 16, .inl kp)), (pd, .inl (G.2 0, 16, .inl dp)), (pw, .inl (G.2 0, 16, .inl tw)), (pv, .inl (G.2 0, 16, .inl wt)), (ps, .inl (G.2 0, 16, .inl st))]) :=
  wk_X5_deepest lL G p pk pd pw pv ps kp dp tw wt st tn tr tre tm ts s _ (pf_X5_deepest kp dp tw wt st tn tr tre tm ts s hp)
abbrev RX5_depthOf (dd : Nat) : Room := ({ frames := dd + 1, cells := 0, slots := 0, locals := dd * 21 + 12 } : Room)
theorem RX5_depthOf_self (dd : Nat) : (RX5_depthOf dd).frames + 1 ≤ (RX5_depthOf (dd + 1)).frames ∧ 8 + (2 + 11) + (RX5_depthOf dd).locals ≤ (RX5_depthOf (dd + 1)).locals := ⟨by show dd + 1 + 1 ≤ dd + 1 + 1; omega, by show 8 + (2 + 11) + (dd * 21 + 12) ≤ (dd + 1) * 21 + 12; omega⟩
set_option maxHeartbeats 4000000 in
set_option maxRecDepth 100000 in
theorem wk_X5_depthOf (lL : Launch) (G : GE) (dd : Nat) (ih : ∀ (p pk pd pw pv ps : Nat) (kp dp tw wt st : Nat → Int32) (tn tr tre tm ts k : Int32), pr_X5_depthOf dd kp dp tw wt st tn tr tre tm ts k → CtI lL yX5_depthOf (ws_ yX5_depthOf cX5_depthOf 2 (some .int)) (RX5_depthOf dd) G [.ref p, .int k] [(p, .inr (1, [.ref pk, .ref pd, .ref pw, .ref pv, .ref ps, .int tn, .int tr, .int tre, .int tm, .int ts])), (pk, .inl (G.2 0, 16, .inl kp)), (pd, .inl (G.2 0, 16, .inl dp)), (pw, .inl (G.2 0, 16, .inl tw)), (pv, .inl (G.2 0, 16, .inl wt)), (ps, .inl (G.2 0, 16, .inl st))] (fun (rr_ : Int32) (uu_ : Unit) => ps_X5_depthOf kp dp tw wt st tn tr tre tm ts k rr_ ) (fun (uu_ : Unit) => [(p, .inr (1, [.ref pk, .ref pd, .ref pw, .ref pv, .ref ps, .int tn, .int tr, .int tre, .int tm, .int ts])), (pk, .inl (G.2 0, 16, .inl kp)), (pd, .inl (G.2 0, 16, .inl dp)), (pw, .inl (G.2 0, 16, .inl tw)), (pv, .inl (G.2 0, 16, .inl wt)), (ps, .inl (G.2 0, 16, .inl st))])) (p pk pd pw pv ps : Nat) (kp dp tw wt st : Nat → Int32) (tn tr tre tm ts k : Int32) (Q : Int32 → Prop) (h : wp_X5_depthOf dd kp dp tw wt st tn tr tre tm ts k Q) : CtI lL yX5_depthOf (ws_ yX5_depthOf cX5_depthOf 2 (some .int)) (RX5_depthOf (dd + 1)) G [.ref p, .int k] [(p, .inr (1, [.ref pk, .ref pd, .ref pw, .ref pv, .ref ps, .int tn, .int tr, .int tre, .int tm, .int ts])), (pk, .inl (G.2 0, 16, .inl kp)), (pd, .inl (G.2 0, 16, .inl dp)), (pw, .inl (G.2 0, 16, .inl tw)), (pv, .inl (G.2 0, 16, .inl wt)), (ps, .inl (G.2 0, 16, .inl st))] (fun (rr_ : Int32) (uu_ : Unit) => Q rr_ ) (fun (uu_ : Unit) => [(p, .inr (1, [.ref pk, .ref pd, .ref pw, .ref pv, .ref ps, .int tn, .int tr, .int tre, .int tm, .int ts])), (pk, .inl (G.2 0, 16, .inl kp)), (pd, .inl (G.2 0, 16, .inl dp)), (pw, .inl (G.2 0, 16, .inl tw)), (pv, .inl (G.2 0, 16, .inl wt)), (ps, .inl (G.2 0, 16, .inl st))]) := by
  refine gx_of (cc := cX5_depthOf) (maxL := 2) (ret := (some .int)) (by decide) (Nat.le_of_ble_eq_true rfl) ?_
  intro pp eE sS mM ar below meth cC AA ls QQ hx hb hr hml hts hown hlocks hnm hK hAe hQQ hP hD hA hS hl
  have hl : lv_has ls 2 [(0, .ref p), (1, .int k)] := hl
  refine lv_aload_n hx hb dX5_depthOf_0 rfl (lv_at hl 0 rfl) ?_
  refine va_get (D := G.1) (ci := 1) (v := .ref pk) (C := RX5) (T := TX5) (N := 10) hx hb hts in_X5 hown hK.1 hP 0 rfl rfl 0 (by decide) (hts _ q372) (fun _ h9 => h9) rfl dX5_depthOf_1 ?_
  refine lv_iload_n hx hb dX5_depthOf_4 rfl (lv_at hl 1 rfl) ?_
  have b_1 := h.1
  refine va_iald hx hb hK.1 hP 1 0 rfl rfl b_1 dX5_depthOf_5 ?_
  replace h := h.2
  refine lv_iconst (v := (-1)) hx hb dX5_depthOf_6 (by decide) ?_
  refine lv_icmp_ne (tgt := 14) hx hb dX5_depthOf_7 (by decide) (fun c_2 => ?_) (fun c_2 => ?_)
  · replace h := h.1 c_2
    refine lv_iconst (v := 1) hx hb dX5_depthOf_14 (by decide) ?_
    refine lv_aload_n hx hb dX5_depthOf_15 rfl (lv_at hl 0 rfl) ?_
    refine lv_aload_n hx hb dX5_depthOf_16 rfl (lv_at hl 0 rfl) ?_
    refine va_get (D := G.1) (ci := 1) (v := .ref pk) (C := RX5) (T := TX5) (N := 10) hx hb hts in_X5 hown hK.1 hP 0 rfl rfl 0 (by decide) (hts _ q372) (fun _ h9 => h9) rfl dX5_depthOf_17 ?_
    refine lv_iload_n hx hb dX5_depthOf_20 rfl (lv_at hl 1 rfl) ?_
    refine va_iald hx hb hK.1 hP 1 0 rfl rfl b_1 dX5_depthOf_21 ?_
    have hPc := hP.sub (ws' := [(p, .inr (1, [.ref pk, .ref pd, .ref pw, .ref pv, .ref ps, .int tn, .int tr, .int tre, .int tm, .int ts])), (pk, .inl (G.2 0, 16, .inl kp)), (pd, .inl (G.2 0, 16, .inl dp)), (pw, .inl (G.2 0, 16, .inl tw)), (pv, .inl (G.2 0, 16, .inl wt)), (ps, .inl (G.2 0, 16, .inl st))]) [0, 1, 2, 3, 4, 5] rfl
    have hDc := hD.sub (ws' := [(p, .inr (1, [.ref pk, .ref pd, .ref pw, .ref pv, .ref ps, .int tn, .int tr, .int tre, .int tm, .int ts])), (pk, .inl (G.2 0, 16, .inl kp)), (pd, .inl (G.2 0, 16, .inl dp)), (pw, .inl (G.2 0, 16, .inl tw)), (pv, .inl (G.2 0, 16, .inl wt)), (ps, .inl (G.2 0, 16, .inl st))]) [0, 1, 2, 3, 4, 5] (by decide) rfl
    refine gx_i (G := G) (wc := [(p, .inr (1, [.ref pk, .ref pd, .ref pw, .ref pv, .ref ps, .int tn, .int tr, .int tre, .int tm, .int ts])), (pk, .inl (G.2 0, 16, .inl kp)), (pd, .inl (G.2 0, 16, .inl dp)), (pw, .inl (G.2 0, 16, .inl tw)), (pv, .inl (G.2 0, 16, .inl wt)), (ps, .inl (G.2 0, 16, .inl st))]) (wr := []) (va_runV (As := [.int (kp k.toNatClampNeg)]) (rest := [.int 1]) ⟨hx, hb, hml, hown, hts⟩ (ih p pk pd pw pv ps kp dp tw wt st tn tr tre tm ts (kp k.toNatClampNeg) h.1 _) (cwV 1 hts (lw_V q552 q554 qs5 q171 q555) rfl rfl rfl (by decide +kernel) (RX5_depthOf_self dd)) (gx_preV hK hPc hDc 1 0 rfl rfl) rfl rfl hl.1 rfl (lv_room (Nat.le_of_ble_eq_true rfl)) dX5_depthOf_22 ⟨Nat.zero_le _, Nat.zero_le _⟩) hP hD hS hA [0, 1, 2, 3, 4, 5] [] rfl rfl (by decide) (by decide) (fun r_3 u_3 H locs hw_3 hP hD hS => ?_)
    replace h := h.2
    have hP : va_P G.1 vwCl [(p, .inr (1, [.ref pk, .ref pd, .ref pw, .ref pv, .ref ps, .int tn, .int tr, .int tre, .int tm, .int ts])), (pk, .inl (G.2 0, 16, .inl kp)), (pd, .inl (G.2 0, 16, .inl dp)), (pw, .inl (G.2 0, 16, .inl tw)), (pv, .inl (G.2 0, 16, .inl wt)), (ps, .inl (G.2 0, 16, .inl st))] H := hP
    have hD : va_D AA [(p, .inr (1, [.ref pk, .ref pd, .ref pw, .ref pv, .ref ps, .int tn, .int tr, .int tre, .int tm, .int ts])), (pk, .inl (G.2 0, 16, .inl kp)), (pd, .inl (G.2 0, 16, .inl dp)), (pw, .inl (G.2 0, 16, .inl tw)), (pv, .inl (G.2 0, 16, .inl wt)), (ps, .inl (G.2 0, 16, .inl st))] := hD
    replace h := h r_3 hw_3
    refine lv_iadd hx hb dX5_depthOf_25 ?_
    subst hQQ; exact gx_iret () hx hb hr hlocks hAe hP hD hS (Nat.zero_le _) (Nat.zero_le _) h dX5_depthOf_26
  · replace h := h.2 c_2
    refine lv_iconst (v := 0) hx hb dX5_depthOf_10 (by decide) ?_
    refine lv_goto (tgt := 26) hx hb dX5_depthOf_11 (by decide) ?_
    subst hQQ; exact gx_iret () hx hb hr hlocks hAe hP hD hS (Nat.zero_le _) (Nat.zero_le _) h dX5_depthOf_26
theorem ct_X5_depthOf (lL : Launch) (G : GE) : ∀ (dd : Nat) (p pk pd pw pv ps : Nat) (kp dp tw wt st : Nat → Int32) (tn tr tre tm ts k : Int32) (hp : pr_X5_depthOf dd kp dp tw wt st tn tr tre tm ts k), CtI lL yX5_depthOf (ws_ yX5_depthOf cX5_depthOf 2 (some .int)) (RX5_depthOf dd) G [.ref p, .int k] [(p, .inr (1, [.ref pk, .ref pd, .ref pw, .ref pv, .ref ps, .int tn, .int tr, .int tre, .int tm, .int ts])), (pk, .inl (G.2 0, 16, .inl kp)), (pd, .inl (G.2 0, 16, .inl dp)), (pw, .inl (G.2 0, 16, .inl tw)), (pv, .inl (G.2 0, 16, .inl wt)), (ps, .inl (G.2 0, 16, .inl st))] (fun (rr_ : Int32) (uu_ : Unit) => ps_X5_depthOf kp dp tw wt st tn tr tre tm ts k rr_ ) (fun (uu_ : Unit) => [(p, .inr (1, [.ref pk, .ref pd, .ref pw, .ref pv, .ref ps, .int tn, .int tr, .int tre, .int tm, .int ts])), (pk, .inl (G.2 0, 16, .inl kp)), (pd, .inl (G.2 0, 16, .inl dp)), (pw, .inl (G.2 0, 16, .inl tw)), (pv, .inl (G.2 0, 16, .inl wt)), (ps, .inl (G.2 0, 16, .inl st))]) := by
  intro dd
  induction dd with
  | zero => intro p pk pd pw pv ps kp dp tw wt st tn tr tre tm ts k hp; exact absurd hp (pz_X5_depthOf kp dp tw wt st tn tr tre tm ts k)
  | succ dd ih => intro p pk pd pw pv ps kp dp tw wt st tn tr tre tm ts k hp; exact wk_X5_depthOf lL G dd ih p pk pd pw pv ps kp dp tw wt st tn tr tre tm ts k _ (pf_X5_depthOf dd kp dp tw wt st tn tr tre tm ts k hp)
abbrev RX5_deepens : Room := ({ frames := 19, cells := 0, slots := 0, locals := 390 } : Room)
set_option maxHeartbeats 4000000 in
set_option maxRecDepth 100000 in
theorem wk_X5_deepens (lL : Launch) (G : GE) (p pk pd pw pv ps : Nat) (kp dp tw wt st : Nat → Int32) (tn tr tre tm ts : Int32) (Q : (Nat → Int32) → Prop) (h : wp_X5_deepens kp dp tw wt st tn tr tre tm ts Q) : CtV lL yX5_deepens (ws_ yX5_deepens cX5_deepens 2 none) RX5_deepens G [.ref p] [(p, .inr (1, [.ref pk, .ref pd, .ref pw, .ref pv, .ref ps, .int tn, .int tr, .int tre, .int tm, .int ts])), (pk, .inl (G.2 0, 16, .inl kp)), (pd, .inl (G.2 0, 16, .inl dp)), (pw, .inl (G.2 0, 16, .inl tw)), (pv, .inl (G.2 0, 16, .inl wt)), (ps, .inl (G.2 0, 16, .inl st))] (fun (uu_ : (Nat → Int32)) => Q uu_) (fun (uu_ : (Nat → Int32)) => [(p, .inr (1, [.ref pk, .ref pd, .ref pw, .ref pv, .ref ps, .int tn, .int tr, .int tre, .int tm, .int ts])), (pk, .inl (G.2 0, 16, .inl kp)), (pd, .inl (G.2 0, 16, .inl uu_)), (pw, .inl (G.2 0, 16, .inl tw)), (pv, .inl (G.2 0, 16, .inl wt)), (ps, .inl (G.2 0, 16, .inl st))]) := by
  refine gx_of (cc := cX5_deepens) (maxL := 2) (ret := none) (by decide) (Nat.le_of_ble_eq_true rfl) ?_
  intro pp eE sS mM ar below meth cC AA ls QQ hx hb hr hml hts hown hlocks hnm hK hAe hQQ hP hD hA hS hl
  have hl : lv_has ls 2 [(0, .ref p)] := hl
  refine lv_iconst (v := 0) hx hb dX5_deepens_0 (by decide) ?_
  refine lv_istore_n (lv' := [(1, .int 0), (0, .ref p)]) hx hb dX5_deepens_1 rfl hl (by decide) rfl (fun ls hl => ?_)
  replace h := h (fun (a_25 : Nat → Int32) => ∀ (H : Heap) (locs : List Loc) (ls : Array Slot), va_P G.1 vwCl [(p, .inr (1, [.ref pk, .ref pd, .ref pw, .ref pv, .ref ps, .int tn, .int tr, .int tre, .int tm, .int ts])), (pk, .inl (G.2 0, 16, .inl kp)), (pd, .inl (G.2 0, 16, .inl a_25)), (pw, .inl (G.2 0, 16, .inl tw)), (pv, .inl (G.2 0, 16, .inl wt)), (ps, .inl (G.2 0, 16, .inl st))] H → va_D AA [(p, .inr (1, [.ref pk, .ref pd, .ref pw, .ref pv, .ref ps, .int tn, .int tr, .int tre, .int tm, .int ts])), (pk, .inl (G.2 0, 16, .inl kp)), (pd, .inl (G.2 0, 16, .inl a_25)), (pw, .inl (G.2 0, 16, .inl tw)), (pv, .inl (G.2 0, 16, .inl wt)), (ps, .inl (G.2 0, 16, .inl st))] → va_S AA sS.heap H locs → lv_has ls 2 [] → W pp lL eE RX5_deepens sS mM ar below meth cC H locs 0 0 QQ (F0 mM 38 ls [])) (by
      clear h
      intro a_25 h H locs ls hP hD hS hl
      subst hQQ; exact gx_vret a_25 hx hb hr hlocks hAe hP hD hS (Nat.le_of_ble_eq_true rfl) (Nat.le_of_ble_eq_true rfl) h dX5_deepens_38)
  refine h (fun (x1_27 : Int32) (a_28 : Nat → Int32) => ∀ (H : Heap) (locs : List Loc) (ls : Array Slot), va_P G.1 vwCl [(p, .inr (1, [.ref pk, .ref pd, .ref pw, .ref pv, .ref ps, .int tn, .int tr, .int tre, .int tm, .int ts])), (pk, .inl (G.2 0, 16, .inl kp)), (pd, .inl (G.2 0, 16, .inl a_28)), (pw, .inl (G.2 0, 16, .inl tw)), (pv, .inl (G.2 0, 16, .inl wt)), (ps, .inl (G.2 0, 16, .inl st))] H → va_D AA [(p, .inr (1, [.ref pk, .ref pd, .ref pw, .ref pv, .ref ps, .int tn, .int tr, .int tre, .int tm, .int ts])), (pk, .inl (G.2 0, 16, .inl kp)), (pd, .inl (G.2 0, 16, .inl a_28)), (pw, .inl (G.2 0, 16, .inl tw)), (pv, .inl (G.2 0, 16, .inl wt)), (ps, .inl (G.2 0, 16, .inl st))] → va_S AA sS.heap H locs → lv_has ls 2 [(1, .int x1_27), (0, .ref p)] → W pp lL eE RX5_deepens sS mM ar below meth cC H locs 0 0 QQ (F0 mM 2 ls [])) ?_  _ _ _ hP hD hS hl
  clear h
  intro x1_27 a_28 h H locs ls hP hD hS hl
  refine lv_iload_n hx hb dX5_deepens_2 rfl (lv_at hl 0 rfl) ?_
  refine lv_aload_n hx hb dX5_deepens_3 rfl (lv_at hl 1 rfl) ?_
  refine va_get (D := G.1) (ci := 1) (v := .int tn) (C := RX5) (T := TX5) (N := 10) hx hb hts in_X5 hown hK.1 hP 0 rfl rfl 5 (by decide) (hts _ q379) (fun _ h9 => h9) rfl dX5_deepens_4 ?_
  refine lv_icmp_ge (tgt := 38) hx hb dX5_deepens_7 (by decide) (fun c_30 => ?_) (fun c_30 => ?_)
  · replace h := h.1 c_30
    exact h _ _ _ hP hD hS (lv_sub hl [] rfl)
  · replace h := h.2 c_30
    refine lv_aload_n hx hb dX5_deepens_10 rfl (lv_at hl 1 rfl) ?_
    refine va_get (D := G.1) (ci := 1) (v := .int tre) (C := RX5) (T := TX5) (N := 10) hx hb hts in_X5 hown hK.1 hP 0 rfl rfl 7 (by decide) (hts _ q381) (fun _ h9 => h9) rfl dX5_deepens_11 ?_
    refine lv_iload_n hx hb dX5_deepens_14 rfl (lv_at hl 0 rfl) ?_
    have hPc := hP.sub (ws' := []) [] rfl
    have hDc := hD.sub (ws' := []) [] (by decide) rfl
    refine gx_i (G := G) (wc := []) (wr := [(p, .inr (1, [.ref pk, .ref pd, .ref pw, .ref pv, .ref ps, .int tn, .int tr, .int tre, .int tm, .int ts])), (pk, .inl (G.2 0, 16, .inl kp)), (pd, .inl (G.2 0, 16, .inl a_28)), (pw, .inl (G.2 0, 16, .inl tw)), (pv, .inl (G.2 0, 16, .inl wt)), (ps, .inl (G.2 0, 16, .inl st))]) (va_runSN (As := [.int tre, .int x1_27]) (rest := []) ⟨hx, hb, hml, hown, hts⟩ (ct_X1_has lL G tre x1_27 _) ⟨va_cnB 2 hts (lw_meth q502) rfl rfl rfl (hK.nw q537 rfl) (hts _ q164) (by decide +kernel) ⟨Nat.le_of_ble_eq_true rfl, Nat.le_of_ble_eq_true rfl⟩, hts _ q501, trivial⟩ (gx_preS hK hPc hDc) rfl rfl hl.1 rfl (lv_room (Nat.le_of_ble_eq_true rfl)) dX5_deepens_15 ⟨Nat.le_of_ble_eq_true rfl, Nat.le_of_ble_eq_true rfl⟩) hP hD hS hA [] [0, 1, 2, 3, 4, 5] rfl rfl (by decide) (by decide) (fun r_31 u_31 H locs hw_31 hP hD hS => ?_)
    have hP : va_P G.1 vwCl [(p, .inr (1, [.ref pk, .ref pd, .ref pw, .ref pv, .ref ps, .int tn, .int tr, .int tre, .int tm, .int ts])), (pk, .inl (G.2 0, 16, .inl kp)), (pd, .inl (G.2 0, 16, .inl a_28)), (pw, .inl (G.2 0, 16, .inl tw)), (pv, .inl (G.2 0, 16, .inl wt)), (ps, .inl (G.2 0, 16, .inl st))] H := hP
    have hD : va_D AA [(p, .inr (1, [.ref pk, .ref pd, .ref pw, .ref pv, .ref ps, .int tn, .int tr, .int tre, .int tm, .int ts])), (pk, .inl (G.2 0, 16, .inl kp)), (pd, .inl (G.2 0, 16, .inl a_28)), (pw, .inl (G.2 0, 16, .inl tw)), (pv, .inl (G.2 0, 16, .inl wt)), (ps, .inl (G.2 0, 16, .inl st))] := hD
    replace h := h r_31 hw_31
    refine lv_if_eq (tgt := 32) hx hb dX5_deepens_18 (by decide) (fun c_32 => ?_) (fun c_32 => ?_)
    · replace h := h.1 c_32
      refine lv_iinc (v := x1_27 + 1) (lv' := [(1, .int (x1_27 + 1)), (0, .ref p)]) hx hb dX5_deepens_32 hl (k := 0) rfl rfl (by decide) rfl (fun ls hl => ?_)
      refine lv_goto (tgt := 2) hx hb dX5_deepens_35 (by decide) ?_
      exact h _ _ _ hP hD hS hl
    · replace h := h.2 c_32
      refine lv_aload_n hx hb dX5_deepens_21 rfl (lv_at hl 1 rfl) ?_
      refine va_get (D := G.1) (ci := 1) (v := .ref pd) (C := RX5) (T := TX5) (N := 10) hx hb hts in_X5 hown hK.1 hP 0 rfl rfl 1 (by decide) (hts _ q374) (fun _ h9 => h9) rfl dX5_deepens_22 ?_
      refine lv_iload_n hx hb dX5_deepens_25 rfl (lv_at hl 0 rfl) ?_
      refine lv_aload_n hx hb dX5_deepens_26 rfl (lv_at hl 1 rfl) ?_
      refine lv_iload_n hx hb dX5_deepens_27 rfl (lv_at hl 0 rfl) ?_
      have hPc := hP.sub (ws' := [(p, .inr (1, [.ref pk, .ref pd, .ref pw, .ref pv, .ref ps, .int tn, .int tr, .int tre, .int tm, .int ts])), (pk, .inl (G.2 0, 16, .inl kp)), (pd, .inl (G.2 0, 16, .inl a_28)), (pw, .inl (G.2 0, 16, .inl tw)), (pv, .inl (G.2 0, 16, .inl wt)), (ps, .inl (G.2 0, 16, .inl st))]) [0, 1, 2, 3, 4, 5] rfl
      have hDc := hD.sub (ws' := [(p, .inr (1, [.ref pk, .ref pd, .ref pw, .ref pv, .ref ps, .int tn, .int tr, .int tre, .int tm, .int ts])), (pk, .inl (G.2 0, 16, .inl kp)), (pd, .inl (G.2 0, 16, .inl a_28)), (pw, .inl (G.2 0, 16, .inl tw)), (pv, .inl (G.2 0, 16, .inl wt)), (ps, .inl (G.2 0, 16, .inl st))]) [0, 1, 2, 3, 4, 5] (by decide) rfl
      refine gx_i (G := G) (wc := [(p, .inr (1, [.ref pk, .ref pd, .ref pw, .ref pv, .ref ps, .int tn, .int tr, .int tre, .int tm, .int ts])), (pk, .inl (G.2 0, 16, .inl kp)), (pd, .inl (G.2 0, 16, .inl a_28)), (pw, .inl (G.2 0, 16, .inl tw)), (pv, .inl (G.2 0, 16, .inl wt)), (ps, .inl (G.2 0, 16, .inl st))]) (wr := []) (va_runV (As := [.int x1_27]) (rest := [.int x1_27, .ref pd]) ⟨hx, hb, hml, hown, hts⟩ (ct_X5_depthOf lL G 17 p pk pd pw pv ps kp a_28 tw wt st tn tr tre tm ts x1_27 h.1 _) (cwV 1 hts (lw_V q552 q554 qs5 q171 q555) rfl rfl rfl (by decide +kernel) ⟨Nat.le_of_ble_eq_true rfl, Nat.le_of_ble_eq_true rfl⟩) (gx_preV hK hPc hDc 1 0 rfl rfl) rfl rfl hl.1 rfl (lv_room (Nat.le_of_ble_eq_true rfl)) dX5_deepens_28 ⟨Nat.le_of_ble_eq_true rfl, Nat.le_of_ble_eq_true rfl⟩) hP hD hS hA [0, 1, 2, 3, 4, 5] [] rfl rfl (by decide) (by decide) (fun r_33 u_33 H locs hw_33 hP hD hS => ?_)
      replace h := h.2
      have hP : va_P G.1 vwCl [(p, .inr (1, [.ref pk, .ref pd, .ref pw, .ref pv, .ref ps, .int tn, .int tr, .int tre, .int tm, .int ts])), (pk, .inl (G.2 0, 16, .inl kp)), (pd, .inl (G.2 0, 16, .inl a_28)), (pw, .inl (G.2 0, 16, .inl tw)), (pv, .inl (G.2 0, 16, .inl wt)), (ps, .inl (G.2 0, 16, .inl st))] H := hP
      have hD : va_D AA [(p, .inr (1, [.ref pk, .ref pd, .ref pw, .ref pv, .ref ps, .int tn, .int tr, .int tre, .int tm, .int ts])), (pk, .inl (G.2 0, 16, .inl kp)), (pd, .inl (G.2 0, 16, .inl a_28)), (pw, .inl (G.2 0, 16, .inl tw)), (pv, .inl (G.2 0, 16, .inl wt)), (ps, .inl (G.2 0, 16, .inl st))] := hD
      replace h := h r_33 hw_33
      have b_34 := h.1
      refine va_iast hx hb hK.1 hP hD hS 2 0 rfl rfl b_34 dX5_deepens_31 (fun H locs hP hD hS => ?_)
      replace h := h.2
      obtain ⟨u_35, eu_35⟩ : ∃ z__, z__ = upd a_28 x1_27.toNatClampNeg r_33 := ⟨_, rfl⟩
      replace h := h u_35 eu_35
      have hP : va_P G.1 vwCl [(p, .inr (1, [.ref pk, .ref pd, .ref pw, .ref pv, .ref ps, .int tn, .int tr, .int tre, .int tm, .int ts])), (pk, .inl (G.2 0, 16, .inl kp)), (pd, .inl (G.2 0, 16, .inl u_35)), (pw, .inl (G.2 0, 16, .inl tw)), (pv, .inl (G.2 0, 16, .inl wt)), (ps, .inl (G.2 0, 16, .inl st))] H := by rw [eu_35]; exact hP
      have hD : va_D AA [(p, .inr (1, [.ref pk, .ref pd, .ref pw, .ref pv, .ref ps, .int tn, .int tr, .int tre, .int tm, .int ts])), (pk, .inl (G.2 0, 16, .inl kp)), (pd, .inl (G.2 0, 16, .inl u_35)), (pw, .inl (G.2 0, 16, .inl tw)), (pv, .inl (G.2 0, 16, .inl wt)), (ps, .inl (G.2 0, 16, .inl st))] := by rw [eu_35]; exact hD
      refine lv_iinc (v := x1_27 + 1) (lv' := [(1, .int (x1_27 + 1)), (0, .ref p)]) hx hb dX5_deepens_32 hl (k := 0) rfl rfl (by decide) rfl (fun ls hl => ?_)
      refine lv_goto (tgt := 2) hx hb dX5_deepens_35 (by decide) ?_
      exact h _ _ _ hP hD hS hl
theorem ct_X5_deepens (lL : Launch) (G : GE) (p pk pd pw pv ps : Nat) (kp dp tw wt st : Nat → Int32) (tn tr tre tm ts : Int32) (hp : pr_X5_deepens kp dp tw wt st tn tr tre tm ts) : CtV lL yX5_deepens (ws_ yX5_deepens cX5_deepens 2 none) RX5_deepens G [.ref p] [(p, .inr (1, [.ref pk, .ref pd, .ref pw, .ref pv, .ref ps, .int tn, .int tr, .int tre, .int tm, .int ts])), (pk, .inl (G.2 0, 16, .inl kp)), (pd, .inl (G.2 0, 16, .inl dp)), (pw, .inl (G.2 0, 16, .inl tw)), (pv, .inl (G.2 0, 16, .inl wt)), (ps, .inl (G.2 0, 16, .inl st))] (fun (uu_ : (Nat → Int32)) => ps_X5_deepens kp dp tw wt st tn tr tre tm ts uu_) (fun (uu_ : (Nat → Int32)) => [(p, .inr (1, [.ref pk, .ref pd, .ref pw, .ref pv, .ref ps, .int tn, .int tr, .int tre, .int tm, .int ts])), (pk, .inl (G.2 0, 16, .inl kp)), (pd, .inl (G.2 0, 16, .inl uu_)), (pw, .inl (G.2 0, 16, .inl tw)), (pv, .inl (G.2 0, 16, .inl wt)), (ps, .inl (G.2 0, 16, .inl st))]) :=
  wk_X5_deepens lL G p pk pd pw pv ps kp dp tw wt st tn tr tre tm ts _ (pf_X5_deepens kp dp tw wt st tn tr tre tm ts hp)
