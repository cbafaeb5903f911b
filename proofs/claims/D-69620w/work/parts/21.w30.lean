/-! ===== walks: fhd_isSection fhd_isInSegment fhd_hasLinks ===== -/
set_option maxRecDepth 100000
def hhd_isSection (x : jCx) (en : (Int32 × jW) → Option (Outcome × jW)) (t : Nat) (a1 : Int32) : Prop :=
  jOK x RX9 cX9_isSection 7 ∧
  jMt x "isSection" (Option.some Jvm.ClassFile.FieldType.boolean) [] ∧
  jRm x 2 37 ∧
  (∀ q : Int32 × jW, en q = some (.returned (some (.int q.1)), q.2))
theorem whd_isSection_279 {x : jCx} {en : (Int32 × jW) → Option (Outcome × jW)} {t : Nat} {a1 : Int32} (h : hhd_isSection x en t a1) (W : jW) : jJ x 7 279 [(0, vR t), (1, vI a1)] [] W (fhd_isSection_279 t a1 W) en := by
  have h0 := h
  obtain ⟨hx, hm, hr, he⟩ := h0
  unfold fhd_isSection_279
  refine j_runA hx 1 (tb := [(279, .iconst 0)]) (jtb_ok (by decide +kernel)) (pc' := 280) (lv' := [(0, vR t), (1, vI a1)]) (st' := [vI (kI 0)]) rfl ?_
  exact j_iret hx hm (by decide +kernel) jz0n (he _)
theorem whd_isSection_405 {x : jCx} {en : (Int32 × jW) → Option (Outcome × jW)} {t : Nat} {a1 : Int32} (h : hhd_isSection x en t a1) (W : jW) : jJ x 7 405 [(0, vR t), (1, vI a1)] [] W (fhd_isSection_405 t a1 W) en := by
  have h0 := h
  obtain ⟨hx, hm, hr, he⟩ := h0
  unfold fhd_isSection_405
  refine j_runA hx 1 (tb := [(405, .iconst 0)]) (jtb_ok (by decide +kernel)) (pc' := 406) (lv' := [(0, vR t), (1, vI a1)]) (st' := [vI (kI 0)]) rfl ?_
  exact j_iret hx hm (by decide +kernel) jz0n (he _)
theorem whd_isSection_380 {x : jCx} {en : (Int32 × jW) → Option (Outcome × jW)} {t : Nat} {a1 : Int32} (h : hhd_isSection x en t a1) (s0 : Int32) (s1 : Nat) (W : jW) : jJ x 7 380 [(0, vR t), (1, vI a1)] [vI s0, vR s1] W (fhd_isSection_380 t a1 s0 s1 W) en := by
  have h0 := h
  obtain ⟨hx, hm, hr, he⟩ := h0
  unfold fhd_isSection_380
  refine j_runA hx 1 (tb := [(380, .aload_n 0)]) (jtb_ok (by decide +kernel)) (pc' := 381) (lv' := [(0, vR t), (1, vI a1)]) (st' := [vR t, vI s0, vR s1]) rfl ?_
  refine j_gd (fun h78 => ?_)
  refine j_getR hx flX9_29 kl1412 h78 (by decide) (by decide +kernel) ?_
  refine j_runA hx 1 (tb := [(384, .iload_n 1)]) (jtb_ok (by decide +kernel)) (pc' := 385) (lv' := [(0, vR t), (1, vI a1)]) (st' := [vI a1, vR (jR W 1412 t), vI s0, vR s1]) rfl ?_
  refine j_gd (fun h79 => ?_)
  refine j_lald hx (f := 1412) (o := t) kd1412 rfl (by decide +kernel) h79 ?_
  refine j_runA hx 1 (tb := [(386, .aload_n 0)]) (jtb_ok (by decide +kernel)) (pc' := 387) (lv' := [(0, vR t), (1, vI a1)]) (st' := [vR t, vL (jB W 1412 t (ix a1)), vI s0, vR s1]) rfl ?_
  refine j_getR hx flX9_35 kl1414 h78 (by decide) (by decide +kernel) ?_
  refine j_runA hx 1 (tb := [(390, .iload_n 1)]) (jtb_ok (by decide +kernel)) (pc' := 391) (lv' := [(0, vR t), (1, vI a1)]) (st' := [vI a1, vR (jR W 1414 t), vL (jB W 1412 t (ix a1)), vI s0, vR s1]) rfl ?_
  refine j_gd (fun h80 => ?_)
  refine j_lald hx (f := 1414) (o := t) kd1414 rfl (by decide +kernel) h80 ?_
  refine j_runA hx 3 (tb := [(392, .ladd), (393, .lconst 1), (394, .lsub)]) (jtb_ok (by decide +kernel)) (pc' := 395) (lv' := [(0, vR t), (1, vI a1)]) (st' := [vL (((jB W 1412 t (ix a1)) + (jB W 1414 t (ix a1))) - (kJ 1)), vI s0, vR s1]) rfl ?_
  refine j_gd (fun h81 => ?_)
  refine j_WI (j_callV (av := [vI s0, vL (((jB W 1412 t (ix a1)) + (jB W 1414 t (ix a1))) - (kJ 1))]) (st := []) hx hr (Or.inl q2818) q2820 qs124 rfl md_fhd_is np_fhd_is (chd_is s1 s0 (((jB W 1412 t (ix a1)) + (jB W 1414 t (ix a1))) - (kJ 1)) W) (by decide) (Nat.le_of_ble_eq_true rfl) h81 (by decide) (by decide +kernel)) (fun q82 _ => ?_)
  refine j_if_eq hx (off := 7) (tgt := 405) (by decide +kernel) (by decide) (fun _ => ?_) (fun _ => ?_)
  · exact whd_isSection_405 h q82.2
  refine j_runA hx 1 (tb := [(401, .iconst 1)]) (jtb_ok (by decide +kernel)) (pc' := 402) (lv' := [(0, vR t), (1, vI a1)]) (st' := [vI (kI 1)]) rfl ?_
  refine j_goto hx (off := 4) (by decide +kernel) (tgt := 406) (by decide) ?_
  exact j_iret hx hm (by decide +kernel) jz1n (he _)
theorem whd_isSection_338 {x : jCx} {en : (Int32 × jW) → Option (Outcome × jW)} {t : Nat} {a1 : Int32} (h : hhd_isSection x en t a1) (s0 : Int32) (s1 : Nat) (W : jW) : jJ x 7 338 [(0, vR t), (1, vI a1)] [vI s0, vR s1] W (fhd_isSection_338 t a1 s0 s1 W) en := by
  have h0 := h
  obtain ⟨hx, hm, hr, he⟩ := h0
  unfold fhd_isSection_338
  refine j_runA hx 1 (tb := [(338, .aload_n 0)]) (jtb_ok (by decide +kernel)) (pc' := 339) (lv' := [(0, vR t), (1, vI a1)]) (st' := [vR t, vI s0, vR s1]) rfl ?_
  refine j_gd (fun h67 => ?_)
  refine j_getR hx flX9_29 kl1412 h67 (by decide) (by decide +kernel) ?_
  refine j_runA hx 1 (tb := [(342, .iload_n 1)]) (jtb_ok (by decide +kernel)) (pc' := 343) (lv' := [(0, vR t), (1, vI a1)]) (st' := [vI a1, vR (jR W 1412 t), vI s0, vR s1]) rfl ?_
  refine j_gd (fun h68 => ?_)
  refine j_lald hx (f := 1412) (o := t) kd1412 rfl (by decide +kernel) h68 ?_
  refine j_gd (fun h69 => ?_)
  refine j_WI (j_callV (av := [vI s0, vL (jB W 1412 t (ix a1))]) (st := []) hx hr (Or.inl q2818) q2820 qs124 rfl md_fhd_is np_fhd_is (chd_is s1 s0 (jB W 1412 t (ix a1)) W) (by decide) (Nat.le_of_ble_eq_true rfl) h69 (by decide) (by decide +kernel)) (fun q70 _ => ?_)
  refine j_if_eq hx (off := 58) (tgt := 405) (by decide +kernel) (by decide) (fun _ => ?_) (fun _ => ?_)
  · exact whd_isSection_405 h q70.2
  refine j_runA hx 2 (tb := [(350, .aload_n 0), (351, .aload_n 0)]) (jtb_ok (by decide +kernel)) (pc' := 352) (lv' := [(0, vR t), (1, vI a1)]) (st' := [vR t, vR t]) rfl ?_
  refine j_gd (fun h72 => ?_)
  refine j_getR hx flX9_38 kl1400 h72 (by decide) (by decide +kernel) ?_
  refine j_runA hx 1 (tb := [(355, .aload_n 0)]) (jtb_ok (by decide +kernel)) (pc' := 356) (lv' := [(0, vR t), (1, vI a1)]) (st' := [vR t, vR (jR q70.2 1400 t), vR t]) rfl ?_
  refine j_getR hx flX9_29 kl1412 h72 (by decide) (by decide +kernel) ?_
  refine j_runA hx 1 (tb := [(359, .iload_n 1)]) (jtb_ok (by decide +kernel)) (pc' := 360) (lv' := [(0, vR t), (1, vI a1)]) (st' := [vI a1, vR (jR q70.2 1412 t), vR (jR q70.2 1400 t), vR t]) rfl ?_
  refine j_gd (fun h73 => ?_)
  refine j_lald hx (f := 1412) (o := t) kd1412 rfl (by decide +kernel) h73 ?_
  refine j_runA hx 1 (tb := [(361, .aload_n 0)]) (jtb_ok (by decide +kernel)) (pc' := 362) (lv' := [(0, vR t), (1, vI a1)]) (st' := [vR t, vL (jB q70.2 1412 t (ix a1)), vR (jR q70.2 1400 t), vR t]) rfl ?_
  refine j_getR hx flX9_35 kl1414 h72 (by decide) (by decide +kernel) ?_
  refine j_runA hx 1 (tb := [(365, .iload_n 1)]) (jtb_ok (by decide +kernel)) (pc' := 366) (lv' := [(0, vR t), (1, vI a1)]) (st' := [vI a1, vR (jR q70.2 1414 t), vL (jB q70.2 1412 t (ix a1)), vR (jR q70.2 1400 t), vR t]) rfl ?_
  refine j_gd (fun h74 => ?_)
  refine j_lald hx (f := 1414) (o := t) kd1414 rfl (by decide +kernel) h74 ?_
  refine j_runA hx 4 (tb := [(367, .ladd), (368, .l2i), (369, .iconst 1), (370, .isub)]) (jtb_ok (by decide +kernel)) (pc' := 371) (lv' := [(0, vR t), (1, vI a1)]) (st' := [vI ((((jB q70.2 1412 t (ix a1)) + (jB q70.2 1414 t (ix a1))).toInt32) - (kI 1)), vR (jR q70.2 1400 t), vR t]) rfl ?_
  refine j_gd (fun h75 => ?_)
  refine j_gd (fun h76 => ?_)
  refine j_bald hx (f := 9004) (o := (jR q70.2 1400 t)) kd9004 h75 (by decide +kernel) h76 ?_
  refine j_if_ne hx (off := 7) (tgt := 379) (by decide +kernel) (by decide) (fun _ => ?_) (fun _ => ?_)
  · refine j_runA hx 1 (tb := [(379, .iconst 0)]) (jtb_ok (by decide +kernel)) (pc' := 380) (lv' := [(0, vR t), (1, vI a1)]) (st' := [vI (kI 0), vR t]) rfl ?_
    exact whd_isSection_380 h (kI 0) t q70.2
  refine j_runA hx 1 (tb := [(375, .iconst 1)]) (jtb_ok (by decide +kernel)) (pc' := 376) (lv' := [(0, vR t), (1, vI a1)]) (st' := [vI (kI 1), vR t]) rfl ?_
  refine j_goto hx (off := 4) (by decide +kernel) (tgt := 380) (by decide) ?_
  exact whd_isSection_380 h (kI 1) t q70.2
theorem whd_isSection_306 {x : jCx} {en : (Int32 × jW) → Option (Outcome × jW)} {t : Nat} {a1 : Int32} (h : hhd_isSection x en t a1) (l2 : Int32) (s0 : Int32) (s1 : Nat) (W : jW) : jJ x 7 306 [(0, vR t), (1, vI a1), (2, vI l2)] [vI s0, vR s1] W (fhd_isSection_306 t a1 l2 s0 s1 W) en := by
  have h0 := h
  obtain ⟨hx, hm, hr, he⟩ := h0
  unfold fhd_isSection_306
  refine j_runA hx 4 (tb := [(306, .iload_n 2), (307, .bipush 32), (309, .iadd), (310, .i2l)]) (jtb_ok (by decide +kernel)) (pc' := 311) (lv' := [(0, vR t), (1, vI a1), (2, vI l2)]) (st' := [vL ((l2 + (kI 32)).toInt64), vI s0, vR s1]) rfl ?_
  refine j_gd (fun h59 => ?_)
  refine j_WI (j_callV (av := [vI s0, vL ((l2 + (kI 32)).toInt64)]) (st := []) hx hr (Or.inl q2818) q2820 qs124 rfl md_fhd_is np_fhd_is (chd_is s1 s0 ((l2 + (kI 32)).toInt64) W) (by decide) (Nat.le_of_ble_eq_true rfl) h59 (by decide) (by decide +kernel)) (fun q60 _ => ?_)
  refine j_if_eq hx (off := 91) (tgt := 405) (by decide +kernel) (by decide) (fun _ => ?_) (fun _ => ?_)
  · refine j_lv (lv' := [(0, vR t), (1, vI a1)]) ⟨rfl, rfl, trivial⟩ ?_
    exact whd_isSection_405 h q60.2
  refine j_runA hx 2 (tb := [(317, .aload_n 0), (318, .aload_n 0)]) (jtb_ok (by decide +kernel)) (pc' := 319) (lv' := [(0, vR t), (1, vI a1), (2, vI l2)]) (st' := [vR t, vR t]) rfl ?_
  refine j_gd (fun h62 => ?_)
  refine j_getR hx flX9_38 kl1400 h62 (by decide) (by decide +kernel) ?_
  refine j_runA hx 1 (tb := [(322, .aload_n 0)]) (jtb_ok (by decide +kernel)) (pc' := 323) (lv' := [(0, vR t), (1, vI a1), (2, vI l2)]) (st' := [vR t, vR (jR q60.2 1400 t), vR t]) rfl ?_
  refine j_getR hx flX9_29 kl1412 h62 (by decide) (by decide +kernel) ?_
  refine j_runA hx 1 (tb := [(326, .iload_n 1)]) (jtb_ok (by decide +kernel)) (pc' := 327) (lv' := [(0, vR t), (1, vI a1), (2, vI l2)]) (st' := [vI a1, vR (jR q60.2 1412 t), vR (jR q60.2 1400 t), vR t]) rfl ?_
  refine j_gd (fun h63 => ?_)
  refine j_lald hx (f := 1412) (o := t) kd1412 rfl (by decide +kernel) h63 ?_
  refine j_runA hx 1 (tb := [(328, .l2i)]) (jtb_ok (by decide +kernel)) (pc' := 329) (lv' := [(0, vR t), (1, vI a1), (2, vI l2)]) (st' := [vI ((jB q60.2 1412 t (ix a1)).toInt32), vR (jR q60.2 1400 t), vR t]) rfl ?_
  refine j_gd (fun h64 => ?_)
  refine j_gd (fun h65 => ?_)
  refine j_bald hx (f := 9004) (o := (jR q60.2 1400 t)) kd9004 h64 (by decide +kernel) h65 ?_
  refine j_if_ne hx (off := 7) (tgt := 337) (by decide +kernel) (by decide) (fun _ => ?_) (fun _ => ?_)
  · refine j_runA hx 1 (tb := [(337, .iconst 0)]) (jtb_ok (by decide +kernel)) (pc' := 338) (lv' := [(0, vR t), (1, vI a1), (2, vI l2)]) (st' := [vI (kI 0), vR t]) rfl ?_
    refine j_lv (lv' := [(0, vR t), (1, vI a1)]) ⟨rfl, rfl, trivial⟩ ?_
    exact whd_isSection_338 h (kI 0) t q60.2
  refine j_runA hx 1 (tb := [(333, .iconst 1)]) (jtb_ok (by decide +kernel)) (pc' := 334) (lv' := [(0, vR t), (1, vI a1), (2, vI l2)]) (st' := [vI (kI 1), vR t]) rfl ?_
  refine j_goto hx (off := 4) (by decide +kernel) (tgt := 338) (by decide) ?_
  refine j_lv (lv' := [(0, vR t), (1, vI a1)]) ⟨rfl, rfl, trivial⟩ ?_
  exact whd_isSection_338 h (kI 1) t q60.2
theorem whd_isSection_495 {x : jCx} {en : (Int32 × jW) → Option (Outcome × jW)} {t : Nat} {a1 : Int32} (h : hhd_isSection x en t a1) (W : jW) : jJ x 7 495 [(0, vR t), (1, vI a1)] [] W (fhd_isSection_495 t a1 W) en := by
  have h0 := h
  obtain ⟨hx, hm, hr, he⟩ := h0
  unfold fhd_isSection_495
  refine j_runA hx 1 (tb := [(495, .iconst 0)]) (jtb_ok (by decide +kernel)) (pc' := 496) (lv' := [(0, vR t), (1, vI a1)]) (st' := [vI (kI 0)]) rfl ?_
  exact j_iret hx hm (by decide +kernel) jz0n (he _)
theorem whd_isSection_463 {x : jCx} {en : (Int32 × jW) → Option (Outcome × jW)} {t : Nat} {a1 : Int32} (h : hhd_isSection x en t a1) (l2 : Int32) (s0 : Int32) (s1 : Nat) (W : jW) : jJ x 7 463 [(0, vR t), (1, vI a1), (2, vI l2)] [vI s0, vR s1] W (fhd_isSection_463 t a1 l2 s0 s1 W) en := by
  have h0 := h
  obtain ⟨hx, hm, hr, he⟩ := h0
  unfold fhd_isSection_463
  refine j_runA hx 4 (tb := [(463, .iload_n 2), (464, .bipush 32), (466, .iadd), (467, .i2l)]) (jtb_ok (by decide +kernel)) (pc' := 468) (lv' := [(0, vR t), (1, vI a1), (2, vI l2)]) (st' := [vL ((l2 + (kI 32)).toInt64), vI s0, vR s1]) rfl ?_
  refine j_gd (fun h91 => ?_)
  refine j_WI (j_callV (av := [vI s0, vL ((l2 + (kI 32)).toInt64)]) (st := []) hx hr (Or.inl q2818) q2820 qs124 rfl md_fhd_is np_fhd_is (chd_is s1 s0 ((l2 + (kI 32)).toInt64) W) (by decide) (Nat.le_of_ble_eq_true rfl) h91 (by decide) (by decide +kernel)) (fun q92 _ => ?_)
  refine j_if_eq hx (off := 24) (tgt := 495) (by decide +kernel) (by decide) (fun _ => ?_) (fun _ => ?_)
  · refine j_lv (lv' := [(0, vR t), (1, vI a1)]) ⟨rfl, rfl, trivial⟩ ?_
    exact whd_isSection_495 h q92.2
  refine j_runA hx 6 (tb := [(474, .aload_n 0), (475, .iload_n 2), (476, .bipush 56), (478, .iadd), (479, .i2l), (480, .bipush 8)]) (jtb_ok (by decide +kernel)) (pc' := 482) (lv' := [(0, vR t), (1, vI a1), (2, vI l2)]) (st' := [vI (kI 8), vL ((l2 + (kI 56)).toInt64), vR t]) rfl ?_
  refine j_ldc2 hx (v := (kJ 24)) (jkd2 q2876 (by decide +kernel)) (by decide +kernel) ?_
  refine j_gd (fun h94 => ?_)
  refine j_WI (j_callV (av := [vL ((l2 + (kI 56)).toInt64), vI (kI 8), vL (kJ 24)]) (st := []) hx hr (Or.inl q2832) q2834 qs125 rfl md_fhd_has np_fhd_has (chd_has t ((l2 + (kI 56)).toInt64) (kI 8) (kJ 24) q92.2) (by decide) (Nat.le_of_ble_eq_true rfl) h94 (by decide) (by decide +kernel)) (fun q95 _ => ?_)
  refine j_if_eq hx (off := 7) (tgt := 495) (by decide +kernel) (by decide) (fun _ => ?_) (fun _ => ?_)
  · refine j_lv (lv' := [(0, vR t), (1, vI a1)]) ⟨rfl, rfl, trivial⟩ ?_
    exact whd_isSection_495 h q95.2
  refine j_runA hx 1 (tb := [(491, .iconst 1)]) (jtb_ok (by decide +kernel)) (pc' := 492) (lv' := [(0, vR t), (1, vI a1), (2, vI l2)]) (st' := [vI (kI 1)]) rfl ?_
  refine j_goto hx (off := 4) (by decide +kernel) (tgt := 496) (by decide) ?_
  exact j_iret hx hm (by decide +kernel) jz1n (he _)
theorem whd_isSection_458 {x : jCx} {en : (Int32 × jW) → Option (Outcome × jW)} {t : Nat} {a1 : Int32} (h : hhd_isSection x en t a1) (l2 : Int32) (s0 : Nat) (W : jW) : jJ x 7 458 [(0, vR t), (1, vI a1), (2, vI l2)] [vR s0] W (fhd_isSection_458 t a1 l2 s0 W) en := by
  have h0 := h
  obtain ⟨hx, hm, hr, he⟩ := h0
  unfold fhd_isSection_458
  refine j_runA hx 1 (tb := [(458, .iconst 1)]) (jtb_ok (by decide +kernel)) (pc' := 459) (lv' := [(0, vR t), (1, vI a1), (2, vI l2)]) (st' := [vI (kI 1), vR s0]) rfl ?_
  refine j_goto hx (off := 4) (by decide +kernel) (tgt := 463) (by decide) ?_
  exact whd_isSection_463 h l2 (kI 1) s0 W
theorem whd_isSection_462 {x : jCx} {en : (Int32 × jW) → Option (Outcome × jW)} {t : Nat} {a1 : Int32} (h : hhd_isSection x en t a1) (l2 : Int32) (s0 : Nat) (W : jW) : jJ x 7 462 [(0, vR t), (1, vI a1), (2, vI l2)] [vR s0] W (fhd_isSection_462 t a1 l2 s0 W) en := by
  have h0 := h
  obtain ⟨hx, hm, hr, he⟩ := h0
  unfold fhd_isSection_462
  refine j_runA hx 1 (tb := [(462, .iconst 0)]) (jtb_ok (by decide +kernel)) (pc' := 463) (lv' := [(0, vR t), (1, vI a1), (2, vI l2)]) (st' := [vI (kI 0), vR s0]) rfl ?_
  exact whd_isSection_463 h l2 (kI 0) s0 W
theorem whd_isSection_423 {x : jCx} {en : (Int32 × jW) → Option (Outcome × jW)} {t : Nat} {a1 : Int32} (h : hhd_isSection x en t a1) (l2 : Int32) (l3 : Int64) (W : jW) : jJ x 7 423 [(0, vR t), (1, vI a1), (2, vI l2), (3, vL l3)] [] W (fhd_isSection_423 t a1 l2 l3 W) en := by
  have h0 := h
  obtain ⟨hx, hm, hr, he⟩ := h0
  unfold fhd_isSection_423
  refine j_runA hx 2 (tb := [(423, .aload_n 0), (424, .aload_n 0)]) (jtb_ok (by decide +kernel)) (pc' := 425) (lv' := [(0, vR t), (1, vI a1), (2, vI l2), (3, vL l3)]) (st' := [vR t, vR t]) rfl ?_
  refine j_gd (fun h86 => ?_)
  refine j_getR hx flX9_35 kl1414 h86 (by decide) (by decide +kernel) ?_
  refine j_runA hx 1 (tb := [(428, .iload_n 1)]) (jtb_ok (by decide +kernel)) (pc' := 429) (lv' := [(0, vR t), (1, vI a1), (2, vI l2), (3, vL l3)]) (st' := [vI a1, vR (jR W 1414 t), vR t]) rfl ?_
  refine j_gd (fun h87 => ?_)
  refine j_lald hx (f := 1414) (o := t) kd1414 rfl (by decide +kernel) h87 ?_
  refine j_ldc2 hx (v := (kJ 24)) (jkd2 q2876 (by decide +kernel)) (by decide +kernel) ?_
  refine j_lrem hx (by decide +kernel) (by decide +kernel) ?_
  refine j_runA hx 1 (tb := [(434, .lconst 0)]) (jtb_ok (by decide +kernel)) (pc' := 435) (lv' := [(0, vR t), (1, vI a1), (2, vI l2), (3, vL l3)]) (st' := [vL (kJ 0), vL (lrm (jB W 1414 t (ix a1)) (kJ 24)), vR t]) rfl ?_
  refine j_lcmp_ne hx (off := 26) (tgt := 462) (by decide +kernel) (by decide +kernel) (by decide) (fun _ => ?_) (fun _ => ?_)
  · refine j_lv (lv' := [(0, vR t), (1, vI a1), (2, vI l2)]) ⟨rfl, rfl, rfl, trivial⟩ ?_
    exact whd_isSection_462 h l2 t W
  refine j_runA hx 1 (tb := [(439, .lload_n 3)]) (jtb_ok (by decide +kernel)) (pc' := 440) (lv' := [(0, vR t), (1, vI a1), (2, vI l2), (3, vL l3)]) (st' := [vL l3, vR t]) rfl ?_
  refine j_ldc2 hx (v := (kJ 4)) (jkd2 q2827 (by decide +kernel)) (by decide +kernel) ?_
  refine j_lcmp_eq hx (off := 14) (tgt := 458) (by decide +kernel) (by decide +kernel) (by decide) (fun _ => ?_) (fun _ => ?_)
  · refine j_lv (lv' := [(0, vR t), (1, vI a1), (2, vI l2)]) ⟨rfl, rfl, rfl, trivial⟩ ?_
    exact whd_isSection_458 h l2 t W
  refine j_runA hx 1 (tb := [(447, .aload_n 0)]) (jtb_ok (by decide +kernel)) (pc' := 448) (lv' := [(0, vR t), (1, vI a1), (2, vI l2), (3, vL l3)]) (st' := [vR t, vR t]) rfl ?_
  refine j_getR hx flX9_35 kl1414 h86 (by decide) (by decide +kernel) ?_
  refine j_runA hx 1 (tb := [(451, .iload_n 1)]) (jtb_ok (by decide +kernel)) (pc' := 452) (lv' := [(0, vR t), (1, vI a1), (2, vI l2), (3, vL l3)]) (st' := [vI a1, vR (jR W 1414 t), vR t]) rfl ?_
  refine j_gd (fun h88 => ?_)
  refine j_lald hx (f := 1414) (o := t) kd1414 rfl (by decide +kernel) h88 ?_
  refine j_runA hx 1 (tb := [(453, .lconst 0)]) (jtb_ok (by decide +kernel)) (pc' := 454) (lv' := [(0, vR t), (1, vI a1), (2, vI l2), (3, vL l3)]) (st' := [vL (kJ 0), vL (jB W 1414 t (ix a1)), vR t]) rfl ?_
  refine j_lcmp_le hx (off := 7) (tgt := 462) (by decide +kernel) (by decide +kernel) (by decide) (fun _ => ?_) (fun _ => ?_)
  · refine j_lv (lv' := [(0, vR t), (1, vI a1), (2, vI l2)]) ⟨rfl, rfl, rfl, trivial⟩ ?_
    exact whd_isSection_462 h l2 t W
  refine j_lv (lv' := [(0, vR t), (1, vI a1), (2, vI l2)]) ⟨rfl, rfl, rfl, trivial⟩ ?_
  exact whd_isSection_458 h l2 t W
theorem whd_isSection_268 {x : jCx} {en : (Int32 × jW) → Option (Outcome × jW)} {t : Nat} {a1 : Int32} (h : hhd_isSection x en t a1) (l2 : Int32) (l3 : Int64) (s0 : Int32) (s1 : Nat) (W : jW) : jJ x 7 268 [(0, vR t), (1, vI a1), (2, vI l2), (3, vL l3)] [vI s0, vR s1] W (fhd_isSection_268 t a1 l2 l3 s0 s1 W) en := by
  have h0 := h
  obtain ⟨hx, hm, hr, he⟩ := h0
  unfold fhd_isSection_268
  refine j_runA hx 4 (tb := [(268, .iload_n 2), (269, .bipush 32), (271, .iadd), (272, .i2l)]) (jtb_ok (by decide +kernel)) (pc' := 273) (lv' := [(0, vR t), (1, vI a1), (2, vI l2), (3, vL l3)]) (st' := [vL ((l2 + (kI 32)).toInt64), vI s0, vR s1]) rfl ?_
  refine j_gd (fun h53 => ?_)
  refine j_WI (j_callV (av := [vI s0, vL ((l2 + (kI 32)).toInt64)]) (st := []) hx hr (Or.inl q2818) q2820 qs124 rfl md_fhd_is np_fhd_is (chd_is s1 s0 ((l2 + (kI 32)).toInt64) W) (by decide) (Nat.le_of_ble_eq_true rfl) h53 (by decide) (by decide +kernel)) (fun q54 _ => ?_)
  refine j_if_ne hx (off := 5) (tgt := 281) (by decide +kernel) (by decide) (fun _ => ?_) (fun _ => ?_)
  · refine j_runA hx 1 (tb := [(281, .lload_n 3)]) (jtb_ok (by decide +kernel)) (pc' := 282) (lv' := [(0, vR t), (1, vI a1), (2, vI l2), (3, vL l3)]) (st' := [vL l3]) rfl ?_
    refine j_ldc2 hx (v := (kJ 3)) (jkd2 q2875 (by decide +kernel)) (by decide +kernel) ?_
    refine j_lcmp_ne hx (off := 121) (tgt := 407) (by decide +kernel) (by decide +kernel) (by decide) (fun _ => ?_) (fun _ => ?_)
    · refine j_runA hx 1 (tb := [(407, .lload_n 3)]) (jtb_ok (by decide +kernel)) (pc' := 408) (lv' := [(0, vR t), (1, vI a1), (2, vI l2), (3, vL l3)]) (st' := [vL l3]) rfl ?_
      refine j_ldc2 hx (v := (kJ 2)) (jkd2 q2831 (by decide +kernel)) (by decide +kernel) ?_
      refine j_lcmp_eq hx (off := 11) (tgt := 423) (by decide +kernel) (by decide +kernel) (by decide) (fun _ => ?_) (fun _ => ?_)
      · exact whd_isSection_423 h l2 l3 q54.2
      refine j_runA hx 1 (tb := [(415, .lload_n 3)]) (jtb_ok (by decide +kernel)) (pc' := 416) (lv' := [(0, vR t), (1, vI a1), (2, vI l2), (3, vL l3)]) (st' := [vL l3]) rfl ?_
      refine j_ldc2 hx (v := (kJ 4)) (jkd2 q2827 (by decide +kernel)) (by decide +kernel) ?_
      refine j_lcmp_ne hx (off := 77) (tgt := 497) (by decide +kernel) (by decide +kernel) (by decide) (fun _ => ?_) (fun _ => ?_)
      · refine j_runA hx 1 (tb := [(497, .iconst 1)]) (jtb_ok (by decide +kernel)) (pc' := 498) (lv' := [(0, vR t), (1, vI a1), (2, vI l2), (3, vL l3)]) (st' := [vI (kI 1)]) rfl ?_
        exact j_iret hx hm (by decide +kernel) jz1n (he _)
      exact whd_isSection_423 h l2 l3 q54.2
    refine j_runA hx 2 (tb := [(289, .aload_n 0), (290, .aload_n 0)]) (jtb_ok (by decide +kernel)) (pc' := 291) (lv' := [(0, vR t), (1, vI a1), (2, vI l2), (3, vL l3)]) (st' := [vR t, vR t]) rfl ?_
    refine j_gd (fun h56 => ?_)
    refine j_getR hx flX9_35 kl1414 h56 (by decide) (by decide +kernel) ?_
    refine j_runA hx 1 (tb := [(294, .iload_n 1)]) (jtb_ok (by decide +kernel)) (pc' := 295) (lv' := [(0, vR t), (1, vI a1), (2, vI l2), (3, vL l3)]) (st' := [vI a1, vR (jR q54.2 1414 t), vR t]) rfl ?_
    refine j_gd (fun h57 => ?_)
    refine j_lald hx (f := 1414) (o := t) kd1414 rfl (by decide +kernel) h57 ?_
    refine j_runA hx 1 (tb := [(296, .lconst 0)]) (jtb_ok (by decide +kernel)) (pc' := 297) (lv' := [(0, vR t), (1, vI a1), (2, vI l2), (3, vL l3)]) (st' := [vL (kJ 0), vL (jB q54.2 1414 t (ix a1)), vR t]) rfl ?_
    refine j_lcmp_le hx (off := 7) (tgt := 305) (by decide +kernel) (by decide +kernel) (by decide) (fun _ => ?_) (fun _ => ?_)
    · refine j_runA hx 1 (tb := [(305, .iconst 0)]) (jtb_ok (by decide +kernel)) (pc' := 306) (lv' := [(0, vR t), (1, vI a1), (2, vI l2), (3, vL l3)]) (st' := [vI (kI 0), vR t]) rfl ?_
      refine j_lv (lv' := [(0, vR t), (1, vI a1), (2, vI l2)]) ⟨rfl, rfl, rfl, trivial⟩ ?_
      exact whd_isSection_306 h l2 (kI 0) t q54.2
    refine j_runA hx 1 (tb := [(301, .iconst 1)]) (jtb_ok (by decide +kernel)) (pc' := 302) (lv' := [(0, vR t), (1, vI a1), (2, vI l2), (3, vL l3)]) (st' := [vI (kI 1), vR t]) rfl ?_
    refine j_goto hx (off := 4) (by decide +kernel) (tgt := 306) (by decide) ?_
    refine j_lv (lv' := [(0, vR t), (1, vI a1), (2, vI l2)]) ⟨rfl, rfl, rfl, trivial⟩ ?_
    exact whd_isSection_306 h l2 (kI 1) t q54.2
  refine j_lv (lv' := [(0, vR t), (1, vI a1)]) ⟨rfl, rfl, trivial⟩ ?_
  exact whd_isSection_279 h q54.2
theorem whd_isSection_230 {x : jCx} {en : (Int32 × jW) → Option (Outcome × jW)} {t : Nat} {a1 : Int32} (h : hhd_isSection x en t a1) (l2 : Int32) (l3 : Int64) (s0 : Int32) (s1 : Nat) (W : jW) : jJ x 7 230 [(0, vR t), (1, vI a1), (2, vI l2), (3, vL l3)] [vI s0, vR s1] W (fhd_isSection_230 t a1 l2 l3 s0 s1 W) en := by
  have h0 := h
  obtain ⟨hx, hm, hr, he⟩ := h0
  unfold fhd_isSection_230
  refine j_runA hx 4 (tb := [(230, .iload_n 2), (231, .bipush 24), (233, .iadd), (234, .i2l)]) (jtb_ok (by decide +kernel)) (pc' := 235) (lv' := [(0, vR t), (1, vI a1), (2, vI l2), (3, vL l3)]) (st' := [vL ((l2 + (kI 24)).toInt64), vI s0, vR s1]) rfl ?_
  refine j_gd (fun h46 => ?_)
  refine j_WI (j_callV (av := [vI s0, vL ((l2 + (kI 24)).toInt64)]) (st := []) hx hr (Or.inl q2818) q2820 qs124 rfl md_fhd_is np_fhd_is (chd_is s1 s0 ((l2 + (kI 24)).toInt64) W) (by decide) (Nat.le_of_ble_eq_true rfl) h46 (by decide) (by decide +kernel)) (fun q47 _ => ?_)
  refine j_if_eq hx (off := 41) (tgt := 279) (by decide +kernel) (by decide) (fun _ => ?_) (fun _ => ?_)
  · refine j_lv (lv' := [(0, vR t), (1, vI a1)]) ⟨rfl, rfl, trivial⟩ ?_
    exact whd_isSection_279 h q47.2
  refine j_runA hx 2 (tb := [(241, .aload_n 0), (242, .aload_n 0)]) (jtb_ok (by decide +kernel)) (pc' := 243) (lv' := [(0, vR t), (1, vI a1), (2, vI l2), (3, vL l3)]) (st' := [vR t, vR t]) rfl ?_
  refine j_gd (fun h49 => ?_)
  refine j_getR hx flX9_29 kl1412 h49 (by decide) (by decide +kernel) ?_
  refine j_runA hx 1 (tb := [(246, .iload_n 1)]) (jtb_ok (by decide +kernel)) (pc' := 247) (lv' := [(0, vR t), (1, vI a1), (2, vI l2), (3, vL l3)]) (st' := [vI a1, vR (jR q47.2 1412 t), vR t]) rfl ?_
  refine j_gd (fun h50 => ?_)
  refine j_lald hx (f := 1412) (o := t) kd1412 rfl (by decide +kernel) h50 ?_
  refine j_runA hx 1 (tb := [(248, .aload_n 0)]) (jtb_ok (by decide +kernel)) (pc' := 249) (lv' := [(0, vR t), (1, vI a1), (2, vI l2), (3, vL l3)]) (st' := [vR t, vL (jB q47.2 1412 t (ix a1)), vR t]) rfl ?_
  refine j_getR hx flX9_35 kl1414 h49 (by decide) (by decide +kernel) ?_
  refine j_runA hx 1 (tb := [(252, .iload_n 1)]) (jtb_ok (by decide +kernel)) (pc' := 253) (lv' := [(0, vR t), (1, vI a1), (2, vI l2), (3, vL l3)]) (st' := [vI a1, vR (jR q47.2 1414 t), vL (jB q47.2 1412 t (ix a1)), vR t]) rfl ?_
  refine j_gd (fun h51 => ?_)
  refine j_lald hx (f := 1414) (o := t) kd1414 rfl (by decide +kernel) h51 ?_
  refine j_runA hx 2 (tb := [(254, .ladd), (255, .aload_n 0)]) (jtb_ok (by decide +kernel)) (pc' := 256) (lv' := [(0, vR t), (1, vI a1), (2, vI l2), (3, vL l3)]) (st' := [vR t, vL ((jB q47.2 1412 t (ix a1)) + (jB q47.2 1414 t (ix a1))), vR t]) rfl ?_
  refine j_getL hx flX9_141 kd1405 h49 (by decide) (by decide +kernel) ?_
  refine j_lcmp_gt hx (off := 7) (tgt := 267) (by decide +kernel) (by decide +kernel) (by decide) (fun _ => ?_) (fun _ => ?_)
  · refine j_runA hx 1 (tb := [(267, .iconst 0)]) (jtb_ok (by decide +kernel)) (pc' := 268) (lv' := [(0, vR t), (1, vI a1), (2, vI l2), (3, vL l3)]) (st' := [vI (kI 0), vR t]) rfl ?_
    exact whd_isSection_268 h l2 l3 (kI 0) t q47.2
  refine j_runA hx 1 (tb := [(263, .iconst 1)]) (jtb_ok (by decide +kernel)) (pc' := 264) (lv' := [(0, vR t), (1, vI a1), (2, vI l2), (3, vL l3)]) (st' := [vI (kI 1), vR t]) rfl ?_
  refine j_goto hx (off := 4) (by decide +kernel) (tgt := 268) (by decide) ?_
  exact whd_isSection_268 h l2 l3 (kI 1) t q47.2
theorem whd_isSection_122 {x : jCx} {en : (Int32 × jW) → Option (Outcome × jW)} {t : Nat} {a1 : Int32} (h : hhd_isSection x en t a1) (l2 : Int32) (l3 : Int64) (l5 : Int64) (s0 : Int32) (s1 : Nat) (W : jW) : jJ x 7 122 [(0, vR t), (1, vI a1), (2, vI l2), (3, vL l3), (5, vL l5)] [vI s0, vR s1] W (fhd_isSection_122 t a1 l2 l3 l5 s0 s1 W) en := by
  have h0 := h
  obtain ⟨hx, hm, hr, he⟩ := h0
  unfold fhd_isSection_122
  refine j_runA hx 4 (tb := [(122, .iload_n 2), (123, .bipush 8), (125, .iadd), (126, .i2l)]) (jtb_ok (by decide +kernel)) (pc' := 127) (lv' := [(0, vR t), (1, vI a1), (2, vI l2), (3, vL l3), (5, vL l5)]) (st' := [vL ((l2 + (kI 8)).toInt64), vI s0, vR s1]) rfl ?_
  refine j_gd (fun h12 => ?_)
  refine j_WI (j_callV (av := [vI s0, vL ((l2 + (kI 8)).toInt64)]) (st := []) hx hr (Or.inl q2818) q2820 qs124 rfl md_fhd_is np_fhd_is (chd_is s1 s0 ((l2 + (kI 8)).toInt64) W) (by decide) (Nat.le_of_ble_eq_true rfl) h12 (by decide) (by decide +kernel)) (fun q13 _ => ?_)
  refine j_if_ne hx (off := 5) (tgt := 135) (by decide +kernel) (by decide) (fun _ => ?_) (fun _ => ?_)
  · refine j_runA hx 1 (tb := [(135, .aload_n 0)]) (jtb_ok (by decide +kernel)) (pc' := 136) (lv' := [(0, vR t), (1, vI a1), (2, vI l2), (3, vL l3), (5, vL l5)]) (st' := [vR t]) rfl ?_
    refine j_gd (fun h15 => ?_)
    refine j_getR hx flX9_23 kl1410 h15 (by decide) (by decide +kernel) ?_
    refine j_runA hx 3 (tb := [(139, .iload_n 1), (140, .lload_n 3), (141, .l2i)]) (jtb_ok (by decide +kernel)) (pc' := 142) (lv' := [(0, vR t), (1, vI a1), (2, vI l2), (3, vL l3), (5, vL l5)]) (st' := [vI l3.toInt32, vI a1, vR (jR q13.2 1410 t)]) rfl ?_
    refine j_gd (fun h16 => ?_)
    refine j_iast hx (f := 1410) (o := t) kd1410 rfl (by decide +kernel) h16 ?_
    refine j_ltw rfl (fun W17 hc18 => ?_)
    have h19 : jC W17 t = 14 := (congrFun hc18 _).trans h15
    refine j_runA hx 1 (tb := [(143, .aload_n 0)]) (jtb_ok (by decide +kernel)) (pc' := 144) (lv' := [(0, vR t), (1, vI a1), (2, vI l2), (3, vL l3), (5, vL l5)]) (st' := [vR t]) rfl ?_
    refine j_getR hx flX9_26 kl1411 h19 (by decide) (by decide +kernel) ?_
    refine j_runA hx 3 (tb := [(147, .iload_n 1), (148, .lload 5), (150, .l2i)]) (jtb_ok (by decide +kernel)) (pc' := 151) (lv' := [(0, vR t), (1, vI a1), (2, vI l2), (3, vL l3), (5, vL l5)]) (st' := [vI l5.toInt32, vI a1, vR (jR W17 1411 t)]) rfl ?_
    refine j_gd (fun h21 => ?_)
    refine j_iast hx (f := 1411) (o := t) kd1411 rfl (by decide +kernel) h21 ?_
    refine j_ltw rfl (fun W22 hc23 => ?_)
    have h24 : jC W22 t = 14 := (congrFun hc23 _).trans h19
    refine j_runA hx 1 (tb := [(152, .aload_n 0)]) (jtb_ok (by decide +kernel)) (pc' := 153) (lv' := [(0, vR t), (1, vI a1), (2, vI l2), (3, vL l3), (5, vL l5)]) (st' := [vR t]) rfl ?_
    refine j_getR hx flX9_32 kl1413 h24 (by decide) (by decide +kernel) ?_
    refine j_runA hx 7 (tb := [(156, .iload_n 1), (157, .aload_n 0), (158, .iload_n 2), (159, .bipush 16), (161, .iadd), (162, .i2l), (163, .bipush 8)]) (jtb_ok (by decide +kernel)) (pc' := 165) (lv' := [(0, vR t), (1, vI a1), (2, vI l2), (3, vL l3), (5, vL l5)]) (st' := [vI (kI 8), vL ((l2 + (kI 16)).toInt64), vR t, vI a1, vR (jR W22 1413 t)]) rfl ?_
    refine j_OL (j_callV (av := [vL ((l2 + (kI 16)).toInt64), vI (kI 8)]) (st := [vI a1, vR (jR W22 1413 t)]) hx hr (Or.inl q2849) q2850 q2851 rfl md_fhd_big np_fhd_big (chd_big t ((l2 + (kI 16)).toInt64) (kI 8) W22) (by decide) (Nat.le_of_ble_eq_true rfl) h24 (by decide) (by decide +kernel)) (fun q26 _ => ?_)
    refine j_gd (fun h27 => ?_)
    refine j_last hx (f := 1413) (o := t) kd1413 rfl (by decide +kernel) h27 ?_
    refine j_ltw rfl (fun W28 hc29 => ?_)
    have h30 : jC W28 t = 14 := (congrFun hc29 _).trans h24
    refine j_runA hx 1 (tb := [(169, .aload_n 0)]) (jtb_ok (by decide +kernel)) (pc' := 170) (lv' := [(0, vR t), (1, vI a1), (2, vI l2), (3, vL l3), (5, vL l5)]) (st' := [vR t]) rfl ?_
    refine j_getR hx flX9_29 kl1412 h30 (by decide) (by decide +kernel) ?_
    refine j_runA hx 7 (tb := [(173, .iload_n 1), (174, .aload_n 0), (175, .iload_n 2), (176, .bipush 24), (178, .iadd), (179, .i2l), (180, .bipush 8)]) (jtb_ok (by decide +kernel)) (pc' := 182) (lv' := [(0, vR t), (1, vI a1), (2, vI l2), (3, vL l3), (5, vL l5)]) (st' := [vI (kI 8), vL ((l2 + (kI 24)).toInt64), vR t, vI a1, vR (jR W28 1412 t)]) rfl ?_
    refine j_OL (j_callV (av := [vL ((l2 + (kI 24)).toInt64), vI (kI 8)]) (st := [vI a1, vR (jR W28 1412 t)]) hx hr (Or.inl q2849) q2850 q2851 rfl md_fhd_big np_fhd_big (chd_big t ((l2 + (kI 24)).toInt64) (kI 8) W28) (by decide) (Nat.le_of_ble_eq_true rfl) h30 (by decide) (by decide +kernel)) (fun q32 _ => ?_)
    refine j_gd (fun h33 => ?_)
    refine j_last hx (f := 1412) (o := t) kd1412 rfl (by decide +kernel) h33 ?_
    refine j_ltw rfl (fun W34 hc35 => ?_)
    have h36 : jC W34 t = 14 := (congrFun hc35 _).trans h30
    refine j_runA hx 1 (tb := [(186, .aload_n 0)]) (jtb_ok (by decide +kernel)) (pc' := 187) (lv' := [(0, vR t), (1, vI a1), (2, vI l2), (3, vL l3), (5, vL l5)]) (st' := [vR t]) rfl ?_
    refine j_getR hx flX9_35 kl1414 h36 (by decide) (by decide +kernel) ?_
    refine j_runA hx 7 (tb := [(190, .iload_n 1), (191, .aload_n 0), (192, .iload_n 2), (193, .bipush 32), (195, .iadd), (196, .i2l), (197, .bipush 8)]) (jtb_ok (by decide +kernel)) (pc' := 199) (lv' := [(0, vR t), (1, vI a1), (2, vI l2), (3, vL l3), (5, vL l5)]) (st' := [vI (kI 8), vL ((l2 + (kI 32)).toInt64), vR t, vI a1, vR (jR W34 1414 t)]) rfl ?_
    refine j_OL (j_callV (av := [vL ((l2 + (kI 32)).toInt64), vI (kI 8)]) (st := [vI a1, vR (jR W34 1414 t)]) hx hr (Or.inl q2849) q2850 q2851 rfl md_fhd_big np_fhd_big (chd_big t ((l2 + (kI 32)).toInt64) (kI 8) W34) (by decide) (Nat.le_of_ble_eq_true rfl) h36 (by decide) (by decide +kernel)) (fun q38 _ => ?_)
    refine j_gd (fun h39 => ?_)
    refine j_last hx (f := 1414) (o := t) kd1414 rfl (by decide +kernel) h39 ?_
    refine j_ltw rfl (fun W40 hc41 => ?_)
    have h42 : jC W40 t = 14 := (congrFun hc41 _).trans h36
    refine j_runA hx 2 (tb := [(203, .aload_n 0), (204, .aload_n 0)]) (jtb_ok (by decide +kernel)) (pc' := 205) (lv' := [(0, vR t), (1, vI a1), (2, vI l2), (3, vL l3), (5, vL l5)]) (st' := [vR t, vR t]) rfl ?_
    refine j_getR hx flX9_29 kl1412 h42 (by decide) (by decide +kernel) ?_
    refine j_runA hx 1 (tb := [(208, .iload_n 1)]) (jtb_ok (by decide +kernel)) (pc' := 209) (lv' := [(0, vR t), (1, vI a1), (2, vI l2), (3, vL l3), (5, vL l5)]) (st' := [vI a1, vR (jR W40 1412 t), vR t]) rfl ?_
    refine j_gd (fun h44 => ?_)
    refine j_lald hx (f := 1412) (o := t) kd1412 rfl (by decide +kernel) h44 ?_
    refine j_runA hx 3 (tb := [(210, .bipush 64), (212, .bipush 56), (214, .aload_n 0)]) (jtb_ok (by decide +kernel)) (pc' := 215) (lv' := [(0, vR t), (1, vI a1), (2, vI l2), (3, vL l3), (5, vL l5)]) (st' := [vR t, vI (kI 56), vI (kI 64), vL (jB W40 1412 t (ix a1)), vR t]) rfl ?_
    refine j_getI hx flX9_121 kd1402 h42 (by decide) (by decide +kernel) ?_
    refine j_runA hx 3 (tb := [(218, .imul), (219, .iadd), (220, .i2l)]) (jtb_ok (by decide +kernel)) (pc' := 221) (lv' := [(0, vR t), (1, vI a1), (2, vI l2), (3, vL l3), (5, vL l5)]) (st' := [vL (((kI 64) + ((kI 56) * (jI W40 1402 t))).toInt64), vL (jB W40 1412 t (ix a1)), vR t]) rfl ?_
    refine j_lcmp_lt hx (off := 7) (tgt := 229) (by decide +kernel) (by decide +kernel) (by decide) (fun _ => ?_) (fun _ => ?_)
    · refine j_runA hx 1 (tb := [(229, .iconst 0)]) (jtb_ok (by decide +kernel)) (pc' := 230) (lv' := [(0, vR t), (1, vI a1), (2, vI l2), (3, vL l3), (5, vL l5)]) (st' := [vI (kI 0), vR t]) rfl ?_
      refine j_lv (lv' := [(0, vR t), (1, vI a1), (2, vI l2), (3, vL l3)]) ⟨rfl, rfl, rfl, rfl, trivial⟩ ?_
      exact whd_isSection_230 h l2 l3 (kI 0) t W40
    refine j_runA hx 1 (tb := [(225, .iconst 1)]) (jtb_ok (by decide +kernel)) (pc' := 226) (lv' := [(0, vR t), (1, vI a1), (2, vI l2), (3, vL l3), (5, vL l5)]) (st' := [vI (kI 1), vR t]) rfl ?_
    refine j_goto hx (off := 4) (by decide +kernel) (tgt := 230) (by decide) ?_
    refine j_lv (lv' := [(0, vR t), (1, vI a1), (2, vI l2), (3, vL l3)]) ⟨rfl, rfl, rfl, rfl, trivial⟩ ?_
    exact whd_isSection_230 h l2 l3 (kI 1) t W40
  refine j_runA hx 1 (tb := [(133, .iconst 0)]) (jtb_ok (by decide +kernel)) (pc' := 134) (lv' := [(0, vR t), (1, vI a1), (2, vI l2), (3, vL l3), (5, vL l5)]) (st' := [vI (kI 0)]) rfl ?_
  exact j_iret hx hm (by decide +kernel) jz0n (he _)
theorem whd_isSection_102 {x : jCx} {en : (Int32 × jW) → Option (Outcome × jW)} {t : Nat} {a1 : Int32} (h : hhd_isSection x en t a1) (l2 : Int32) (l3 : Int64) (l5 : Int64) (s0 : Nat) (W : jW) : jJ x 7 102 [(0, vR t), (1, vI a1), (2, vI l2), (3, vL l3), (5, vL l5)] [vR s0] W (fhd_isSection_102 t a1 l2 l3 l5 s0 W) en := by
  have h0 := h
  obtain ⟨hx, hm, hr, he⟩ := h0
  unfold fhd_isSection_102
  refine j_runA hx 1 (tb := [(102, .iconst 1)]) (jtb_ok (by decide +kernel)) (pc' := 103) (lv' := [(0, vR t), (1, vI a1), (2, vI l2), (3, vL l3), (5, vL l5)]) (st' := [vI (kI 1), vR s0]) rfl ?_
  refine j_goto hx (off := 19) (by decide +kernel) (tgt := 122) (by decide) ?_
  exact whd_isSection_122 h l2 l3 l5 (kI 1) s0 W
theorem whd_isSection_36 {x : jCx} {en : (Int32 × jW) → Option (Outcome × jW)} {t : Nat} {a1 : Int32} (h : hhd_isSection x en t a1) (l2 : Int32) (l3 : Int64) (s0 : Int32) (s1 : Nat) (W : jW) : jJ x 7 36 [(0, vR t), (1, vI a1), (2, vI l2), (3, vL l3)] [vI s0, vR s1] W (fhd_isSection_36 t a1 l2 l3 s0 s1 W) en := by
  have h0 := h
  obtain ⟨hx, hm, hr, he⟩ := h0
  unfold fhd_isSection_36
  refine j_runA hx 4 (tb := [(36, .iload_n 2), (37, .iconst 4), (38, .iadd), (39, .i2l)]) (jtb_ok (by decide +kernel)) (pc' := 40) (lv' := [(0, vR t), (1, vI a1), (2, vI l2), (3, vL l3)]) (st' := [vL ((l2 + (kI 4)).toInt64), vI s0, vR s1]) rfl ?_
  refine j_gd (fun h5 => ?_)
  refine j_WI (j_callV (av := [vI s0, vL ((l2 + (kI 4)).toInt64)]) (st := []) hx hr (Or.inl q2818) q2820 qs124 rfl md_fhd_is np_fhd_is (chd_is s1 s0 ((l2 + (kI 4)).toInt64) W) (by decide) (Nat.le_of_ble_eq_true rfl) h5 (by decide) (by decide +kernel)) (fun q6 _ => ?_)
  refine j_if_ne hx (off := 5) (tgt := 48) (by decide +kernel) (by decide) (fun _ => ?_) (fun _ => ?_)
  · refine j_runA hx 6 (tb := [(48, .aload_n 0), (49, .iload_n 2), (50, .bipush 8), (52, .iadd), (53, .i2l), (54, .bipush 8)]) (jtb_ok (by decide +kernel)) (pc' := 56) (lv' := [(0, vR t), (1, vI a1), (2, vI l2), (3, vL l3)]) (st' := [vI (kI 8), vL ((l2 + (kI 8)).toInt64), vR t]) rfl ?_
    refine j_gd (fun h8 => ?_)
    refine j_OL (j_callV (av := [vL ((l2 + (kI 8)).toInt64), vI (kI 8)]) (st := []) hx hr (Or.inl q2822) q2823 q2824 rfl md_fhd_num np_fhd_num (chd_num t ((l2 + (kI 8)).toInt64) (kI 8) q6.2) (by decide) (Nat.le_of_ble_eq_true rfl) h8 (by decide) (by decide +kernel)) (fun q9 _ => ?_)
    refine j_runA hx 4 (tb := [(59, .lstore 5), (61, .aload_n 0), (62, .lload_n 3), (63, .lconst 1)]) (jtb_ok (by decide +kernel)) (pc' := 64) (lv' := [(5, vL q9), (0, vR t), (1, vI a1), (2, vI l2), (3, vL l3)]) (st' := [vL (kJ 1), vL l3, vR t]) rfl ?_
    refine j_lcmp_ne hx (off := 45) (tgt := 110) (by decide +kernel) (by decide +kernel) (by decide) (fun _ => ?_) (fun _ => ?_)
    · refine j_runA hx 2 (tb := [(110, .lload 5), (112, .lconst 0)]) (jtb_ok (by decide +kernel)) (pc' := 113) (lv' := [(5, vL q9), (0, vR t), (1, vI a1), (2, vI l2), (3, vL l3)]) (st' := [vL (kJ 0), vL q9, vR t]) rfl ?_
      refine j_lcmp_ne hx (off := 7) (tgt := 121) (by decide +kernel) (by decide +kernel) (by decide) (fun _ => ?_) (fun _ => ?_)
      · refine j_runA hx 1 (tb := [(121, .iconst 0)]) (jtb_ok (by decide +kernel)) (pc' := 122) (lv' := [(5, vL q9), (0, vR t), (1, vI a1), (2, vI l2), (3, vL l3)]) (st' := [vI (kI 0), vR t]) rfl ?_
        refine j_lv (lv' := [(0, vR t), (1, vI a1), (2, vI l2), (3, vL l3), (5, vL q9)]) ⟨rfl, rfl, rfl, rfl, rfl, trivial⟩ ?_
        exact whd_isSection_122 h l2 l3 q9 (kI 0) t q6.2
      refine j_runA hx 1 (tb := [(117, .iconst 1)]) (jtb_ok (by decide +kernel)) (pc' := 118) (lv' := [(5, vL q9), (0, vR t), (1, vI a1), (2, vI l2), (3, vL l3)]) (st' := [vI (kI 1), vR t]) rfl ?_
      refine j_goto hx (off := 4) (by decide +kernel) (tgt := 122) (by decide) ?_
      refine j_lv (lv' := [(0, vR t), (1, vI a1), (2, vI l2), (3, vL l3), (5, vL q9)]) ⟨rfl, rfl, rfl, rfl, rfl, trivial⟩ ?_
      exact whd_isSection_122 h l2 l3 q9 (kI 1) t q6.2
    refine j_runA hx 1 (tb := [(68, .lload 5)]) (jtb_ok (by decide +kernel)) (pc' := 70) (lv' := [(5, vL q9), (0, vR t), (1, vI a1), (2, vI l2), (3, vL l3)]) (st' := [vL q9, vR t]) rfl ?_
    refine j_ldc2 hx (v := (kJ 6)) (jkd2 q2874 (by decide +kernel)) (by decide +kernel) ?_
    refine j_lcmp_eq hx (off := 28) (tgt := 102) (by decide +kernel) (by decide +kernel) (by decide) (fun _ => ?_) (fun _ => ?_)
    · refine j_lv (lv' := [(0, vR t), (1, vI a1), (2, vI l2), (3, vL l3), (5, vL q9)]) ⟨rfl, rfl, rfl, rfl, rfl, trivial⟩ ?_
      exact whd_isSection_102 h l2 l3 q9 t q6.2
    refine j_runA hx 1 (tb := [(77, .lload 5)]) (jtb_ok (by decide +kernel)) (pc' := 79) (lv' := [(5, vL q9), (0, vR t), (1, vI a1), (2, vI l2), (3, vL l3)]) (st' := [vL q9, vR t]) rfl ?_
    refine j_ldc2 hx (v := (kJ 2)) (jkd2 q2831 (by decide +kernel)) (by decide +kernel) ?_
    refine j_lcmp_eq hx (off := 19) (tgt := 102) (by decide +kernel) (by decide +kernel) (by decide) (fun _ => ?_) (fun _ => ?_)
    · refine j_lv (lv' := [(0, vR t), (1, vI a1), (2, vI l2), (3, vL l3), (5, vL q9)]) ⟨rfl, rfl, rfl, rfl, rfl, trivial⟩ ?_
      exact whd_isSection_102 h l2 l3 q9 t q6.2
    refine j_runA hx 1 (tb := [(86, .lload 5)]) (jtb_ok (by decide +kernel)) (pc' := 88) (lv' := [(5, vL q9), (0, vR t), (1, vI a1), (2, vI l2), (3, vL l3)]) (st' := [vL q9, vR t]) rfl ?_
    refine j_ldc2 hx (v := (kJ 3)) (jkd2 q2875 (by decide +kernel)) (by decide +kernel) ?_
    refine j_lcmp_eq hx (off := 10) (tgt := 102) (by decide +kernel) (by decide +kernel) (by decide) (fun _ => ?_) (fun _ => ?_)
    · refine j_lv (lv' := [(0, vR t), (1, vI a1), (2, vI l2), (3, vL l3), (5, vL q9)]) ⟨rfl, rfl, rfl, rfl, rfl, trivial⟩ ?_
      exact whd_isSection_102 h l2 l3 q9 t q6.2
    refine j_runA hx 2 (tb := [(95, .lload 5), (97, .lconst 0)]) (jtb_ok (by decide +kernel)) (pc' := 98) (lv' := [(5, vL q9), (0, vR t), (1, vI a1), (2, vI l2), (3, vL l3)]) (st' := [vL (kJ 0), vL q9, vR t]) rfl ?_
    refine j_lcmp_ne hx (off := 7) (tgt := 106) (by decide +kernel) (by decide +kernel) (by decide) (fun _ => ?_) (fun _ => ?_)
    · refine j_runA hx 1 (tb := [(106, .iconst 0)]) (jtb_ok (by decide +kernel)) (pc' := 107) (lv' := [(5, vL q9), (0, vR t), (1, vI a1), (2, vI l2), (3, vL l3)]) (st' := [vI (kI 0), vR t]) rfl ?_
      refine j_goto hx (off := 15) (by decide +kernel) (tgt := 122) (by decide) ?_
      refine j_lv (lv' := [(0, vR t), (1, vI a1), (2, vI l2), (3, vL l3), (5, vL q9)]) ⟨rfl, rfl, rfl, rfl, rfl, trivial⟩ ?_
      exact whd_isSection_122 h l2 l3 q9 (kI 0) t q6.2
    refine j_lv (lv' := [(0, vR t), (1, vI a1), (2, vI l2), (3, vL l3), (5, vL q9)]) ⟨rfl, rfl, rfl, rfl, rfl, trivial⟩ ?_
    exact whd_isSection_102 h l2 l3 q9 t q6.2
  refine j_runA hx 1 (tb := [(46, .iconst 0)]) (jtb_ok (by decide +kernel)) (pc' := 47) (lv' := [(0, vR t), (1, vI a1), (2, vI l2), (3, vL l3)]) (st' := [vI (kI 0)]) rfl ?_
  exact j_iret hx hm (by decide +kernel) jz0n (he _)
theorem whd_isSection_35 {x : jCx} {en : (Int32 × jW) → Option (Outcome × jW)} {t : Nat} {a1 : Int32} (h : hhd_isSection x en t a1) (l2 : Int32) (l3 : Int64) (s0 : Nat) (W : jW) : jJ x 7 35 [(0, vR t), (1, vI a1), (2, vI l2), (3, vL l3)] [vR s0] W (fhd_isSection_35 t a1 l2 l3 s0 W) en := by
  have h0 := h
  obtain ⟨hx, hm, hr, he⟩ := h0
  unfold fhd_isSection_35
  refine j_runA hx 1 (tb := [(35, .iconst 0)]) (jtb_ok (by decide +kernel)) (pc' := 36) (lv' := [(0, vR t), (1, vI a1), (2, vI l2), (3, vL l3)]) (st' := [vI (kI 0), vR s0]) rfl ?_
  exact whd_isSection_36 h l2 l3 (kI 0) s0 W
theorem whd_isSection {x : jCx} {en : (Int32 × jW) → Option (Outcome × jW)} {t : Nat} {a1 : Int32} (h : hhd_isSection x en t a1) (W : jW) : jJ x 7 0 [(0, vR t), (1, vI a1)] [] W (fhd_isSection t a1 W) en := by
  have h0 := h
  obtain ⟨hx, hm, hr, he⟩ := h0
  unfold fhd_isSection
  refine j_runA hx 2 (tb := [(0, .aload_n 0), (1, .iload_n 1)]) (jtb_ok (by decide +kernel)) (pc' := 2) (lv' := [(0, vR t), (1, vI a1)]) (st' := [vI a1, vR t]) rfl ?_
  refine j_gd (fun h1 => ?_)
  refine j_OI (j_callV (av := [vI a1]) (st := []) hx hr (Or.inl q2870) q2872 qs129 rfl md_fhd_head np_fhd_head (chd_head t a1 W) (by decide) (Nat.le_of_ble_eq_true rfl) h1 (by decide) (by decide +kernel)) (fun q2 _ => ?_)
  refine j_runA hx 7 (tb := [(5, .istore_n 2), (6, .aload_n 0), (7, .iload_n 2), (8, .iconst 4), (9, .iadd), (10, .i2l), (11, .iconst 4)]) (jtb_ok (by decide +kernel)) (pc' := 12) (lv' := [(2, vI q2), (0, vR t), (1, vI a1)]) (st' := [vI (kI 4), vL ((q2 + (kI 4)).toInt64), vR t]) rfl ?_
  refine j_OL (j_callV (av := [vL ((q2 + (kI 4)).toInt64), vI (kI 4)]) (st := []) hx hr (Or.inl q2822) q2823 q2824 rfl md_fhd_num np_fhd_num (chd_num t ((q2 + (kI 4)).toInt64) (kI 4) W) (by decide) (Nat.le_of_ble_eq_true rfl) h1 (by decide) (by decide +kernel)) (fun q3 _ => ?_)
  refine j_runA hx 4 (tb := [(15, .lstore_n 3), (16, .aload_n 0), (17, .lload_n 3), (18, .lconst 1)]) (jtb_ok (by decide +kernel)) (pc' := 19) (lv' := [(3, vL q3), (2, vI q2), (0, vR t), (1, vI a1)]) (st' := [vL (kJ 1), vL q3, vR t]) rfl ?_
  refine j_lcmp_lt hx (off := 15) (tgt := 35) (by decide +kernel) (by decide +kernel) (by decide) (fun _ => ?_) (fun _ => ?_)
  · refine j_lv (lv' := [(0, vR t), (1, vI a1), (2, vI q2), (3, vL q3)]) ⟨rfl, rfl, rfl, rfl, trivial⟩ ?_
    exact whd_isSection_35 h q2 q3 t W
  refine j_runA hx 1 (tb := [(23, .lload_n 3)]) (jtb_ok (by decide +kernel)) (pc' := 24) (lv' := [(3, vL q3), (2, vI q2), (0, vR t), (1, vI a1)]) (st' := [vL q3, vR t]) rfl ?_
  refine j_ldc2 hx (v := (kJ 4)) (jkd2 q2827 (by decide +kernel)) (by decide +kernel) ?_
  refine j_lcmp_gt hx (off := 7) (tgt := 35) (by decide +kernel) (by decide +kernel) (by decide) (fun _ => ?_) (fun _ => ?_)
  · refine j_lv (lv' := [(0, vR t), (1, vI a1), (2, vI q2), (3, vL q3)]) ⟨rfl, rfl, rfl, rfl, trivial⟩ ?_
    exact whd_isSection_35 h q2 q3 t W
  refine j_runA hx 1 (tb := [(31, .iconst 1)]) (jtb_ok (by decide +kernel)) (pc' := 32) (lv' := [(3, vL q3), (2, vI q2), (0, vR t), (1, vI a1)]) (st' := [vI (kI 1), vR t]) rfl ?_
  refine j_goto hx (off := 4) (by decide +kernel) (tgt := 36) (by decide) ?_
  refine j_lv (lv' := [(0, vR t), (1, vI a1), (2, vI q2), (3, vL q3)]) ⟨rfl, rfl, rfl, rfl, trivial⟩ ?_
  exact whd_isSection_36 h q2 q3 (kI 1) t W
theorem chd_isSection (t : Nat) (a1 : Int32) (W : jW) : jM yX9_isSection cX9_isSection 7 (Option.some Jvm.ClassFile.FieldType.boolean) [] 2 37 [vR t, vI a1] W ((fhd_isSection t a1 W).bind (fun q => some (.returned (some (.int q.1)), q.2))) := 
  jM.of (Nat.le_of_ble_eq_true rfl) (fun x hx hm hr => whd_isSection ⟨hx, hm, hr, fun _ => rfl⟩ W)
def hhd_isInSegment (x : jCx) (en : (fhd_isInSegment_S ⊕ (Int32)) → Option (Outcome × jW)) (t : Nat) (a1 : Int32) (W : jW) : Prop :=
  jOK x RX9 cX9_isInSegment 3 ∧
  jMt x "isInSegment" (Option.some Jvm.ClassFile.FieldType.boolean) [] ∧
  jRm x 0 0 ∧
  (∀ q : Int32, en (.inr q) = some (.returned (some (.int q)), W)) ∧
  (∀ (l2 : Int32), jJ x 3 2 [(0, vR t), (1, vI a1), (2, vI l2)] [] W (some (.inl l2)) en)
theorem whd_isInSegment_116 {x : jCx} {en : (fhd_isInSegment_S ⊕ (Int32)) → Option (Outcome × jW)} {W : jW} {t : Nat} {a1 : Int32} (h : hhd_isInSegment x en t a1 W) (l2 : Int32) : jJ x 3 116 [(0, vR t), (1, vI a1), (2, vI l2)] [] W (fhd_isInSegment_116 t a1 l2 W) en := by
  have h0 := h
  obtain ⟨hx, hm, hr, he, k2⟩ := h0
  unfold fhd_isInSegment_116
  refine j_runA hx 1 (tb := [(116, .iinc 2 1)]) (jtb_ok (by decide +kernel)) (pc' := 119) (lv' := [(2, vI (l2 + (kI 1))), (0, vR t), (1, vI a1)]) (st' := []) rfl ?_
  refine j_let (v := (l2 + (kI 1))) (lv := fun v6 => [(2, vI v6), (0, vR t), (1, vI a1)]) (st := fun _ => []) (fun v6 => ?_)
  refine j_goto hx (off := -117) (by decide +kernel) (tgt := 2) (by decide) ?_
  refine j_lv (lv' := [(0, vR t), (1, vI a1), (2, vI v6)]) ⟨rfl, rfl, rfl, trivial⟩ ?_
  exact k2 v6
theorem whd_isInSegment_36 {x : jCx} {en : (fhd_isInSegment_S ⊕ (Int32)) → Option (Outcome × jW)} {W : jW} {t : Nat} {a1 : Int32} (h : hhd_isInSegment x en t a1 W) (l2 : Int32) : jJ x 3 36 [(0, vR t), (1, vI a1), (2, vI l2)] [] W (fhd_isInSegment_36 t a1 l2 W) en := by
  have h0 := h
  obtain ⟨hx, hm, hr, he, k2⟩ := h0
  unfold fhd_isInSegment_36
  refine j_runA hx 1 (tb := [(36, .aload_n 0)]) (jtb_ok (by decide +kernel)) (pc' := 37) (lv' := [(0, vR t), (1, vI a1), (2, vI l2)]) (st' := [vR t]) rfl ?_
  refine j_gd (fun h8 => ?_)
  refine j_getR hx flX9_32 kl1413 h8 (by decide) (by decide +kernel) ?_
  refine j_runA hx 1 (tb := [(40, .iload_n 1)]) (jtb_ok (by decide +kernel)) (pc' := 41) (lv' := [(0, vR t), (1, vI a1), (2, vI l2)]) (st' := [vI a1, vR (jR W 1413 t)]) rfl ?_
  refine j_gd (fun h9 => ?_)
  refine j_lald hx (f := 1413) (o := t) kd1413 rfl (by decide +kernel) h9 ?_
  refine j_runA hx 1 (tb := [(42, .aload_n 0)]) (jtb_ok (by decide +kernel)) (pc' := 43) (lv' := [(0, vR t), (1, vI a1), (2, vI l2)]) (st' := [vR t, vL (jB W 1413 t (ix a1))]) rfl ?_
  refine j_getR hx flX9_16 kl1408 h8 (by decide) (by decide +kernel) ?_
  refine j_runA hx 1 (tb := [(46, .iload_n 2)]) (jtb_ok (by decide +kernel)) (pc' := 47) (lv' := [(0, vR t), (1, vI a1), (2, vI l2)]) (st' := [vI l2, vR (jR W 1408 t), vL (jB W 1413 t (ix a1))]) rfl ?_
  refine j_gd (fun h10 => ?_)
  refine j_lald hx (f := 1408) (o := t) kd1408 rfl (by decide +kernel) h10 ?_
  refine j_lcmp_lt hx (off := 67) (tgt := 116) (by decide +kernel) (by decide +kernel) (by decide) (fun _ => ?_) (fun _ => ?_)
  · exact whd_isInSegment_116 h l2
  refine j_runA hx 1 (tb := [(52, .aload_n 0)]) (jtb_ok (by decide +kernel)) (pc' := 53) (lv' := [(0, vR t), (1, vI a1), (2, vI l2)]) (st' := [vR t]) rfl ?_
  refine j_getR hx flX9_32 kl1413 h8 (by decide) (by decide +kernel) ?_
  refine j_runA hx 1 (tb := [(56, .iload_n 1)]) (jtb_ok (by decide +kernel)) (pc' := 57) (lv' := [(0, vR t), (1, vI a1), (2, vI l2)]) (st' := [vI a1, vR (jR W 1413 t)]) rfl ?_
  refine j_gd (fun h11 => ?_)
  refine j_lald hx (f := 1413) (o := t) kd1413 rfl (by decide +kernel) h11 ?_
  refine j_runA hx 1 (tb := [(58, .aload_n 0)]) (jtb_ok (by decide +kernel)) (pc' := 59) (lv' := [(0, vR t), (1, vI a1), (2, vI l2)]) (st' := [vR t, vL (jB W 1413 t (ix a1))]) rfl ?_
  refine j_getR hx flX9_35 kl1414 h8 (by decide) (by decide +kernel) ?_
  refine j_runA hx 1 (tb := [(62, .iload_n 1)]) (jtb_ok (by decide +kernel)) (pc' := 63) (lv' := [(0, vR t), (1, vI a1), (2, vI l2)]) (st' := [vI a1, vR (jR W 1414 t), vL (jB W 1413 t (ix a1))]) rfl ?_
  refine j_gd (fun h12 => ?_)
  refine j_lald hx (f := 1414) (o := t) kd1414 rfl (by decide +kernel) h12 ?_
  refine j_runA hx 2 (tb := [(64, .ladd), (65, .aload_n 0)]) (jtb_ok (by decide +kernel)) (pc' := 66) (lv' := [(0, vR t), (1, vI a1), (2, vI l2)]) (st' := [vR t, vL ((jB W 1413 t (ix a1)) + (jB W 1414 t (ix a1)))]) rfl ?_
  refine j_getR hx flX9_16 kl1408 h8 (by decide) (by decide +kernel) ?_
  refine j_runA hx 1 (tb := [(69, .iload_n 2)]) (jtb_ok (by decide +kernel)) (pc' := 70) (lv' := [(0, vR t), (1, vI a1), (2, vI l2)]) (st' := [vI l2, vR (jR W 1408 t), vL ((jB W 1413 t (ix a1)) + (jB W 1414 t (ix a1)))]) rfl ?_
  refine j_gd (fun h13 => ?_)
  refine j_lald hx (f := 1408) (o := t) kd1408 rfl (by decide +kernel) h13 ?_
  refine j_runA hx 1 (tb := [(71, .aload_n 0)]) (jtb_ok (by decide +kernel)) (pc' := 72) (lv' := [(0, vR t), (1, vI a1), (2, vI l2)]) (st' := [vR t, vL (jB W 1408 t (ix l2)), vL ((jB W 1413 t (ix a1)) + (jB W 1414 t (ix a1)))]) rfl ?_
  refine j_getR hx flX9_20 kl1409 h8 (by decide) (by decide +kernel) ?_
  refine j_runA hx 1 (tb := [(75, .iload_n 2)]) (jtb_ok (by decide +kernel)) (pc' := 76) (lv' := [(0, vR t), (1, vI a1), (2, vI l2)]) (st' := [vI l2, vR (jR W 1409 t), vL (jB W 1408 t (ix l2)), vL ((jB W 1413 t (ix a1)) + (jB W 1414 t (ix a1)))]) rfl ?_
  refine j_gd (fun h14 => ?_)
  refine j_iald hx (f := 1409) (o := t) kd1409 rfl (by decide +kernel) h14 ?_
  refine j_runA hx 2 (tb := [(77, .i2l), (78, .ladd)]) (jtb_ok (by decide +kernel)) (pc' := 79) (lv' := [(0, vR t), (1, vI a1), (2, vI l2)]) (st' := [vL ((jB W 1408 t (ix l2)) + ((jA W 1409 t (ix l2)).toInt64)), vL ((jB W 1413 t (ix a1)) + (jB W 1414 t (ix a1)))]) rfl ?_
  refine j_lcmp_gt hx (off := 36) (tgt := 116) (by decide +kernel) (by decide +kernel) (by decide) (fun _ => ?_) (fun _ => ?_)
  · exact whd_isInSegment_116 h l2
  refine j_runA hx 1 (tb := [(83, .aload_n 0)]) (jtb_ok (by decide +kernel)) (pc' := 84) (lv' := [(0, vR t), (1, vI a1), (2, vI l2)]) (st' := [vR t]) rfl ?_
  refine j_getR hx flX9_32 kl1413 h8 (by decide) (by decide +kernel) ?_
  refine j_runA hx 1 (tb := [(87, .iload_n 1)]) (jtb_ok (by decide +kernel)) (pc' := 88) (lv' := [(0, vR t), (1, vI a1), (2, vI l2)]) (st' := [vI a1, vR (jR W 1413 t)]) rfl ?_
  refine j_gd (fun h15 => ?_)
  refine j_lald hx (f := 1413) (o := t) kd1413 rfl (by decide +kernel) h15 ?_
  refine j_runA hx 1 (tb := [(89, .aload_n 0)]) (jtb_ok (by decide +kernel)) (pc' := 90) (lv' := [(0, vR t), (1, vI a1), (2, vI l2)]) (st' := [vR t, vL (jB W 1413 t (ix a1))]) rfl ?_
  refine j_getR hx flX9_29 kl1412 h8 (by decide) (by decide +kernel) ?_
  refine j_runA hx 1 (tb := [(93, .iload_n 1)]) (jtb_ok (by decide +kernel)) (pc' := 94) (lv' := [(0, vR t), (1, vI a1), (2, vI l2)]) (st' := [vI a1, vR (jR W 1412 t), vL (jB W 1413 t (ix a1))]) rfl ?_
  refine j_gd (fun h16 => ?_)
  refine j_lald hx (f := 1412) (o := t) kd1412 rfl (by decide +kernel) h16 ?_
  refine j_runA hx 2 (tb := [(95, .lsub), (96, .aload_n 0)]) (jtb_ok (by decide +kernel)) (pc' := 97) (lv' := [(0, vR t), (1, vI a1), (2, vI l2)]) (st' := [vR t, vL ((jB W 1413 t (ix a1)) - (jB W 1412 t (ix a1)))]) rfl ?_
  refine j_getR hx flX9_16 kl1408 h8 (by decide) (by decide +kernel) ?_
  refine j_runA hx 1 (tb := [(100, .iload_n 2)]) (jtb_ok (by decide +kernel)) (pc' := 101) (lv' := [(0, vR t), (1, vI a1), (2, vI l2)]) (st' := [vI l2, vR (jR W 1408 t), vL ((jB W 1413 t (ix a1)) - (jB W 1412 t (ix a1)))]) rfl ?_
  refine j_gd (fun h17 => ?_)
  refine j_lald hx (f := 1408) (o := t) kd1408 rfl (by decide +kernel) h17 ?_
  refine j_runA hx 1 (tb := [(102, .aload_n 0)]) (jtb_ok (by decide +kernel)) (pc' := 103) (lv' := [(0, vR t), (1, vI a1), (2, vI l2)]) (st' := [vR t, vL (jB W 1408 t (ix l2)), vL ((jB W 1413 t (ix a1)) - (jB W 1412 t (ix a1)))]) rfl ?_
  refine j_getR hx flX9_13 kl1407 h8 (by decide) (by decide +kernel) ?_
  refine j_runA hx 1 (tb := [(106, .iload_n 2)]) (jtb_ok (by decide +kernel)) (pc' := 107) (lv' := [(0, vR t), (1, vI a1), (2, vI l2)]) (st' := [vI l2, vR (jR W 1407 t), vL (jB W 1408 t (ix l2)), vL ((jB W 1413 t (ix a1)) - (jB W 1412 t (ix a1)))]) rfl ?_
  refine j_gd (fun h18 => ?_)
  refine j_iald hx (f := 1407) (o := t) kd1407 rfl (by decide +kernel) h18 ?_
  refine j_runA hx 2 (tb := [(108, .i2l), (109, .lsub)]) (jtb_ok (by decide +kernel)) (pc' := 110) (lv' := [(0, vR t), (1, vI a1), (2, vI l2)]) (st' := [vL ((jB W 1408 t (ix l2)) - ((jA W 1407 t (ix l2)).toInt64)), vL ((jB W 1413 t (ix a1)) - (jB W 1412 t (ix a1)))]) rfl ?_
  refine j_lcmp_ne hx (off := 5) (tgt := 116) (by decide +kernel) (by decide +kernel) (by decide) (fun _ => ?_) (fun _ => ?_)
  · exact whd_isInSegment_116 h l2
  refine j_runA hx 1 (tb := [(114, .iconst 1)]) (jtb_ok (by decide +kernel)) (pc' := 115) (lv' := [(0, vR t), (1, vI a1), (2, vI l2)]) (st' := [vI (kI 1)]) rfl ?_
  exact j_iret hx hm (by decide +kernel) jz1n (he _)
theorem whd_isInSegment_2 {x : jCx} {en : (fhd_isInSegment_S ⊕ (Int32)) → Option (Outcome × jW)} {W : jW} {t : Nat} {a1 : Int32} (h : hhd_isInSegment x en t a1 W) (l2 : Int32) : jJ x 3 2 [(0, vR t), (1, vI a1), (2, vI l2)] [] W (fhd_isInSegment_2 t a1 l2 W) en := by
  have h0 := h
  obtain ⟨hx, hm, hr, he, k2⟩ := h0
  unfold fhd_isInSegment_2
  refine j_runA hx 2 (tb := [(2, .iload_n 2), (3, .aload_n 0)]) (jtb_ok (by decide +kernel)) (pc' := 4) (lv' := [(0, vR t), (1, vI a1), (2, vI l2)]) (st' := [vR t, vI l2]) rfl ?_
  refine j_gd (fun h2 => ?_)
  refine j_getI hx flX9_121 kd1402 h2 (by decide) (by decide +kernel) ?_
  refine j_runA hx 2 (tb := [(7, .iconst 1), (8, .isub)]) (jtb_ok (by decide +kernel)) (pc' := 9) (lv' := [(0, vR t), (1, vI a1), (2, vI l2)]) (st' := [vI ((jI W 1402 t) - (kI 1)), vI l2]) rfl ?_
  refine j_icmp_ge hx (off := 113) (tgt := 122) (by decide +kernel) (by decide) (fun _ => ?_) (fun _ => ?_)
  · refine j_runA hx 1 (tb := [(122, .iconst 0)]) (jtb_ok (by decide +kernel)) (pc' := 123) (lv' := [(0, vR t), (1, vI a1), (2, vI l2)]) (st' := [vI (kI 0)]) rfl ?_
    exact j_iret hx hm (by decide +kernel) jz0n (he _)
  refine j_runA hx 1 (tb := [(12, .aload_n 0)]) (jtb_ok (by decide +kernel)) (pc' := 13) (lv' := [(0, vR t), (1, vI a1), (2, vI l2)]) (st' := [vR t]) rfl ?_
  refine j_getR hx flX9_26 kl1411 h2 (by decide) (by decide +kernel) ?_
  refine j_runA hx 1 (tb := [(16, .iload_n 1)]) (jtb_ok (by decide +kernel)) (pc' := 17) (lv' := [(0, vR t), (1, vI a1), (2, vI l2)]) (st' := [vI a1, vR (jR W 1411 t)]) rfl ?_
  refine j_gd (fun h3 => ?_)
  refine j_iald hx (f := 1411) (o := t) kd1411 rfl (by decide +kernel) h3 ?_
  refine j_runA hx 1 (tb := [(18, .iconst 3)]) (jtb_ok (by decide +kernel)) (pc' := 19) (lv' := [(0, vR t), (1, vI a1), (2, vI l2)]) (st' := [vI (kI 3), vI (jA W 1411 t (ix a1))]) rfl ?_
  refine j_icmp_ne hx (off := 17) (tgt := 36) (by decide +kernel) (by decide) (fun _ => ?_) (fun _ => ?_)
  · exact whd_isInSegment_36 h l2
  refine j_runA hx 1 (tb := [(22, .aload_n 0)]) (jtb_ok (by decide +kernel)) (pc' := 23) (lv' := [(0, vR t), (1, vI a1), (2, vI l2)]) (st' := [vR t]) rfl ?_
  refine j_getR hx flX9_7 kl1406 h2 (by decide) (by decide +kernel) ?_
  refine j_runA hx 1 (tb := [(26, .iload_n 2)]) (jtb_ok (by decide +kernel)) (pc' := 27) (lv' := [(0, vR t), (1, vI a1), (2, vI l2)]) (st' := [vI l2, vR (jR W 1406 t)]) rfl ?_
  refine j_gd (fun h4 => ?_)
  refine j_iald hx (f := 1406) (o := t) kd1406 rfl (by decide +kernel) h4 ?_
  refine j_runA hx 1 (tb := [(28, .bipush 6)]) (jtb_ok (by decide +kernel)) (pc' := 30) (lv' := [(0, vR t), (1, vI a1), (2, vI l2)]) (st' := [vI (kI 6), vI (jA W 1406 t (ix l2))]) rfl ?_
  refine j_icmp_eq hx (off := 6) (tgt := 36) (by decide +kernel) (by decide) (fun _ => ?_) (fun _ => ?_)
  · exact whd_isInSegment_36 h l2
  refine j_goto hx (off := 83) (by decide +kernel) (tgt := 116) (by decide) ?_
  exact whd_isInSegment_116 h l2
theorem whd_isInSegment {x : jCx} {en : (fhd_isInSegment_S ⊕ (Int32)) → Option (Outcome × jW)} {W : jW} {t : Nat} {a1 : Int32} (h : hhd_isInSegment x en t a1 W) : jJ x 3 0 [(0, vR t), (1, vI a1)] [] W (fhd_isInSegment_0 t a1 W) en := by
  have h0 := h
  obtain ⟨hx, hm, hr, he, k2⟩ := h0
  unfold fhd_isInSegment_0
  refine j_runA hx 2 (tb := [(0, .iconst 0), (1, .istore_n 2)]) (jtb_ok (by decide +kernel)) (pc' := 2) (lv' := [(2, vI (kI 0)), (0, vR t), (1, vI a1)]) (st' := []) rfl ?_
  refine j_lv (lv' := [(0, vR t), (1, vI a1), (2, vI (kI 0))]) ⟨rfl, rfl, rfl, trivial⟩ ?_
  exact k2 (kI 0)
theorem chd_isInSegment (t : Nat) (a1 : Int32) (W : jW) : jM yX9_isInSegment cX9_isInSegment 3 (Option.some Jvm.ClassFile.FieldType.boolean) [] 0 0 [vR t, vI a1] W ((fhd_isInSegment t a1 W).bind (fun q => some (.returned (some (.int q)), W))) := by
  refine jM.of (Nat.le_of_ble_eq_true rfl) (fun x hx hm hr => ?_)
  refine j_begin (P := (fun s => (2, [(0, vR t), (1, vI a1), (2, vI s)], W))) (fun en he hk => ?_)
  have h : hhd_isInSegment x en t a1 W := ⟨hx, hm, hr, fun q => he _, fun l2 => hk l2⟩
  exact ⟨fun s => whd_isInSegment_2 h s, whd_isInSegment h⟩
def hhd_hasLinks (x : jCx) (en : (fhd_hasLinks_S ⊕ (Int32 × jW)) → Option (Outcome × jW)) (t : Nat) : Prop :=
  jOK x RX9 cX9_hasLinks 6 ∧
  jMt x "hasLinks" (Option.some Jvm.ClassFile.FieldType.boolean) [] ∧
  jRm x 1 19 ∧
  (∀ q : Int32 × jW, en (.inr q) = some (.returned (some (.int q.1)), q.2)) ∧
  (∀ (l1 : Int32) (W : jW), jJ x 6 2 [(0, vR t), (1, vI l1)] [] W (some (.inl (.inl (l1, W)))) en) ∧
  (∀ (l1 : Int32) (W : jW), jJ x 6 127 [(0, vR t), (1, vI l1)] [] W (some (.inl (.inr (.inl (l1, W))))) en) ∧
  (∀ (l1 : Int32) (l2 : Int64) (l4 : Int32) (l5 : Int32) (W : jW), jJ x 6 208 [(0, vR t), (1, vI l1), (2, vL l2), (4, vI l4), (5, vI l5)] [] W (some (.inl (.inr (.inr (.inl (l1, l2, l4, l5, W)))))) en) ∧
  (∀ (l1 : Int32) (W : jW), jJ x 6 320 [(0, vR t), (1, vI l1)] [] W (some (.inl (.inr (.inr (.inr (l1, W)))))) en)
theorem whd_hasLinks_119 {x : jCx} {en : (fhd_hasLinks_S ⊕ (Int32 × jW)) → Option (Outcome × jW)} {t : Nat} (h : hhd_hasLinks x en t) (l1 : Int32) (W : jW) : jJ x 6 119 [(0, vR t), (1, vI l1)] [] W (fhd_hasLinks_119 t l1 W) en := by
  have h0 := h
  obtain ⟨hx, hm, hr, he, k2, k127, k208, k320⟩ := h0
  unfold fhd_hasLinks_119
  refine j_runA hx 1 (tb := [(119, .iinc 1 1)]) (jtb_ok (by decide +kernel)) (pc' := 122) (lv' := [(1, vI (l1 + (kI 1))), (0, vR t)]) (st' := []) rfl ?_
  refine j_let (v := (l1 + (kI 1))) (lv := fun v24 => [(1, vI v24), (0, vR t)]) (st := fun _ => []) (fun v24 => ?_)
  refine j_goto hx (off := -120) (by decide +kernel) (tgt := 2) (by decide) ?_
  refine j_lv (lv' := [(0, vR t), (1, vI v24)]) ⟨rfl, rfl, trivial⟩ ?_
  exact k2 v24 W
theorem whd_hasLinks_102 {x : jCx} {en : (fhd_hasLinks_S ⊕ (Int32 × jW)) → Option (Outcome × jW)} {t : Nat} (h : hhd_hasLinks x en t) (l1 : Int32) (s0 : Int32) (s1 : Nat) (W : jW) : jJ x 6 102 [(0, vR t), (1, vI l1)] [vI s0, vR s1] W (fhd_hasLinks_102 t l1 s0 s1 W) en := by
  have h0 := h
  obtain ⟨hx, hm, hr, he, k2, k127, k208, k320⟩ := h0
  unfold fhd_hasLinks_102
  refine j_runA hx 2 (tb := [(102, .aload_n 0), (103, .iload_n 1)]) (jtb_ok (by decide +kernel)) (pc' := 104) (lv' := [(0, vR t), (1, vI l1)]) (st' := [vI l1, vR t, vI s0, vR s1]) rfl ?_
  refine j_gd (fun h18 => ?_)
  refine j_OI (j_callV (av := [vI l1]) (st := [vI s0, vR s1]) hx hr (Or.inl q2870) q2872 qs129 rfl md_fhd_head np_fhd_head (chd_head t l1 W) (by decide) (Nat.le_of_ble_eq_true rfl) h18 (by decide) (by decide +kernel)) (fun q19 _ => ?_)
  refine j_runA hx 3 (tb := [(107, .bipush 40), (109, .iadd), (110, .i2l)]) (jtb_ok (by decide +kernel)) (pc' := 111) (lv' := [(0, vR t), (1, vI l1)]) (st' := [vL ((q19 + (kI 40)).toInt64), vI s0, vR s1]) rfl ?_
  refine j_gd (fun h20 => ?_)
  refine j_WI (j_callV (av := [vI s0, vL ((q19 + (kI 40)).toInt64)]) (st := []) hx hr (Or.inl q2818) q2820 qs124 rfl md_fhd_is np_fhd_is (chd_is s1 s0 ((q19 + (kI 40)).toInt64) W) (by decide) (Nat.le_of_ble_eq_true rfl) h20 (by decide) (by decide +kernel)) (fun q21 _ => ?_)
  refine j_if_ne hx (off := 5) (tgt := 119) (by decide +kernel) (by decide) (fun _ => ?_) (fun _ => ?_)
  · exact whd_hasLinks_119 h l1 q21.2
  refine j_runA hx 1 (tb := [(117, .iconst 0)]) (jtb_ok (by decide +kernel)) (pc' := 118) (lv' := [(0, vR t), (1, vI l1)]) (st' := [vI (kI 0)]) rfl ?_
  exact j_iret hx hm (by decide +kernel) jz0n (he _)
theorem whd_hasLinks_77 {x : jCx} {en : (fhd_hasLinks_S ⊕ (Int32 × jW)) → Option (Outcome × jW)} {t : Nat} (h : hhd_hasLinks x en t) (l1 : Int32) (l2 : Int64) (W : jW) : jJ x 6 77 [(0, vR t), (1, vI l1), (2, vL l2)] [] W (fhd_hasLinks_77 t l1 l2 W) en := by
  have h0 := h
  obtain ⟨hx, hm, hr, he, k2, k127, k208, k320⟩ := h0
  unfold fhd_hasLinks_77
  refine j_runA hx 2 (tb := [(77, .aload_n 0), (78, .iload_n 1)]) (jtb_ok (by decide +kernel)) (pc' := 79) (lv' := [(0, vR t), (1, vI l1), (2, vL l2)]) (st' := [vI l1, vR t]) rfl ?_
  refine j_gd (fun h15 => ?_)
  refine j_OI (j_callV (av := [vI l1]) (st := []) hx hr (Or.inl q2877) q2878 q2879 rfl md_fhd_what np_fhd_what (chd_what t l1 W) (by decide) (Nat.le_of_ble_eq_true rfl) h15 (by decide) (by decide +kernel)) (fun q16 _ => ?_)
  refine j_runA hx 1 (tb := [(82, .iconst 4)]) (jtb_ok (by decide +kernel)) (pc' := 83) (lv' := [(0, vR t), (1, vI l1), (2, vL l2)]) (st' := [vI (kI 4), vI q16]) rfl ?_
  refine j_icmp_ne hx (off := 36) (tgt := 119) (by decide +kernel) (by decide) (fun _ => ?_) (fun _ => ?_)
  · refine j_lv (lv' := [(0, vR t), (1, vI l1)]) ⟨rfl, rfl, trivial⟩ ?_
    exact whd_hasLinks_119 h l1 W
  refine j_runA hx 3 (tb := [(86, .aload_n 0), (87, .lload_n 2), (88, .aload_n 0)]) (jtb_ok (by decide +kernel)) (pc' := 89) (lv' := [(0, vR t), (1, vI l1), (2, vL l2)]) (st' := [vR t, vL l2, vR t]) rfl ?_
  refine j_getI hx flX9_160 kd1416 h15 (by decide) (by decide +kernel) ?_
  refine j_runA hx 1 (tb := [(92, .i2l)]) (jtb_ok (by decide +kernel)) (pc' := 93) (lv' := [(0, vR t), (1, vI l1), (2, vL l2)]) (st' := [vL ((jI W 1416 t).toInt64), vL l2, vR t]) rfl ?_
  refine j_lcmp_ne hx (off := 7) (tgt := 101) (by decide +kernel) (by decide +kernel) (by decide) (fun _ => ?_) (fun _ => ?_)
  · refine j_runA hx 1 (tb := [(101, .iconst 0)]) (jtb_ok (by decide +kernel)) (pc' := 102) (lv' := [(0, vR t), (1, vI l1), (2, vL l2)]) (st' := [vI (kI 0), vR t]) rfl ?_
    refine j_lv (lv' := [(0, vR t), (1, vI l1)]) ⟨rfl, rfl, trivial⟩ ?_
    exact whd_hasLinks_102 h l1 (kI 0) t W
  refine j_runA hx 1 (tb := [(97, .iconst 1)]) (jtb_ok (by decide +kernel)) (pc' := 98) (lv' := [(0, vR t), (1, vI l1), (2, vL l2)]) (st' := [vI (kI 1), vR t]) rfl ?_
  refine j_goto hx (off := 4) (by decide +kernel) (tgt := 102) (by decide) ?_
  refine j_lv (lv' := [(0, vR t), (1, vI l1)]) ⟨rfl, rfl, trivial⟩ ?_
  exact whd_hasLinks_102 h l1 (kI 1) t W
theorem whd_hasLinks_60 {x : jCx} {en : (fhd_hasLinks_S ⊕ (Int32 × jW)) → Option (Outcome × jW)} {t : Nat} (h : hhd_hasLinks x en t) (l1 : Int32) (l2 : Int64) (s0 : Int32) (s1 : Nat) (W : jW) : jJ x 6 60 [(0, vR t), (1, vI l1), (2, vL l2)] [vI s0, vR s1] W (fhd_hasLinks_60 t l1 l2 s0 s1 W) en := by
  have h0 := h
  obtain ⟨hx, hm, hr, he, k2, k127, k208, k320⟩ := h0
  unfold fhd_hasLinks_60
  refine j_runA hx 2 (tb := [(60, .aload_n 0), (61, .iload_n 1)]) (jtb_ok (by decide +kernel)) (pc' := 62) (lv' := [(0, vR t), (1, vI l1), (2, vL l2)]) (st' := [vI l1, vR t, vI s0, vR s1]) rfl ?_
  refine j_gd (fun h8 => ?_)
  refine j_OI (j_callV (av := [vI l1]) (st := [vI s0, vR s1]) hx hr (Or.inl q2870) q2872 qs129 rfl md_fhd_head np_fhd_head (chd_head t l1 W) (by decide) (Nat.le_of_ble_eq_true rfl) h8 (by decide) (by decide +kernel)) (fun q9 _ => ?_)
  refine j_runA hx 3 (tb := [(65, .bipush 40), (67, .iadd), (68, .i2l)]) (jtb_ok (by decide +kernel)) (pc' := 69) (lv' := [(0, vR t), (1, vI l1), (2, vL l2)]) (st' := [vL ((q9 + (kI 40)).toInt64), vI s0, vR s1]) rfl ?_
  refine j_gd (fun h10 => ?_)
  refine j_WI (j_callV (av := [vI s0, vL ((q9 + (kI 40)).toInt64)]) (st := []) hx hr (Or.inl q2818) q2820 qs124 rfl md_fhd_is np_fhd_is (chd_is s1 s0 ((q9 + (kI 40)).toInt64) W) (by decide) (Nat.le_of_ble_eq_true rfl) h10 (by decide) (by decide +kernel)) (fun q11 _ => ?_)
  refine j_if_ne hx (off := 5) (tgt := 77) (by decide +kernel) (by decide) (fun _ => ?_) (fun _ => ?_)
  · exact whd_hasLinks_77 h l1 l2 q11.2
  refine j_runA hx 1 (tb := [(75, .iconst 0)]) (jtb_ok (by decide +kernel)) (pc' := 76) (lv' := [(0, vR t), (1, vI l1), (2, vL l2)]) (st' := [vI (kI 0)]) rfl ?_
  exact j_iret hx hm (by decide +kernel) jz0n (he _)
theorem whd_hasLinks_59 {x : jCx} {en : (fhd_hasLinks_S ⊕ (Int32 × jW)) → Option (Outcome × jW)} {t : Nat} (h : hhd_hasLinks x en t) (l1 : Int32) (l2 : Int64) (s0 : Nat) (W : jW) : jJ x 6 59 [(0, vR t), (1, vI l1), (2, vL l2)] [vR s0] W (fhd_hasLinks_59 t l1 l2 s0 W) en := by
  have h0 := h
  obtain ⟨hx, hm, hr, he, k2, k127, k208, k320⟩ := h0
  unfold fhd_hasLinks_59
  refine j_runA hx 1 (tb := [(59, .iconst 0)]) (jtb_ok (by decide +kernel)) (pc' := 60) (lv' := [(0, vR t), (1, vI l1), (2, vL l2)]) (st' := [vI (kI 0), vR s0]) rfl ?_
  exact whd_hasLinks_60 h l1 l2 (kI 0) s0 W
theorem whd_hasLinks_282 {x : jCx} {en : (fhd_hasLinks_S ⊕ (Int32 × jW)) → Option (Outcome × jW)} {t : Nat} (h : hhd_hasLinks x en t) (l1 : Int32) (W : jW) : jJ x 6 282 [(0, vR t), (1, vI l1)] [] W (fhd_hasLinks_282 t l1 W) en := by
  have h0 := h
  obtain ⟨hx, hm, hr, he, k2, k127, k208, k320⟩ := h0
  unfold fhd_hasLinks_282
  refine j_runA hx 1 (tb := [(282, .iinc 1 1)]) (jtb_ok (by decide +kernel)) (pc' := 285) (lv' := [(1, vI (l1 + (kI 1))), (0, vR t)]) (st' := []) rfl ?_
  refine j_let (v := (l1 + (kI 1))) (lv := fun v34 => [(1, vI v34), (0, vR t)]) (st := fun _ => []) (fun v34 => ?_)
  refine j_goto hx (off := -158) (by decide +kernel) (tgt := 127) (by decide) ?_
  refine j_lv (lv' := [(0, vR t), (1, vI v34)]) ⟨rfl, rfl, trivial⟩ ?_
  exact k127 v34 W
theorem whd_hasLinks_254 {x : jCx} {en : (fhd_hasLinks_S ⊕ (Int32 × jW)) → Option (Outcome × jW)} {t : Nat} (h : hhd_hasLinks x en t) (l1 : Int32) (l2 : Int64) (l5 : Int32) (s0 : Int32) (W : jW) : jJ x 6 254 [(0, vR t), (1, vI l1), (2, vL l2), (5, vI l5)] [vI s0] W (fhd_hasLinks_254 t l1 l2 l5 s0 W) en := by
  have h0 := h
  obtain ⟨hx, hm, hr, he, k2, k127, k208, k320⟩ := h0
  unfold fhd_hasLinks_254
  refine j_runA hx 2 (tb := [(254, .istore 4), (256, .iinc 5 1)]) (jtb_ok (by decide +kernel)) (pc' := 259) (lv' := [(5, vI (l5 + (kI 1))), (4, vI s0), (0, vR t), (1, vI l1), (2, vL l2)]) (st' := []) rfl ?_
  refine j_let (v := (l5 + (kI 1))) (lv := fun v48 => [(5, vI v48), (4, vI s0), (0, vR t), (1, vI l1), (2, vL l2)]) (st := fun _ => []) (fun v48 => ?_)
  refine j_goto hx (off := -51) (by decide +kernel) (tgt := 208) (by decide) ?_
  refine j_lv (lv' := [(0, vR t), (1, vI l1), (2, vL l2), (4, vI s0), (5, vI v48)]) ⟨rfl, rfl, rfl, rfl, rfl, trivial⟩ ?_
  exact k208 l1 l2 s0 v48 W
theorem whd_hasLinks_249 {x : jCx} {en : (fhd_hasLinks_S ⊕ (Int32 × jW)) → Option (Outcome × jW)} {t : Nat} (h : hhd_hasLinks x en t) (l1 : Int32) (l2 : Int64) (l5 : Int32) (W : jW) : jJ x 6 249 [(0, vR t), (1, vI l1), (2, vL l2), (5, vI l5)] [] W (fhd_hasLinks_249 t l1 l2 l5 W) en := by
  have h0 := h
  obtain ⟨hx, hm, hr, he, k2, k127, k208, k320⟩ := h0
  unfold fhd_hasLinks_249
  refine j_runA hx 1 (tb := [(249, .iconst 1)]) (jtb_ok (by decide +kernel)) (pc' := 250) (lv' := [(0, vR t), (1, vI l1), (2, vL l2), (5, vI l5)]) (st' := [vI (kI 1)]) rfl ?_
  refine j_goto hx (off := 4) (by decide +kernel) (tgt := 254) (by decide) ?_
  exact whd_hasLinks_254 h l1 l2 l5 (kI 1) W
theorem whd_hasLinks_253 {x : jCx} {en : (fhd_hasLinks_S ⊕ (Int32 × jW)) → Option (Outcome × jW)} {t : Nat} (h : hhd_hasLinks x en t) (l1 : Int32) (l2 : Int64) (l5 : Int32) (W : jW) : jJ x 6 253 [(0, vR t), (1, vI l1), (2, vL l2), (5, vI l5)] [] W (fhd_hasLinks_253 t l1 l2 l5 W) en := by
  have h0 := h
  obtain ⟨hx, hm, hr, he, k2, k127, k208, k320⟩ := h0
  unfold fhd_hasLinks_253
  refine j_runA hx 1 (tb := [(253, .iconst 0)]) (jtb_ok (by decide +kernel)) (pc' := 254) (lv' := [(0, vR t), (1, vI l1), (2, vL l2), (5, vI l5)]) (st' := [vI (kI 0)]) rfl ?_
  exact whd_hasLinks_254 h l1 l2 l5 (kI 0) W
theorem whd_hasLinks_208 {x : jCx} {en : (fhd_hasLinks_S ⊕ (Int32 × jW)) → Option (Outcome × jW)} {t : Nat} (h : hhd_hasLinks x en t) (l1 : Int32) (l2 : Int64) (l4 : Int32) (l5 : Int32) (W : jW) : jJ x 6 208 [(0, vR t), (1, vI l1), (2, vL l2), (4, vI l4), (5, vI l5)] [] W (fhd_hasLinks_208 t l1 l2 l4 l5 W) en := by
  have h0 := h
  obtain ⟨hx, hm, hr, he, k2, k127, k208, k320⟩ := h0
  unfold fhd_hasLinks_208
  refine j_runA hx 2 (tb := [(208, .iload 5), (210, .iload_n 1)]) (jtb_ok (by decide +kernel)) (pc' := 211) (lv' := [(0, vR t), (1, vI l1), (2, vL l2), (4, vI l4), (5, vI l5)]) (st' := [vI l1, vI l5]) rfl ?_
  refine j_icmp_ge hx (off := 51) (tgt := 262) (by decide +kernel) (by decide) (fun _ => ?_) (fun _ => ?_)
  · refine j_runA hx 4 (tb := [(262, .aload_n 0), (263, .iload 4), (265, .aload_n 0), (266, .iload_n 1)]) (jtb_ok (by decide +kernel)) (pc' := 267) (lv' := [(0, vR t), (1, vI l1), (2, vL l2), (4, vI l4), (5, vI l5)]) (st' := [vI l1, vR t, vI l4, vR t]) rfl ?_
    refine j_gd (fun h38 => ?_)
    refine j_OI (j_callV (av := [vI l1]) (st := [vI l4, vR t]) hx hr (Or.inl q2870) q2872 qs129 rfl md_fhd_head np_fhd_head (chd_head t l1 W) (by decide) (Nat.le_of_ble_eq_true rfl) h38 (by decide) (by decide +kernel)) (fun q39 _ => ?_)
    refine j_runA hx 3 (tb := [(270, .bipush 44), (272, .iadd), (273, .i2l)]) (jtb_ok (by decide +kernel)) (pc' := 274) (lv' := [(0, vR t), (1, vI l1), (2, vL l2), (4, vI l4), (5, vI l5)]) (st' := [vL ((q39 + (kI 44)).toInt64), vI l4, vR t]) rfl ?_
    refine j_WI (j_callV (av := [vI l4, vL ((q39 + (kI 44)).toInt64)]) (st := []) hx hr (Or.inl q2818) q2820 qs124 rfl md_fhd_is np_fhd_is (chd_is t l4 ((q39 + (kI 44)).toInt64) W) (by decide) (Nat.le_of_ble_eq_true rfl) h38 (by decide) (by decide +kernel)) (fun q40 _ => ?_)
    refine j_if_ne hx (off := 5) (tgt := 282) (by decide +kernel) (by decide) (fun _ => ?_) (fun _ => ?_)
    · refine j_lv (lv' := [(0, vR t), (1, vI l1)]) ⟨rfl, rfl, trivial⟩ ?_
      exact whd_hasLinks_282 h l1 q40.2
    refine j_runA hx 1 (tb := [(280, .iconst 0)]) (jtb_ok (by decide +kernel)) (pc' := 281) (lv' := [(0, vR t), (1, vI l1), (2, vL l2), (4, vI l4), (5, vI l5)]) (st' := [vI (kI 0)]) rfl ?_
    exact j_iret hx hm (by decide +kernel) jz0n (he _)
  refine j_runA hx 1 (tb := [(214, .iload 4)]) (jtb_ok (by decide +kernel)) (pc' := 216) (lv' := [(0, vR t), (1, vI l1), (2, vL l2), (4, vI l4), (5, vI l5)]) (st' := [vI l4]) rfl ?_
  refine j_if_eq hx (off := 37) (tgt := 253) (by decide +kernel) (by decide) (fun _ => ?_) (fun _ => ?_)
  · refine j_lv (lv' := [(0, vR t), (1, vI l1), (2, vL l2), (5, vI l5)]) ⟨rfl, rfl, rfl, rfl, trivial⟩ ?_
    exact whd_hasLinks_253 h l1 l2 l5 W
  refine j_runA hx 2 (tb := [(219, .aload_n 0), (220, .iload 5)]) (jtb_ok (by decide +kernel)) (pc' := 222) (lv' := [(0, vR t), (1, vI l1), (2, vL l2), (4, vI l4), (5, vI l5)]) (st' := [vI l5, vR t]) rfl ?_
  refine j_gd (fun h42 => ?_)
  refine j_OI (j_callV (av := [vI l5]) (st := []) hx hr (Or.inl q2877) q2878 q2879 rfl md_fhd_what np_fhd_what (chd_what t l5 W) (by decide) (Nat.le_of_ble_eq_true rfl) h42 (by decide) (by decide +kernel)) (fun q43 _ => ?_)
  refine j_runA hx 1 (tb := [(225, .iconst 4)]) (jtb_ok (by decide +kernel)) (pc' := 226) (lv' := [(0, vR t), (1, vI l1), (2, vL l2), (4, vI l4), (5, vI l5)]) (st' := [vI (kI 4), vI q43]) rfl ?_
  refine j_icmp_ne hx (off := 23) (tgt := 249) (by decide +kernel) (by decide) (fun _ => ?_) (fun _ => ?_)
  · refine j_lv (lv' := [(0, vR t), (1, vI l1), (2, vL l2), (5, vI l5)]) ⟨rfl, rfl, rfl, rfl, trivial⟩ ?_
    exact whd_hasLinks_249 h l1 l2 l5 W
  refine j_runA hx 3 (tb := [(229, .aload_n 0), (230, .aload_n 0), (231, .iload 5)]) (jtb_ok (by decide +kernel)) (pc' := 233) (lv' := [(0, vR t), (1, vI l1), (2, vL l2), (4, vI l4), (5, vI l5)]) (st' := [vI l5, vR t, vR t]) rfl ?_
  refine j_OI (j_callV (av := [vI l5]) (st := [vR t]) hx hr (Or.inl q2870) q2872 qs129 rfl md_fhd_head np_fhd_head (chd_head t l5 W) (by decide) (Nat.le_of_ble_eq_true rfl) h42 (by decide) (by decide +kernel)) (fun q44 _ => ?_)
  refine j_runA hx 4 (tb := [(236, .bipush 44), (238, .iadd), (239, .i2l), (240, .iconst 4)]) (jtb_ok (by decide +kernel)) (pc' := 241) (lv' := [(0, vR t), (1, vI l1), (2, vL l2), (4, vI l4), (5, vI l5)]) (st' := [vI (kI 4), vL ((q44 + (kI 44)).toInt64), vR t]) rfl ?_
  refine j_OL (j_callV (av := [vL ((q44 + (kI 44)).toInt64), vI (kI 4)]) (st := []) hx hr (Or.inl q2822) q2823 q2824 rfl md_fhd_num np_fhd_num (chd_num t ((q44 + (kI 44)).toInt64) (kI 4) W) (by decide) (Nat.le_of_ble_eq_true rfl) h42 (by decide) (by decide +kernel)) (fun q45 _ => ?_)
  refine j_runA hx 1 (tb := [(244, .lload_n 2)]) (jtb_ok (by decide +kernel)) (pc' := 245) (lv' := [(0, vR t), (1, vI l1), (2, vL l2), (4, vI l4), (5, vI l5)]) (st' := [vL l2, vL q45]) rfl ?_
  refine j_lcmp_eq hx (off := 7) (tgt := 253) (by decide +kernel) (by decide +kernel) (by decide) (fun _ => ?_) (fun _ => ?_)
  · refine j_lv (lv' := [(0, vR t), (1, vI l1), (2, vL l2), (5, vI l5)]) ⟨rfl, rfl, rfl, rfl, trivial⟩ ?_
    exact whd_hasLinks_253 h l1 l2 l5 W
  refine j_lv (lv' := [(0, vR t), (1, vI l1), (2, vL l2), (5, vI l5)]) ⟨rfl, rfl, rfl, rfl, trivial⟩ ?_
  exact whd_hasLinks_249 h l1 l2 l5 W
theorem whd_hasLinks_203 {x : jCx} {en : (fhd_hasLinks_S ⊕ (Int32 × jW)) → Option (Outcome × jW)} {t : Nat} (h : hhd_hasLinks x en t) (l1 : Int32) (l2 : Int64) (s0 : Int32) (W : jW) : jJ x 6 203 [(0, vR t), (1, vI l1), (2, vL l2)] [vI s0] W (fhd_hasLinks_203 t l1 l2 s0 W) en := by
  have h0 := h
  obtain ⟨hx, hm, hr, he, k2, k127, k208, k320⟩ := h0
  unfold fhd_hasLinks_203
  refine j_runA hx 3 (tb := [(203, .istore 4), (205, .iconst 1), (206, .istore 5)]) (jtb_ok (by decide +kernel)) (pc' := 208) (lv' := [(5, vI (kI 1)), (4, vI s0), (0, vR t), (1, vI l1), (2, vL l2)]) (st' := []) rfl ?_
  refine j_lv (lv' := [(0, vR t), (1, vI l1), (2, vL l2), (4, vI s0), (5, vI (kI 1))]) ⟨rfl, rfl, rfl, rfl, rfl, trivial⟩ ?_
  exact k208 l1 l2 s0 (kI 1) W
theorem whd_hasLinks_198 {x : jCx} {en : (fhd_hasLinks_S ⊕ (Int32 × jW)) → Option (Outcome × jW)} {t : Nat} (h : hhd_hasLinks x en t) (l1 : Int32) (l2 : Int64) (W : jW) : jJ x 6 198 [(0, vR t), (1, vI l1), (2, vL l2)] [] W (fhd_hasLinks_198 t l1 l2 W) en := by
  have h0 := h
  obtain ⟨hx, hm, hr, he, k2, k127, k208, k320⟩ := h0
  unfold fhd_hasLinks_198
  refine j_runA hx 1 (tb := [(198, .iconst 1)]) (jtb_ok (by decide +kernel)) (pc' := 199) (lv' := [(0, vR t), (1, vI l1), (2, vL l2)]) (st' := [vI (kI 1)]) rfl ?_
  refine j_goto hx (off := 4) (by decide +kernel) (tgt := 203) (by decide) ?_
  exact whd_hasLinks_203 h l1 l2 (kI 1) W
theorem whd_hasLinks_202 {x : jCx} {en : (fhd_hasLinks_S ⊕ (Int32 × jW)) → Option (Outcome × jW)} {t : Nat} (h : hhd_hasLinks x en t) (l1 : Int32) (l2 : Int64) (W : jW) : jJ x 6 202 [(0, vR t), (1, vI l1), (2, vL l2)] [] W (fhd_hasLinks_202 t l1 l2 W) en := by
  have h0 := h
  obtain ⟨hx, hm, hr, he, k2, k127, k208, k320⟩ := h0
  unfold fhd_hasLinks_202
  refine j_runA hx 1 (tb := [(202, .iconst 0)]) (jtb_ok (by decide +kernel)) (pc' := 203) (lv' := [(0, vR t), (1, vI l1), (2, vL l2)]) (st' := [vI (kI 0)]) rfl ?_
  exact whd_hasLinks_203 h l1 l2 (kI 0) W
theorem whd_hasLinks_358 {x : jCx} {en : (fhd_hasLinks_S ⊕ (Int32 × jW)) → Option (Outcome × jW)} {t : Nat} (h : hhd_hasLinks x en t) (l1 : Int32) (s0 : Int32) (s1 : Nat) (W : jW) : jJ x 6 358 [(0, vR t), (1, vI l1)] [vI s0, vR s1] W (fhd_hasLinks_358 t l1 s0 s1 W) en := by
  have h0 := h
  obtain ⟨hx, hm, hr, he, k2, k127, k208, k320⟩ := h0
  unfold fhd_hasLinks_358
  refine j_runA hx 2 (tb := [(358, .aload_n 0), (359, .iload_n 1)]) (jtb_ok (by decide +kernel)) (pc' := 360) (lv' := [(0, vR t), (1, vI l1)]) (st' := [vI l1, vR t, vI s0, vR s1]) rfl ?_
  refine j_gd (fun h61 => ?_)
  refine j_OI (j_callV (av := [vI l1]) (st := [vI s0, vR s1]) hx hr (Or.inl q2870) q2872 qs129 rfl md_fhd_head np_fhd_head (chd_head t l1 W) (by decide) (Nat.le_of_ble_eq_true rfl) h61 (by decide) (by decide +kernel)) (fun q62 _ => ?_)
  refine j_runA hx 1 (tb := [(363, .i2l)]) (jtb_ok (by decide +kernel)) (pc' := 364) (lv' := [(0, vR t), (1, vI l1)]) (st' := [vL q62.toInt64, vI s0, vR s1]) rfl ?_
  refine j_gd (fun h63 => ?_)
  refine j_WI (j_callV (av := [vI s0, vL q62.toInt64]) (st := []) hx hr (Or.inl q2818) q2820 qs124 rfl md_fhd_is np_fhd_is (chd_is s1 s0 q62.toInt64 W) (by decide) (Nat.le_of_ble_eq_true rfl) h63 (by decide) (by decide +kernel)) (fun q64 _ => ?_)
  refine j_if_ne hx (off := 5) (tgt := 372) (by decide +kernel) (by decide) (fun _ => ?_) (fun _ => ?_)
  · refine j_runA hx 1 (tb := [(372, .iinc 1 1)]) (jtb_ok (by decide +kernel)) (pc' := 375) (lv' := [(1, vI (l1 + (kI 1))), (0, vR t)]) (st' := []) rfl ?_
    refine j_let (v := (l1 + (kI 1))) (lv := fun v66 => [(1, vI v66), (0, vR t)]) (st := fun _ => []) (fun v66 => ?_)
    refine j_goto hx (off := -55) (by decide +kernel) (tgt := 320) (by decide) ?_
    refine j_lv (lv' := [(0, vR t), (1, vI v66)]) ⟨rfl, rfl, trivial⟩ ?_
    exact k320 v66 q64.2
  refine j_runA hx 1 (tb := [(370, .iconst 0)]) (jtb_ok (by decide +kernel)) (pc' := 371) (lv' := [(0, vR t), (1, vI l1)]) (st' := [vI (kI 0)]) rfl ?_
  exact j_iret hx hm (by decide +kernel) jz0n (he _)
theorem whd_hasLinks_320 {x : jCx} {en : (fhd_hasLinks_S ⊕ (Int32 × jW)) → Option (Outcome × jW)} {t : Nat} (h : hhd_hasLinks x en t) (l1 : Int32) (W : jW) : jJ x 6 320 [(0, vR t), (1, vI l1)] [] W (fhd_hasLinks_320 t l1 W) en := by
  have h0 := h
  obtain ⟨hx, hm, hr, he, k2, k127, k208, k320⟩ := h0
  unfold fhd_hasLinks_320
  refine j_runA hx 2 (tb := [(320, .iload_n 1), (321, .aload_n 0)]) (jtb_ok (by decide +kernel)) (pc' := 322) (lv' := [(0, vR t), (1, vI l1)]) (st' := [vR t, vI l1]) rfl ?_
  refine j_gd (fun h56 => ?_)
  refine j_getI hx flX9_126 kd1403 h56 (by decide) (by decide +kernel) ?_
  refine j_icmp_ge hx (off := 53) (tgt := 378) (by decide +kernel) (by decide) (fun _ => ?_) (fun _ => ?_)
  · refine j_runA hx 1 (tb := [(378, .iconst 1)]) (jtb_ok (by decide +kernel)) (pc' := 379) (lv' := [(0, vR t), (1, vI l1)]) (st' := [vI (kI 1)]) rfl ?_
    exact j_iret hx hm (by decide +kernel) jz1n (he _)
  refine j_runA hx 4 (tb := [(328, .aload_n 0), (329, .aload_n 0), (330, .aload_n 0), (331, .iload_n 1)]) (jtb_ok (by decide +kernel)) (pc' := 332) (lv' := [(0, vR t), (1, vI l1)]) (st' := [vI l1, vR t, vR t, vR t]) rfl ?_
  refine j_OI (j_callV (av := [vI l1]) (st := [vR t, vR t]) hx hr (Or.inl q2870) q2872 qs129 rfl md_fhd_head np_fhd_head (chd_head t l1 W) (by decide) (Nat.le_of_ble_eq_true rfl) h56 (by decide) (by decide +kernel)) (fun q57 _ => ?_)
  refine j_runA hx 2 (tb := [(335, .i2l), (336, .iconst 4)]) (jtb_ok (by decide +kernel)) (pc' := 337) (lv' := [(0, vR t), (1, vI l1)]) (st' := [vI (kI 4), vL q57.toInt64, vR t, vR t]) rfl ?_
  refine j_OL (j_callV (av := [vL q57.toInt64, vI (kI 4)]) (st := [vR t]) hx hr (Or.inl q2822) q2823 q2824 rfl md_fhd_num np_fhd_num (chd_num t q57.toInt64 (kI 4) W) (by decide) (Nat.le_of_ble_eq_true rfl) h56 (by decide) (by decide +kernel)) (fun q58 _ => ?_)
  refine j_runA hx 1 (tb := [(340, .aload_n 0)]) (jtb_ok (by decide +kernel)) (pc' := 341) (lv' := [(0, vR t), (1, vI l1)]) (st' := [vR t, vL q58, vR t]) rfl ?_
  refine j_getR hx flX9_35 kl1414 h56 (by decide) (by decide +kernel) ?_
  refine j_runA hx 1 (tb := [(344, .aload_n 0)]) (jtb_ok (by decide +kernel)) (pc' := 345) (lv' := [(0, vR t), (1, vI l1)]) (st' := [vR t, vR (jR W 1414 t), vL q58, vR t]) rfl ?_
  refine j_getI hx flX9_131 kd1404 h56 (by decide) (by decide +kernel) ?_
  refine j_gd (fun h59 => ?_)
  refine j_lald hx (f := 1414) (o := t) kd1414 rfl (by decide +kernel) h59 ?_
  refine j_lcmp_ge hx (off := 7) (tgt := 357) (by decide +kernel) (by decide +kernel) (by decide) (fun _ => ?_) (fun _ => ?_)
  · refine j_runA hx 1 (tb := [(357, .iconst 0)]) (jtb_ok (by decide +kernel)) (pc' := 358) (lv' := [(0, vR t), (1, vI l1)]) (st' := [vI (kI 0), vR t]) rfl ?_
    exact whd_hasLinks_358 h l1 (kI 0) t W
  refine j_runA hx 1 (tb := [(353, .iconst 1)]) (jtb_ok (by decide +kernel)) (pc' := 354) (lv' := [(0, vR t), (1, vI l1)]) (st' := [vI (kI 1), vR t]) rfl ?_
  refine j_goto hx (off := 4) (by decide +kernel) (tgt := 358) (by decide) ?_
  exact whd_hasLinks_358 h l1 (kI 1) t W
theorem whd_hasLinks_307 {x : jCx} {en : (fhd_hasLinks_S ⊕ (Int32 × jW)) → Option (Outcome × jW)} {t : Nat} (h : hhd_hasLinks x en t) (s0 : Int32) (s1 : Nat) (W : jW) : jJ x 6 307 [(0, vR t)] [vI s0, vR s1] W (fhd_hasLinks_307 t s0 s1 W) en := by
  have h0 := h
  obtain ⟨hx, hm, hr, he, k2, k127, k208, k320⟩ := h0
  unfold fhd_hasLinks_307
  refine j_ldc2 hx (v := (kJ 62)) (jkd2 q2846 (by decide +kernel)) (by decide +kernel) ?_
  refine j_gd (fun h52 => ?_)
  refine j_WI (j_callV (av := [vI s0, vL (kJ 62)]) (st := []) hx hr (Or.inl q2818) q2820 qs124 rfl md_fhd_is np_fhd_is (chd_is s1 s0 (kJ 62) W) (by decide) (Nat.le_of_ble_eq_true rfl) h52 (by decide) (by decide +kernel)) (fun q53 _ => ?_)
  refine j_if_ne hx (off := 5) (tgt := 318) (by decide +kernel) (by decide) (fun _ => ?_) (fun _ => ?_)
  · refine j_runA hx 2 (tb := [(318, .iconst 0), (319, .istore_n 1)]) (jtb_ok (by decide +kernel)) (pc' := 320) (lv' := [(1, vI (kI 0)), (0, vR t)]) (st' := []) rfl ?_
    refine j_lv (lv' := [(0, vR t), (1, vI (kI 0))]) ⟨rfl, rfl, trivial⟩ ?_
    exact k320 (kI 0) q53.2
  refine j_runA hx 1 (tb := [(316, .iconst 0)]) (jtb_ok (by decide +kernel)) (pc' := 317) (lv' := [(0, vR t)]) (st' := [vI (kI 0)]) rfl ?_
  exact j_iret hx hm (by decide +kernel) jz0n (he _)
theorem whd_hasLinks_127 {x : jCx} {en : (fhd_hasLinks_S ⊕ (Int32 × jW)) → Option (Outcome × jW)} {t : Nat} (h : hhd_hasLinks x en t) (l1 : Int32) (W : jW) : jJ x 6 127 [(0, vR t), (1, vI l1)] [] W (fhd_hasLinks_127 t l1 W) en := by
  have h0 := h
  obtain ⟨hx, hm, hr, he, k2, k127, k208, k320⟩ := h0
  unfold fhd_hasLinks_127
  refine j_runA hx 2 (tb := [(127, .iload_n 1), (128, .aload_n 0)]) (jtb_ok (by decide +kernel)) (pc' := 129) (lv' := [(0, vR t), (1, vI l1)]) (st' := [vR t, vI l1]) rfl ?_
  refine j_gd (fun h26 => ?_)
  refine j_getI hx flX9_126 kd1403 h26 (by decide) (by decide +kernel) ?_
  refine j_icmp_ge hx (off := 156) (tgt := 288) (by decide +kernel) (by decide) (fun _ => ?_) (fun _ => ?_)
  · refine j_runA hx 2 (tb := [(288, .aload_n 0), (289, .aload_n 0)]) (jtb_ok (by decide +kernel)) (pc' := 290) (lv' := [(0, vR t), (1, vI l1)]) (st' := [vR t, vR t]) rfl ?_
    refine j_getR hx flX9_23 kl1410 h26 (by decide) (by decide +kernel) ?_
    refine j_runA hx 1 (tb := [(293, .aload_n 0)]) (jtb_ok (by decide +kernel)) (pc' := 294) (lv' := [(0, vR t), (1, vI l1)]) (st' := [vR t, vR (jR W 1410 t), vR t]) rfl ?_
    refine j_getI hx flX9_131 kd1404 h26 (by decide) (by decide +kernel) ?_
    refine j_gd (fun h27 => ?_)
    refine j_iald hx (f := 1410) (o := t) kd1410 rfl (by decide +kernel) h27 ?_
    refine j_runA hx 1 (tb := [(298, .iconst 3)]) (jtb_ok (by decide +kernel)) (pc' := 299) (lv' := [(0, vR t), (1, vI l1)]) (st' := [vI (kI 3), vI (jA W 1410 t (ix (jI W 1404 t))), vR t]) rfl ?_
    refine j_icmp_ne hx (off := 7) (tgt := 306) (by decide +kernel) (by decide) (fun _ => ?_) (fun _ => ?_)
    · refine j_runA hx 1 (tb := [(306, .iconst 0)]) (jtb_ok (by decide +kernel)) (pc' := 307) (lv' := [(0, vR t), (1, vI l1)]) (st' := [vI (kI 0), vR t]) rfl ?_
      refine j_lv (lv' := [(0, vR t)]) ⟨rfl, trivial⟩ ?_
      exact whd_hasLinks_307 h (kI 0) t W
    refine j_runA hx 1 (tb := [(302, .iconst 1)]) (jtb_ok (by decide +kernel)) (pc' := 303) (lv' := [(0, vR t), (1, vI l1)]) (st' := [vI (kI 1), vR t]) rfl ?_
    refine j_goto hx (off := 4) (by decide +kernel) (tgt := 307) (by decide) ?_
    refine j_lv (lv' := [(0, vR t)]) ⟨rfl, trivial⟩ ?_
    exact whd_hasLinks_307 h (kI 1) t W
  refine j_runA hx 2 (tb := [(135, .aload_n 0), (136, .iload_n 1)]) (jtb_ok (by decide +kernel)) (pc' := 137) (lv' := [(0, vR t), (1, vI l1)]) (st' := [vI l1, vR t]) rfl ?_
  refine j_OI (j_callV (av := [vI l1]) (st := []) hx hr (Or.inl q2877) q2878 q2879 rfl md_fhd_what np_fhd_what (chd_what t l1 W) (by decide) (Nat.le_of_ble_eq_true rfl) h26 (by decide) (by decide +kernel)) (fun q28 _ => ?_)
  refine j_runA hx 1 (tb := [(140, .iconst 4)]) (jtb_ok (by decide +kernel)) (pc' := 141) (lv' := [(0, vR t), (1, vI l1)]) (st' := [vI (kI 4), vI q28]) rfl ?_
  refine j_icmp_eq hx (off := 6) (tgt := 147) (by decide +kernel) (by decide) (fun _ => ?_) (fun _ => ?_)
  · refine j_runA hx 3 (tb := [(147, .aload_n 0), (148, .aload_n 0), (149, .iload_n 1)]) (jtb_ok (by decide +kernel)) (pc' := 150) (lv' := [(0, vR t), (1, vI l1)]) (st' := [vI l1, vR t, vR t]) rfl ?_
    refine j_OI (j_callV (av := [vI l1]) (st := [vR t]) hx hr (Or.inl q2870) q2872 qs129 rfl md_fhd_head np_fhd_head (chd_head t l1 W) (by decide) (Nat.le_of_ble_eq_true rfl) h26 (by decide) (by decide +kernel)) (fun q29 _ => ?_)
    refine j_runA hx 4 (tb := [(153, .bipush 44), (155, .iadd), (156, .i2l), (157, .iconst 4)]) (jtb_ok (by decide +kernel)) (pc' := 158) (lv' := [(0, vR t), (1, vI l1)]) (st' := [vI (kI 4), vL ((q29 + (kI 44)).toInt64), vR t]) rfl ?_
    refine j_OL (j_callV (av := [vL ((q29 + (kI 44)).toInt64), vI (kI 4)]) (st := []) hx hr (Or.inl q2822) q2823 q2824 rfl md_fhd_num np_fhd_num (chd_num t ((q29 + (kI 44)).toInt64) (kI 4) W) (by decide) (Nat.le_of_ble_eq_true rfl) h26 (by decide) (by decide +kernel)) (fun q30 _ => ?_)
    refine j_runA hx 3 (tb := [(161, .lstore_n 2), (162, .lload_n 2), (163, .lconst 1)]) (jtb_ok (by decide +kernel)) (pc' := 164) (lv' := [(2, vL q30), (0, vR t), (1, vI l1)]) (st' := [vL (kJ 1), vL q30]) rfl ?_
    refine j_lcmp_lt hx (off := 37) (tgt := 202) (by decide +kernel) (by decide +kernel) (by decide) (fun _ => ?_) (fun _ => ?_)
    · refine j_lv (lv' := [(0, vR t), (1, vI l1), (2, vL q30)]) ⟨rfl, rfl, rfl, trivial⟩ ?_
      exact whd_hasLinks_202 h l1 q30 W
    refine j_runA hx 2 (tb := [(168, .lload_n 2), (169, .aload_n 0)]) (jtb_ok (by decide +kernel)) (pc' := 170) (lv' := [(2, vL q30), (0, vR t), (1, vI l1)]) (st' := [vR t, vL q30]) rfl ?_
    refine j_getI hx flX9_126 kd1403 h26 (by decide) (by decide +kernel) ?_
    refine j_runA hx 1 (tb := [(173, .i2l)]) (jtb_ok (by decide +kernel)) (pc' := 174) (lv' := [(2, vL q30), (0, vR t), (1, vI l1)]) (st' := [vL ((jI W 1403 t).toInt64), vL q30]) rfl ?_
    refine j_lcmp_ge hx (off := 27) (tgt := 202) (by decide +kernel) (by decide +kernel) (by decide) (fun _ => ?_) (fun _ => ?_)
    · refine j_lv (lv' := [(0, vR t), (1, vI l1), (2, vL q30)]) ⟨rfl, rfl, rfl, trivial⟩ ?_
      exact whd_hasLinks_202 h l1 q30 W
    refine j_runA hx 3 (tb := [(178, .aload_n 0), (179, .lload_n 2), (180, .l2i)]) (jtb_ok (by decide +kernel)) (pc' := 181) (lv' := [(2, vL q30), (0, vR t), (1, vI l1)]) (st' := [vI q30.toInt32, vR t]) rfl ?_
    refine j_OI (j_callV (av := [vI q30.toInt32]) (st := []) hx hr (Or.inl q2877) q2878 q2879 rfl md_fhd_what np_fhd_what (chd_what t q30.toInt32 W) (by decide) (Nat.le_of_ble_eq_true rfl) h26 (by decide) (by decide +kernel)) (fun q31 _ => ?_)
    refine j_runA hx 1 (tb := [(184, .iconst 1)]) (jtb_ok (by decide +kernel)) (pc' := 185) (lv' := [(2, vL q30), (0, vR t), (1, vI l1)]) (st' := [vI (kI 1), vI q31]) rfl ?_
    refine j_icmp_eq hx (off := 13) (tgt := 198) (by decide +kernel) (by decide) (fun _ => ?_) (fun _ => ?_)
    · refine j_lv (lv' := [(0, vR t), (1, vI l1), (2, vL q30)]) ⟨rfl, rfl, rfl, trivial⟩ ?_
      exact whd_hasLinks_198 h l1 q30 W
    refine j_runA hx 3 (tb := [(188, .aload_n 0), (189, .lload_n 2), (190, .l2i)]) (jtb_ok (by decide +kernel)) (pc' := 191) (lv' := [(2, vL q30), (0, vR t), (1, vI l1)]) (st' := [vI q30.toInt32, vR t]) rfl ?_
    refine j_OI (j_callV (av := [vI q30.toInt32]) (st := []) hx hr (Or.inl q2877) q2878 q2879 rfl md_fhd_what np_fhd_what (chd_what t q30.toInt32 W) (by decide) (Nat.le_of_ble_eq_true rfl) h26 (by decide) (by decide +kernel)) (fun q32 _ => ?_)
    refine j_runA hx 1 (tb := [(194, .iconst 5)]) (jtb_ok (by decide +kernel)) (pc' := 195) (lv' := [(2, vL q30), (0, vR t), (1, vI l1)]) (st' := [vI (kI 5), vI q32]) rfl ?_
    refine j_icmp_ne hx (off := 7) (tgt := 202) (by decide +kernel) (by decide) (fun _ => ?_) (fun _ => ?_)
    · refine j_lv (lv' := [(0, vR t), (1, vI l1), (2, vL q30)]) ⟨rfl, rfl, rfl, trivial⟩ ?_
      exact whd_hasLinks_202 h l1 q30 W
    refine j_lv (lv' := [(0, vR t), (1, vI l1), (2, vL q30)]) ⟨rfl, rfl, rfl, trivial⟩ ?_
    exact whd_hasLinks_198 h l1 q30 W
  refine j_goto hx (off := 138) (by decide +kernel) (tgt := 282) (by decide) ?_
  exact whd_hasLinks_282 h l1 W
theorem whd_hasLinks_2 {x : jCx} {en : (fhd_hasLinks_S ⊕ (Int32 × jW)) → Option (Outcome × jW)} {t : Nat} (h : hhd_hasLinks x en t) (l1 : Int32) (W : jW) : jJ x 6 2 [(0, vR t), (1, vI l1)] [] W (fhd_hasLinks_2 t l1 W) en := by
  have h0 := h
  obtain ⟨hx, hm, hr, he, k2, k127, k208, k320⟩ := h0
  unfold fhd_hasLinks_2
  refine j_runA hx 2 (tb := [(2, .iload_n 1), (3, .aload_n 0)]) (jtb_ok (by decide +kernel)) (pc' := 4) (lv' := [(0, vR t), (1, vI l1)]) (st' := [vR t, vI l1]) rfl ?_
  refine j_gd (fun h2 => ?_)
  refine j_getI hx flX9_126 kd1403 h2 (by decide) (by decide +kernel) ?_
  refine j_icmp_ge hx (off := 118) (tgt := 125) (by decide +kernel) (by decide) (fun _ => ?_) (fun _ => ?_)
  · refine j_runA hx 2 (tb := [(125, .iconst 1), (126, .istore_n 1)]) (jtb_ok (by decide +kernel)) (pc' := 127) (lv' := [(1, vI (kI 1)), (0, vR t)]) (st' := []) rfl ?_
    refine j_lv (lv' := [(0, vR t), (1, vI (kI 1))]) ⟨rfl, rfl, trivial⟩ ?_
    exact k127 (kI 1) W
  refine j_runA hx 3 (tb := [(10, .aload_n 0), (11, .aload_n 0), (12, .iload_n 1)]) (jtb_ok (by decide +kernel)) (pc' := 13) (lv' := [(0, vR t), (1, vI l1)]) (st' := [vI l1, vR t, vR t]) rfl ?_
  refine j_OI (j_callV (av := [vI l1]) (st := [vR t]) hx hr (Or.inl q2870) q2872 qs129 rfl md_fhd_head np_fhd_head (chd_head t l1 W) (by decide) (Nat.le_of_ble_eq_true rfl) h2 (by decide) (by decide +kernel)) (fun q3 _ => ?_)
  refine j_runA hx 4 (tb := [(16, .bipush 40), (18, .iadd), (19, .i2l), (20, .iconst 4)]) (jtb_ok (by decide +kernel)) (pc' := 21) (lv' := [(0, vR t), (1, vI l1)]) (st' := [vI (kI 4), vL ((q3 + (kI 40)).toInt64), vR t]) rfl ?_
  refine j_OL (j_callV (av := [vL ((q3 + (kI 40)).toInt64), vI (kI 4)]) (st := []) hx hr (Or.inl q2822) q2823 q2824 rfl md_fhd_num np_fhd_num (chd_num t ((q3 + (kI 40)).toInt64) (kI 4) W) (by decide) (Nat.le_of_ble_eq_true rfl) h2 (by decide) (by decide +kernel)) (fun q4 _ => ?_)
  refine j_runA hx 3 (tb := [(24, .lstore_n 2), (25, .aload_n 0), (26, .iload_n 1)]) (jtb_ok (by decide +kernel)) (pc' := 27) (lv' := [(2, vL q4), (0, vR t), (1, vI l1)]) (st' := [vI l1, vR t]) rfl ?_
  refine j_OI (j_callV (av := [vI l1]) (st := []) hx hr (Or.inl q2877) q2878 q2879 rfl md_fhd_what np_fhd_what (chd_what t l1 W) (by decide) (Nat.le_of_ble_eq_true rfl) h2 (by decide) (by decide +kernel)) (fun q5 _ => ?_)
  refine j_runA hx 1 (tb := [(30, .iconst 2)]) (jtb_ok (by decide +kernel)) (pc' := 31) (lv' := [(2, vL q4), (0, vR t), (1, vI l1)]) (st' := [vI (kI 2), vI q5]) rfl ?_
  refine j_icmp_ne hx (off := 46) (tgt := 77) (by decide +kernel) (by decide) (fun _ => ?_) (fun _ => ?_)
  · refine j_lv (lv' := [(0, vR t), (1, vI l1), (2, vL q4)]) ⟨rfl, rfl, rfl, trivial⟩ ?_
    exact whd_hasLinks_77 h l1 q4 W
  refine j_runA hx 3 (tb := [(34, .aload_n 0), (35, .lload_n 2), (36, .aload_n 0)]) (jtb_ok (by decide +kernel)) (pc' := 37) (lv' := [(2, vL q4), (0, vR t), (1, vI l1)]) (st' := [vR t, vL q4, vR t]) rfl ?_
  refine j_getI hx flX9_126 kd1403 h2 (by decide) (by decide +kernel) ?_
  refine j_runA hx 1 (tb := [(40, .i2l)]) (jtb_ok (by decide +kernel)) (pc' := 41) (lv' := [(2, vL q4), (0, vR t), (1, vI l1)]) (st' := [vL ((jI W 1403 t).toInt64), vL q4, vR t]) rfl ?_
  refine j_lcmp_ge hx (off := 17) (tgt := 59) (by decide +kernel) (by decide +kernel) (by decide) (fun _ => ?_) (fun _ => ?_)
  · refine j_lv (lv' := [(0, vR t), (1, vI l1), (2, vL q4)]) ⟨rfl, rfl, rfl, trivial⟩ ?_
    exact whd_hasLinks_59 h l1 q4 t W
  refine j_runA hx 3 (tb := [(45, .aload_n 0), (46, .lload_n 2), (47, .l2i)]) (jtb_ok (by decide +kernel)) (pc' := 48) (lv' := [(2, vL q4), (0, vR t), (1, vI l1)]) (st' := [vI q4.toInt32, vR t, vR t]) rfl ?_
  refine j_OI (j_callV (av := [vI q4.toInt32]) (st := [vR t]) hx hr (Or.inl q2877) q2878 q2879 rfl md_fhd_what np_fhd_what (chd_what t q4.toInt32 W) (by decide) (Nat.le_of_ble_eq_true rfl) h2 (by decide) (by decide +kernel)) (fun q6 _ => ?_)
  refine j_runA hx 1 (tb := [(51, .iconst 3)]) (jtb_ok (by decide +kernel)) (pc' := 52) (lv' := [(2, vL q4), (0, vR t), (1, vI l1)]) (st' := [vI (kI 3), vI q6, vR t]) rfl ?_
  refine j_icmp_ne hx (off := 7) (tgt := 59) (by decide +kernel) (by decide) (fun _ => ?_) (fun _ => ?_)
  · refine j_lv (lv' := [(0, vR t), (1, vI l1), (2, vL q4)]) ⟨rfl, rfl, rfl, trivial⟩ ?_
    exact whd_hasLinks_59 h l1 q4 t W
  refine j_runA hx 1 (tb := [(55, .iconst 1)]) (jtb_ok (by decide +kernel)) (pc' := 56) (lv' := [(2, vL q4), (0, vR t), (1, vI l1)]) (st' := [vI (kI 1), vR t]) rfl ?_
  refine j_goto hx (off := 4) (by decide +kernel) (tgt := 60) (by decide) ?_
  refine j_lv (lv' := [(0, vR t), (1, vI l1), (2, vL q4)]) ⟨rfl, rfl, rfl, trivial⟩ ?_
  exact whd_hasLinks_60 h l1 q4 (kI 1) t W
theorem whd_hasLinks {x : jCx} {en : (fhd_hasLinks_S ⊕ (Int32 × jW)) → Option (Outcome × jW)} {t : Nat} (h : hhd_hasLinks x en t) (W : jW) : jJ x 6 0 [(0, vR t)] [] W (fhd_hasLinks_0 t W) en := by
  have h0 := h
  obtain ⟨hx, hm, hr, he, k2, k127, k208, k320⟩ := h0
  unfold fhd_hasLinks_0
  refine j_runA hx 2 (tb := [(0, .iconst 1), (1, .istore_n 1)]) (jtb_ok (by decide +kernel)) (pc' := 2) (lv' := [(1, vI (kI 1)), (0, vR t)]) (st' := []) rfl ?_
  refine j_lv (lv' := [(0, vR t), (1, vI (kI 1))]) ⟨rfl, rfl, trivial⟩ ?_
  exact k2 (kI 1) W
theorem chd_hasLinks (t : Nat) (W : jW) : jM yX9_hasLinks cX9_hasLinks 6 (Option.some Jvm.ClassFile.FieldType.boolean) [] 1 19 [vR t] W ((fhd_hasLinks t W).bind (fun q => some (.returned (some (.int q.1)), q.2))) := by
  refine jM.of (Nat.le_of_ble_eq_true rfl) (fun x hx hm hr => ?_)
  refine j_begin (P := (Sum.elim (fun s => (2, [(0, vR t), (1, vI s.1)], s.2)) (Sum.elim (fun s => (127, [(0, vR t), (1, vI s.1)], s.2)) (Sum.elim (fun s => (208, [(0, vR t), (1, vI s.1), (2, vL s.2.1), (4, vI s.2.2.1), (5, vI s.2.2.2.1)], s.2.2.2.2)) (fun s => (320, [(0, vR t), (1, vI s.1)], s.2)))))) (fun en he hk => ?_)
  have h : hhd_hasLinks x en t := ⟨hx, hm, hr, fun q => he _, fun l1 W => hk (.inl (l1, W)), fun l1 W => hk (.inr (.inl (l1, W))), fun l1 l2 l4 l5 W => hk (.inr (.inr (.inl (l1, l2, l4, l5, W)))), fun l1 W => hk (.inr (.inr (.inr (l1, W))))⟩
  refine ⟨fun s => ?_, whd_hasLinks h W⟩
  rcases s with s | s | s | s
  · exact whd_hasLinks_2 h s.1 s.2
  · exact whd_hasLinks_127 h s.1 s.2
  · exact whd_hasLinks_208 h s.1 s.2.1 s.2.2.1 s.2.2.2.1 s.2.2.2.2
  · exact whd_hasLinks_320 h s.1 s.2
