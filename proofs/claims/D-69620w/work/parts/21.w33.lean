/-! ===== walks: fmo_isRight fmo_isIf fmo_functionAt fmo_isFirst fmo_goesRight fmo_lead fmo_close ===== -/
set_option maxRecDepth 100000
def hmo_isRight (x : jCx) (en : (Int32 × jW) → Option (Outcome × jW)) (t : Nat) (a1 : Int32) (a2 : Int64) : Prop :=
  jOK x RX8 cX8_isRight 14 ∧
  jMt x "isRight" (Option.some Jvm.ClassFile.FieldType.boolean) [] ∧
  jRm x 3 43 ∧
  (∀ q : Int32 × jW, en q = some (.returned (some (.int q.1)), q.2))
theorem wmo_isRight_414 {x : jCx} {en : (Int32 × jW) → Option (Outcome × jW)} {t : Nat} {a1 : Int32} {a2 : Int64} (h : hmo_isRight x en t a1 a2) (l5 : Int64) (l9 : Int32) (W : jW) : jJ x 14 414 [(0, vR t), (1, vI a1), (2, vL a2), (5, vL l5), (9, vI l9)] [] W (fmo_isRight_414 t a1 a2 l5 l9 W) en := by
  have h0 := h
  obtain ⟨hx, hm, hr, he⟩ := h0
  unfold fmo_isRight_414
  refine j_runA hx 1 (tb := [(414, .iload 9)]) (jtb_ok (by decide +kernel)) (pc' := 416) (lv' := [(0, vR t), (1, vI a1), (2, vL a2), (5, vL l5), (9, vI l9)]) (st' := [vI l9]) rfl ?_
  refine j_if_eq hx (off := 22) (tgt := 438) (by decide +kernel) (by decide) (fun _ => ?_) (fun _ => ?_)
  · refine j_runA hx 2 (tb := [(438, .lload 5), (440, .aload_n 0)]) (jtb_ok (by decide +kernel)) (pc' := 441) (lv' := [(0, vR t), (1, vI a1), (2, vL a2), (5, vL l5), (9, vI l9)]) (st' := [vR t, vL l5]) rfl ?_
    refine j_gd (fun h26 => ?_)
    refine j_getL hx flX8_310 kd1313 h26 (by decide) (by decide +kernel) ?_
    refine j_ldc2 hx (v := (kJ 4)) (jkd2 q2931 (by decide +kernel)) (by decide +kernel) ?_
    refine j_runA hx 1 (tb := [(447, .aload_n 0)]) (jtb_ok (by decide +kernel)) (pc' := 448) (lv' := [(0, vR t), (1, vI a1), (2, vL a2), (5, vL l5), (9, vI l9)]) (st' := [vR t, vL (kJ 4), vL (jL W 1313 t), vL l5]) rfl ?_
    refine j_getI hx flX8_316 kd1310 h26 (by decide) (by decide +kernel) ?_
    refine j_runA hx 3 (tb := [(451, .i2l), (452, .lmul), (453, .ladd)]) (jtb_ok (by decide +kernel)) (pc' := 454) (lv' := [(0, vR t), (1, vI a1), (2, vL a2), (5, vL l5), (9, vI l9)]) (st' := [vL ((jL W 1313 t) + ((kJ 4) * ((jI W 1310 t).toInt64))), vL l5]) rfl ?_
    refine j_lcmp_eq hx (off := 7) (tgt := 462) (by decide +kernel) (by decide +kernel) (by decide) (fun _ => ?_) (fun _ => ?_)
    · refine j_runA hx 1 (tb := [(462, .iconst 0)]) (jtb_ok (by decide +kernel)) (pc' := 463) (lv' := [(0, vR t), (1, vI a1), (2, vL a2), (5, vL l5), (9, vI l9)]) (st' := [vI (kI 0)]) rfl ?_
      exact j_iret hx hm (by decide +kernel) jz0n (he _)
    refine j_runA hx 1 (tb := [(458, .iconst 1)]) (jtb_ok (by decide +kernel)) (pc' := 459) (lv' := [(0, vR t), (1, vI a1), (2, vL a2), (5, vL l5), (9, vI l9)]) (st' := [vI (kI 1)]) rfl ?_
    refine j_goto hx (off := 4) (by decide +kernel) (tgt := 463) (by decide) ?_
    exact j_iret hx hm (by decide +kernel) jz1n (he _)
  refine j_runA hx 1 (tb := [(419, .lload 5)]) (jtb_ok (by decide +kernel)) (pc' := 421) (lv' := [(0, vR t), (1, vI a1), (2, vL a2), (5, vL l5), (9, vI l9)]) (st' := [vL l5]) rfl ?_
  refine j_ldc2 hx (v := (kJ 3)) (jkd2 q3034 (by decide +kernel)) (by decide +kernel) ?_
  refine j_runA hx 2 (tb := [(424, .land), (425, .lconst 0)]) (jtb_ok (by decide +kernel)) (pc' := 426) (lv' := [(0, vR t), (1, vI a1), (2, vL a2), (5, vL l5), (9, vI l9)]) (st' := [vL (kJ 0), vL (l5 &&& (kJ 3))]) rfl ?_
  refine j_lcmp_ne hx (off := 7) (tgt := 434) (by decide +kernel) (by decide +kernel) (by decide) (fun _ => ?_) (fun _ => ?_)
  · refine j_runA hx 1 (tb := [(434, .iconst 0)]) (jtb_ok (by decide +kernel)) (pc' := 435) (lv' := [(0, vR t), (1, vI a1), (2, vL a2), (5, vL l5), (9, vI l9)]) (st' := [vI (kI 0)]) rfl ?_
    refine j_goto hx (off := 28) (by decide +kernel) (tgt := 463) (by decide) ?_
    exact j_iret hx hm (by decide +kernel) jz0n (he _)
  refine j_runA hx 1 (tb := [(430, .iconst 1)]) (jtb_ok (by decide +kernel)) (pc' := 431) (lv' := [(0, vR t), (1, vI a1), (2, vL a2), (5, vL l5), (9, vI l9)]) (st' := [vI (kI 1)]) rfl ?_
  refine j_goto hx (off := 32) (by decide +kernel) (tgt := 463) (by decide) ?_
  exact j_iret hx hm (by decide +kernel) jz1n (he _)
theorem wmo_isRight_200 {x : jCx} {en : (Int32 × jW) → Option (Outcome × jW)} {t : Nat} {a1 : Int32} {a2 : Int64} (h : hmo_isRight x en t a1 a2) (W : jW) : jJ x 14 200 [(0, vR t), (1, vI a1), (2, vL a2)] [] W (fmo_isRight_200 t a1 a2 W) en := by
  have h0 := h
  obtain ⟨hx, hm, hr, he⟩ := h0
  unfold fmo_isRight_200
  refine j_runA hx 1 (tb := [(200, .iconst 0)]) (jtb_ok (by decide +kernel)) (pc' := 201) (lv' := [(0, vR t), (1, vI a1), (2, vL a2)]) (st' := [vI (kI 0)]) rfl ?_
  exact j_iret hx hm (by decide +kernel) jz0n (he _)
theorem wmo_isRight_260 {x : jCx} {en : (Int32 × jW) → Option (Outcome × jW)} {t : Nat} {a1 : Int32} {a2 : Int64} (h : hmo_isRight x en t a1 a2) (W : jW) : jJ x 14 260 [(0, vR t), (1, vI a1), (2, vL a2)] [] W (fmo_isRight_260 t a1 a2 W) en := by
  have h0 := h
  obtain ⟨hx, hm, hr, he⟩ := h0
  unfold fmo_isRight_260
  refine j_runA hx 1 (tb := [(260, .iconst 0)]) (jtb_ok (by decide +kernel)) (pc' := 261) (lv' := [(0, vR t), (1, vI a1), (2, vL a2)]) (st' := [vI (kI 0)]) rfl ?_
  exact j_iret hx hm (by decide +kernel) jz0n (he _)
theorem wmo_isRight_353 {x : jCx} {en : (Int32 × jW) → Option (Outcome × jW)} {t : Nat} {a1 : Int32} {a2 : Int64} (h : hmo_isRight x en t a1 a2) (W : jW) : jJ x 14 353 [(0, vR t), (1, vI a1), (2, vL a2)] [] W (fmo_isRight_353 t a1 a2 W) en := by
  have h0 := h
  obtain ⟨hx, hm, hr, he⟩ := h0
  unfold fmo_isRight_353
  refine j_runA hx 1 (tb := [(353, .iconst 0)]) (jtb_ok (by decide +kernel)) (pc' := 354) (lv' := [(0, vR t), (1, vI a1), (2, vL a2)]) (st' := [vI (kI 0)]) rfl ?_
  exact j_iret hx hm (by decide +kernel) jz0n (he _)
theorem wmo_isRight_412 {x : jCx} {en : (Int32 × jW) → Option (Outcome × jW)} {t : Nat} {a1 : Int32} {a2 : Int64} (h : hmo_isRight x en t a1 a2) (W : jW) : jJ x 14 412 [(0, vR t), (1, vI a1), (2, vL a2)] [] W (fmo_isRight_412 t a1 a2 W) en := by
  have h0 := h
  obtain ⟨hx, hm, hr, he⟩ := h0
  unfold fmo_isRight_412
  refine j_runA hx 1 (tb := [(412, .iconst 0)]) (jtb_ok (by decide +kernel)) (pc' := 413) (lv' := [(0, vR t), (1, vI a1), (2, vL a2)]) (st' := [vI (kI 0)]) rfl ?_
  exact j_iret hx hm (by decide +kernel) jz0n (he _)
theorem wmo_isRight_388 {x : jCx} {en : (Int32 × jW) → Option (Outcome × jW)} {t : Nat} {a1 : Int32} {a2 : Int64} (h : hmo_isRight x en t a1 a2) (l5 : Int64) (l7 : Int64) (l9 : Int32) (l11 : Int32) (l12 : Int32) (s0 : Int32) (s1 : Int32) (W : jW) : jJ x 14 388 [(0, vR t), (1, vI a1), (2, vL a2), (5, vL l5), (7, vL l7), (9, vI l9), (11, vI l11), (12, vI l12)] [vI s0, vI s1] W (fmo_isRight_388 t a1 a2 l5 l7 l9 l11 l12 s0 s1 W) en := by
  have h0 := h
  obtain ⟨hx, hm, hr, he⟩ := h0
  unfold fmo_isRight_388
  refine j_icmp_ne hx (off := 24) (tgt := 412) (by decide +kernel) (by decide) (fun _ => ?_) (fun _ => ?_)
  · refine j_lv (lv' := [(0, vR t), (1, vI a1), (2, vL a2)]) ⟨rfl, rfl, rfl, trivial⟩ ?_
    exact wmo_isRight_412 h W
  refine j_runA hx 1 (tb := [(391, .lload 7)]) (jtb_ok (by decide +kernel)) (pc' := 393) (lv' := [(0, vR t), (1, vI a1), (2, vL a2), (5, vL l5), (7, vL l7), (9, vI l9), (11, vI l11), (12, vI l12)]) (st' := [vL l7]) rfl ?_
  refine j_ldc2 hx (v := (kJ 4)) (jkd2 q2931 (by decide +kernel)) (by decide +kernel) ?_
  refine j_runA hx 2 (tb := [(396, .iload 11), (398, .iload 12)]) (jtb_ok (by decide +kernel)) (pc' := 400) (lv' := [(0, vR t), (1, vI a1), (2, vL a2), (5, vL l5), (7, vL l7), (9, vI l9), (11, vI l11), (12, vI l12)]) (st' := [vI l12, vI l11, vL (kJ 4), vL l7]) rfl ?_
  refine j_TI (j_callS (av := [vI l11, vI l12]) (st := [vL (kJ 4), vL l7]) hx hr (Or.inl q3031) q3032 q241 md_fmo_far np_fmo_far (cmo_far l11 l12 W) (by decide) (Nat.le_of_ble_eq_true rfl) (by decide +kernel)) ?_
  refine j_runA hx 4 (tb := [(403, .i2l), (404, .lmul), (405, .ladd), (406, .lload 5)]) (jtb_ok (by decide +kernel)) (pc' := 408) (lv' := [(0, vR t), (1, vI a1), (2, vL a2), (5, vL l5), (7, vL l7), (9, vI l9), (11, vI l11), (12, vI l12)]) (st' := [vL l5, vL (l7 + ((kJ 4) * ((fmo_far l11 l12).toInt64)))]) rfl ?_
  refine j_lcmp_eq hx (off := 5) (tgt := 414) (by decide +kernel) (by decide +kernel) (by decide) (fun _ => ?_) (fun _ => ?_)
  · refine j_lv (lv' := [(0, vR t), (1, vI a1), (2, vL a2), (5, vL l5), (9, vI l9)]) ⟨rfl, rfl, rfl, rfl, rfl, trivial⟩ ?_
    exact wmo_isRight_414 h l5 l9 W
  refine j_lv (lv' := [(0, vR t), (1, vI a1), (2, vL a2)]) ⟨rfl, rfl, rfl, trivial⟩ ?_
  exact wmo_isRight_412 h W
theorem wmo_isRight_371 {x : jCx} {en : (Int32 × jW) → Option (Outcome × jW)} {t : Nat} {a1 : Int32} {a2 : Int64} (h : hmo_isRight x en t a1 a2) (l4 : Int32) (l5 : Int64) (l7 : Int64) (l9 : Int32) (l11 : Int32) (l12 : Int32) (W : jW) : jJ x 14 371 [(0, vR t), (1, vI a1), (2, vL a2), (4, vI l4), (5, vL l5), (7, vL l7), (9, vI l9), (11, vI l11), (12, vI l12)] [] W (fmo_isRight_371 t a1 a2 l4 l5 l7 l9 l11 l12 W) en := by
  have h0 := h
  obtain ⟨hx, hm, hr, he⟩ := h0
  unfold fmo_isRight_371
  refine j_runA hx 3 (tb := [(371, .iload 12), (373, .iload 4), (375, .sipush 282)]) (jtb_ok (by decide +kernel)) (pc' := 378) (lv' := [(0, vR t), (1, vI a1), (2, vL a2), (4, vI l4), (5, vL l5), (7, vL l7), (9, vI l9), (11, vI l11), (12, vI l12)]) (st' := [vI (kI 282), vI l4, vI l12]) rfl ?_
  refine j_icmp_ne hx (off := 8) (tgt := 386) (by decide +kernel) (by decide) (fun _ => ?_) (fun _ => ?_)
  · refine j_runA hx 1 (tb := [(386, .bipush 13)]) (jtb_ok (by decide +kernel)) (pc' := 388) (lv' := [(0, vR t), (1, vI a1), (2, vL a2), (4, vI l4), (5, vL l5), (7, vL l7), (9, vI l9), (11, vI l11), (12, vI l12)]) (st' := [vI (kI 13), vI l12]) rfl ?_
    refine j_lv (lv' := [(0, vR t), (1, vI a1), (2, vL a2), (5, vL l5), (7, vL l7), (9, vI l9), (11, vI l11), (12, vI l12)]) ⟨rfl, rfl, rfl, rfl, rfl, rfl, rfl, rfl, trivial⟩ ?_
    exact wmo_isRight_388 h l5 l7 l9 l11 l12 (kI 13) l12 W
  refine j_runA hx 1 (tb := [(381, .bipush 12)]) (jtb_ok (by decide +kernel)) (pc' := 383) (lv' := [(0, vR t), (1, vI a1), (2, vL a2), (4, vI l4), (5, vL l5), (7, vL l7), (9, vI l9), (11, vI l11), (12, vI l12)]) (st' := [vI (kI 12), vI l12]) rfl ?_
  refine j_goto hx (off := 5) (by decide +kernel) (tgt := 388) (by decide) ?_
  refine j_lv (lv' := [(0, vR t), (1, vI a1), (2, vL a2), (5, vL l5), (7, vL l7), (9, vI l9), (11, vI l11), (12, vI l12)]) ⟨rfl, rfl, rfl, rfl, rfl, rfl, rfl, rfl, trivial⟩ ?_
  exact wmo_isRight_388 h l5 l7 l9 l11 l12 (kI 12) l12 W
theorem wmo_isRight_355 {x : jCx} {en : (Int32 × jW) → Option (Outcome × jW)} {t : Nat} {a1 : Int32} {a2 : Int64} (h : hmo_isRight x en t a1 a2) (l4 : Int32) (l5 : Int64) (l7 : Int64) (l9 : Int32) (l11 : Int32) (l12 : Int32) (W : jW) : jJ x 14 355 [(0, vR t), (1, vI a1), (2, vL a2), (4, vI l4), (5, vL l5), (7, vL l7), (9, vI l9), (11, vI l11), (12, vI l12)] [] W (fmo_isRight_355 t a1 a2 l4 l5 l7 l9 l11 l12 W) en := by
  have h0 := h
  obtain ⟨hx, hm, hr, he⟩ := h0
  unfold fmo_isRight_355
  refine j_runA hx 2 (tb := [(355, .iload 4), (357, .sipush 282)]) (jtb_ok (by decide +kernel)) (pc' := 360) (lv' := [(0, vR t), (1, vI a1), (2, vL a2), (4, vI l4), (5, vL l5), (7, vL l7), (9, vI l9), (11, vI l11), (12, vI l12)]) (st' := [vI (kI 282), vI l4]) rfl ?_
  refine j_icmp_eq hx (off := 11) (tgt := 371) (by decide +kernel) (by decide) (fun _ => ?_) (fun _ => ?_)
  · exact wmo_isRight_371 h l4 l5 l7 l9 l11 l12 W
  refine j_runA hx 2 (tb := [(363, .iload 4), (365, .sipush 283)]) (jtb_ok (by decide +kernel)) (pc' := 368) (lv' := [(0, vR t), (1, vI a1), (2, vL a2), (4, vI l4), (5, vL l5), (7, vL l7), (9, vI l9), (11, vI l11), (12, vI l12)]) (st' := [vI (kI 283), vI l4]) rfl ?_
  refine j_icmp_ne hx (off := 46) (tgt := 414) (by decide +kernel) (by decide) (fun _ => ?_) (fun _ => ?_)
  · refine j_lv (lv' := [(0, vR t), (1, vI a1), (2, vL a2), (5, vL l5), (9, vI l9)]) ⟨rfl, rfl, rfl, rfl, rfl, trivial⟩ ?_
    exact wmo_isRight_414 h l5 l9 W
  exact wmo_isRight_371 h l4 l5 l7 l9 l11 l12 W
theorem wmo_isRight_303 {x : jCx} {en : (Int32 × jW) → Option (Outcome × jW)} {t : Nat} {a1 : Int32} {a2 : Int64} (h : hmo_isRight x en t a1 a2) (l4 : Int32) (l5 : Int64) (l7 : Int64) (l9 : Int32) (l11 : Int32) (l12 : Int32) (s0 : Int32) (W : jW) : jJ x 14 303 [(0, vR t), (1, vI a1), (2, vL a2), (4, vI l4), (5, vL l5), (7, vL l7), (9, vI l9), (11, vI l11), (12, vI l12)] [vI s0] W (fmo_isRight_303 t a1 a2 l4 l5 l7 l9 l11 l12 s0 W) en := by
  have h0 := h
  obtain ⟨hx, hm, hr, he⟩ := h0
  unfold fmo_isRight_303
  refine j_runA hx 3 (tb := [(303, .istore 13), (305, .iload 12), (307, .bipush 9)]) (jtb_ok (by decide +kernel)) (pc' := 309) (lv' := [(13, vI s0), (0, vR t), (1, vI a1), (2, vL a2), (4, vI l4), (5, vL l5), (7, vL l7), (9, vI l9), (11, vI l11), (12, vI l12)]) (st' := [vI (kI 9), vI l12]) rfl ?_
  refine j_icmp_ne hx (off := 44) (tgt := 353) (by decide +kernel) (by decide) (fun _ => ?_) (fun _ => ?_)
  · refine j_lv (lv' := [(0, vR t), (1, vI a1), (2, vL a2)]) ⟨rfl, rfl, rfl, trivial⟩ ?_
    exact wmo_isRight_353 h W
  refine j_runA hx 3 (tb := [(312, .iload 11), (314, .bipush 30), (316, .iconst 2)]) (jtb_ok (by decide +kernel)) (pc' := 317) (lv' := [(13, vI s0), (0, vR t), (1, vI a1), (2, vL a2), (4, vI l4), (5, vL l5), (7, vL l7), (9, vI l9), (11, vI l11), (12, vI l12)]) (st' := [vI (kI 2), vI (kI 30), vI l11]) rfl ?_
  refine j_TI (j_callS (av := [vI l11, vI (kI 30), vI (kI 2)]) (st := []) hx hr (Or.inl q2963) q2964 q241 md_fmo_bits np_fmo_bits (cmo_bits l11 (kI 30) (kI 2) W) (by decide) (Nat.le_of_ble_eq_true rfl) (by decide +kernel)) ?_
  refine j_runA hx 1 (tb := [(320, .iload 13)]) (jtb_ok (by decide +kernel)) (pc' := 322) (lv' := [(13, vI s0), (0, vR t), (1, vI a1), (2, vL a2), (4, vI l4), (5, vL l5), (7, vL l7), (9, vI l9), (11, vI l11), (12, vI l12)]) (st' := [vI s0, vI (fmo_bits l11 (kI 30) (kI 2))]) rfl ?_
  refine j_icmp_ne hx (off := 31) (tgt := 353) (by decide +kernel) (by decide) (fun _ => ?_) (fun _ => ?_)
  · refine j_lv (lv' := [(0, vR t), (1, vI a1), (2, vL a2)]) ⟨rfl, rfl, rfl, trivial⟩ ?_
    exact wmo_isRight_353 h W
  refine j_runA hx 3 (tb := [(325, .iload 11), (327, .bipush 10), (329, .bipush 12)]) (jtb_ok (by decide +kernel)) (pc' := 331) (lv' := [(13, vI s0), (0, vR t), (1, vI a1), (2, vL a2), (4, vI l4), (5, vL l5), (7, vL l7), (9, vI l9), (11, vI l11), (12, vI l12)]) (st' := [vI (kI 12), vI (kI 10), vI l11]) rfl ?_
  refine j_TI (j_callS (av := [vI l11, vI (kI 10), vI (kI 12)]) (st := []) hx hr (Or.inl q2963) q2964 q241 md_fmo_bits np_fmo_bits (cmo_bits l11 (kI 10) (kI 12) W) (by decide) (Nat.le_of_ble_eq_true rfl) (by decide +kernel)) ?_
  refine j_runA hx 4 (tb := [(334, .iload 13), (336, .ishl), (337, .i2l), (338, .lload 5)]) (jtb_ok (by decide +kernel)) (pc' := 340) (lv' := [(13, vI s0), (0, vR t), (1, vI a1), (2, vL a2), (4, vI l4), (5, vL l5), (7, vL l7), (9, vI l9), (11, vI l11), (12, vI l12)]) (st' := [vL l5, vL ((ixl (fmo_bits l11 (kI 10) (kI 12)) s0).toInt64)]) rfl ?_
  refine j_ldc2 hx (v := (kJ 4095)) (jkd2 q3030 (by decide +kernel)) (by decide +kernel) ?_
  refine j_runA hx 1 (tb := [(343, .land)]) (jtb_ok (by decide +kernel)) (pc' := 344) (lv' := [(13, vI s0), (0, vR t), (1, vI a1), (2, vL a2), (4, vI l4), (5, vL l5), (7, vL l7), (9, vI l9), (11, vI l11), (12, vI l12)]) (st' := [vL (l5 &&& (kJ 4095)), vL ((ixl (fmo_bits l11 (kI 10) (kI 12)) s0).toInt64)]) rfl ?_
  refine j_lcmp_ne hx (off := 8) (tgt := 353) (by decide +kernel) (by decide +kernel) (by decide) (fun _ => ?_) (fun _ => ?_)
  · refine j_lv (lv' := [(0, vR t), (1, vI a1), (2, vL a2)]) ⟨rfl, rfl, rfl, trivial⟩ ?_
    exact wmo_isRight_353 h W
  refine j_runA hx 1 (tb := [(348, .iload 9)]) (jtb_ok (by decide +kernel)) (pc' := 350) (lv' := [(13, vI s0), (0, vR t), (1, vI a1), (2, vL a2), (4, vI l4), (5, vL l5), (7, vL l7), (9, vI l9), (11, vI l11), (12, vI l12)]) (st' := [vI l9]) rfl ?_
  refine j_if_eq hx (off := 5) (tgt := 355) (by decide +kernel) (by decide) (fun _ => ?_) (fun _ => ?_)
  · refine j_lv (lv' := [(0, vR t), (1, vI a1), (2, vL a2), (4, vI l4), (5, vL l5), (7, vL l7), (9, vI l9), (11, vI l11), (12, vI l12)]) ⟨rfl, rfl, rfl, rfl, rfl, rfl, rfl, rfl, rfl, trivial⟩ ?_
    exact wmo_isRight_355 h l4 l5 l7 l9 l11 l12 W
  refine j_lv (lv' := [(0, vR t), (1, vI a1), (2, vL a2)]) ⟨rfl, rfl, rfl, trivial⟩ ?_
  exact wmo_isRight_353 h W
theorem wmo_isRight_278 {x : jCx} {en : (Int32 × jW) → Option (Outcome × jW)} {t : Nat} {a1 : Int32} {a2 : Int64} (h : hmo_isRight x en t a1 a2) (l4 : Int32) (l5 : Int64) (l7 : Int64) (l9 : Int32) (l11 : Int32) (l12 : Int32) (W : jW) : jJ x 14 278 [(0, vR t), (1, vI a1), (2, vL a2), (4, vI l4), (5, vL l5), (7, vL l7), (9, vI l9), (11, vI l11), (12, vI l12)] [] W (fmo_isRight_278 t a1 a2 l4 l5 l7 l9 l11 l12 W) en := by
  have h0 := h
  obtain ⟨hx, hm, hr, he⟩ := h0
  unfold fmo_isRight_278
  refine j_runA hx 2 (tb := [(278, .iload 4), (280, .sipush 278)]) (jtb_ok (by decide +kernel)) (pc' := 283) (lv' := [(0, vR t), (1, vI a1), (2, vL a2), (4, vI l4), (5, vL l5), (7, vL l7), (9, vI l9), (11, vI l11), (12, vI l12)]) (st' := [vI (kI 278), vI l4]) rfl ?_
  refine j_icmp_ne hx (off := 7) (tgt := 290) (by decide +kernel) (by decide) (fun _ => ?_) (fun _ => ?_)
  · refine j_runA hx 2 (tb := [(290, .iload 4), (292, .sipush 285)]) (jtb_ok (by decide +kernel)) (pc' := 295) (lv' := [(0, vR t), (1, vI a1), (2, vL a2), (4, vI l4), (5, vL l5), (7, vL l7), (9, vI l9), (11, vI l11), (12, vI l12)]) (st' := [vI (kI 285), vI l4]) rfl ?_
    refine j_icmp_ne hx (off := 7) (tgt := 302) (by decide +kernel) (by decide) (fun _ => ?_) (fun _ => ?_)
    · refine j_runA hx 1 (tb := [(302, .iconst 3)]) (jtb_ok (by decide +kernel)) (pc' := 303) (lv' := [(0, vR t), (1, vI a1), (2, vL a2), (4, vI l4), (5, vL l5), (7, vL l7), (9, vI l9), (11, vI l11), (12, vI l12)]) (st' := [vI (kI 3)]) rfl ?_
      exact wmo_isRight_303 h l4 l5 l7 l9 l11 l12 (kI 3) W
    refine j_runA hx 1 (tb := [(298, .iconst 2)]) (jtb_ok (by decide +kernel)) (pc' := 299) (lv' := [(0, vR t), (1, vI a1), (2, vL a2), (4, vI l4), (5, vL l5), (7, vL l7), (9, vI l9), (11, vI l11), (12, vI l12)]) (st' := [vI (kI 2)]) rfl ?_
    refine j_goto hx (off := 4) (by decide +kernel) (tgt := 303) (by decide) ?_
    exact wmo_isRight_303 h l4 l5 l7 l9 l11 l12 (kI 2) W
  refine j_runA hx 1 (tb := [(286, .iconst 0)]) (jtb_ok (by decide +kernel)) (pc' := 287) (lv' := [(0, vR t), (1, vI a1), (2, vL a2), (4, vI l4), (5, vL l5), (7, vL l7), (9, vI l9), (11, vI l11), (12, vI l12)]) (st' := [vI (kI 0)]) rfl ?_
  refine j_goto hx (off := 16) (by decide +kernel) (tgt := 303) (by decide) ?_
  exact wmo_isRight_303 h l4 l5 l7 l9 l11 l12 (kI 0) W
theorem wmo_isRight_262 {x : jCx} {en : (Int32 × jW) → Option (Outcome × jW)} {t : Nat} {a1 : Int32} {a2 : Int64} (h : hmo_isRight x en t a1 a2) (l4 : Int32) (l5 : Int64) (l7 : Int64) (l9 : Int32) (l11 : Int32) (l12 : Int32) (W : jW) : jJ x 14 262 [(0, vR t), (1, vI a1), (2, vL a2), (4, vI l4), (5, vL l5), (7, vL l7), (9, vI l9), (11, vI l11), (12, vI l12)] [] W (fmo_isRight_262 t a1 a2 l4 l5 l7 l9 l11 l12 W) en := by
  have h0 := h
  obtain ⟨hx, hm, hr, he⟩ := h0
  unfold fmo_isRight_262
  refine j_runA hx 2 (tb := [(262, .iload 4), (264, .sipush 278)]) (jtb_ok (by decide +kernel)) (pc' := 267) (lv' := [(0, vR t), (1, vI a1), (2, vL a2), (4, vI l4), (5, vL l5), (7, vL l7), (9, vI l9), (11, vI l11), (12, vI l12)]) (st' := [vI (kI 278), vI l4]) rfl ?_
  refine j_icmp_eq hx (off := 11) (tgt := 278) (by decide +kernel) (by decide) (fun _ => ?_) (fun _ => ?_)
  · exact wmo_isRight_278 h l4 l5 l7 l9 l11 l12 W
  refine j_runA hx 2 (tb := [(270, .iload 4), (272, .sipush 285)]) (jtb_ok (by decide +kernel)) (pc' := 275) (lv' := [(0, vR t), (1, vI a1), (2, vL a2), (4, vI l4), (5, vL l5), (7, vL l7), (9, vI l9), (11, vI l11), (12, vI l12)]) (st' := [vI (kI 285), vI l4]) rfl ?_
  refine j_icmp_lt hx (off := 80) (tgt := 355) (by decide +kernel) (by decide) (fun _ => ?_) (fun _ => ?_)
  · exact wmo_isRight_355 h l4 l5 l7 l9 l11 l12 W
  exact wmo_isRight_278 h l4 l5 l7 l9 l11 l12 W
theorem wmo_isRight_202 {x : jCx} {en : (Int32 × jW) → Option (Outcome × jW)} {t : Nat} {a1 : Int32} {a2 : Int64} (h : hmo_isRight x en t a1 a2) (l4 : Int32) (l5 : Int64) (l7 : Int64) (l9 : Int32) (l11 : Int32) (l12 : Int32) (W : jW) : jJ x 14 202 [(0, vR t), (1, vI a1), (2, vL a2), (4, vI l4), (5, vL l5), (7, vL l7), (9, vI l9), (11, vI l11), (12, vI l12)] [] W (fmo_isRight_202 t a1 a2 l4 l5 l7 l9 l11 l12 W) en := by
  have h0 := h
  obtain ⟨hx, hm, hr, he⟩ := h0
  unfold fmo_isRight_202
  refine j_runA hx 2 (tb := [(202, .iload 4), (204, .sipush 277)]) (jtb_ok (by decide +kernel)) (pc' := 207) (lv' := [(0, vR t), (1, vI a1), (2, vL a2), (4, vI l4), (5, vL l5), (7, vL l7), (9, vI l9), (11, vI l11), (12, vI l12)]) (st' := [vI (kI 277), vI l4]) rfl ?_
  refine j_icmp_ne hx (off := 55) (tgt := 262) (by decide +kernel) (by decide) (fun _ => ?_) (fun _ => ?_)
  · exact wmo_isRight_262 h l4 l5 l7 l9 l11 l12 W
  refine j_runA hx 2 (tb := [(210, .iload 12), (212, .iconst 1)]) (jtb_ok (by decide +kernel)) (pc' := 213) (lv' := [(0, vR t), (1, vI a1), (2, vL a2), (4, vI l4), (5, vL l5), (7, vL l7), (9, vI l9), (11, vI l11), (12, vI l12)]) (st' := [vI (kI 1), vI l12]) rfl ?_
  refine j_icmp_ne hx (off := 47) (tgt := 260) (by decide +kernel) (by decide) (fun _ => ?_) (fun _ => ?_)
  · refine j_lv (lv' := [(0, vR t), (1, vI a1), (2, vL a2)]) ⟨rfl, rfl, rfl, trivial⟩ ?_
    exact wmo_isRight_260 h W
  refine j_runA hx 3 (tb := [(216, .iload 11), (218, .bipush 29), (220, .iconst 3)]) (jtb_ok (by decide +kernel)) (pc' := 221) (lv' := [(0, vR t), (1, vI a1), (2, vL a2), (4, vI l4), (5, vL l5), (7, vL l7), (9, vI l9), (11, vI l11), (12, vI l12)]) (st' := [vI (kI 3), vI (kI 29), vI l11]) rfl ?_
  refine j_TI (j_callS (av := [vI l11, vI (kI 29), vI (kI 3)]) (st := []) hx hr (Or.inl q2963) q2964 q241 md_fmo_bits np_fmo_bits (cmo_bits l11 (kI 29) (kI 3) W) (by decide) (Nat.le_of_ble_eq_true rfl) (by decide +kernel)) ?_
  refine j_runA hx 1 (tb := [(224, .iconst 4)]) (jtb_ok (by decide +kernel)) (pc' := 225) (lv' := [(0, vR t), (1, vI a1), (2, vL a2), (4, vI l4), (5, vL l5), (7, vL l7), (9, vI l9), (11, vI l11), (12, vI l12)]) (st' := [vI (kI 4), vI (fmo_bits l11 (kI 29) (kI 3))]) rfl ?_
  refine j_icmp_ne hx (off := 35) (tgt := 260) (by decide +kernel) (by decide) (fun _ => ?_) (fun _ => ?_)
  · refine j_lv (lv' := [(0, vR t), (1, vI a1), (2, vL a2)]) ⟨rfl, rfl, rfl, trivial⟩ ?_
    exact wmo_isRight_260 h W
  refine j_runA hx 3 (tb := [(228, .iload 11), (230, .bipush 22), (232, .iconst 1)]) (jtb_ok (by decide +kernel)) (pc' := 233) (lv' := [(0, vR t), (1, vI a1), (2, vL a2), (4, vI l4), (5, vL l5), (7, vL l7), (9, vI l9), (11, vI l11), (12, vI l12)]) (st' := [vI (kI 1), vI (kI 22), vI l11]) rfl ?_
  refine j_TI (j_callS (av := [vI l11, vI (kI 22), vI (kI 1)]) (st := []) hx hr (Or.inl q2963) q2964 q241 md_fmo_bits np_fmo_bits (cmo_bits l11 (kI 22) (kI 1) W) (by decide) (Nat.le_of_ble_eq_true rfl) (by decide +kernel)) ?_
  refine j_runA hx 1 (tb := [(236, .iconst 1)]) (jtb_ok (by decide +kernel)) (pc' := 237) (lv' := [(0, vR t), (1, vI a1), (2, vL a2), (4, vI l4), (5, vL l5), (7, vL l7), (9, vI l9), (11, vI l11), (12, vI l12)]) (st' := [vI (kI 1), vI (fmo_bits l11 (kI 22) (kI 1))]) rfl ?_
  refine j_icmp_eq hx (off := 23) (tgt := 260) (by decide +kernel) (by decide) (fun _ => ?_) (fun _ => ?_)
  · refine j_lv (lv' := [(0, vR t), (1, vI a1), (2, vL a2)]) ⟨rfl, rfl, rfl, trivial⟩ ?_
    exact wmo_isRight_260 h W
  refine j_runA hx 3 (tb := [(240, .iload 11), (242, .bipush 10), (244, .bipush 12)]) (jtb_ok (by decide +kernel)) (pc' := 246) (lv' := [(0, vR t), (1, vI a1), (2, vL a2), (4, vI l4), (5, vL l5), (7, vL l7), (9, vI l9), (11, vI l11), (12, vI l12)]) (st' := [vI (kI 12), vI (kI 10), vI l11]) rfl ?_
  refine j_TI (j_callS (av := [vI l11, vI (kI 10), vI (kI 12)]) (st := []) hx hr (Or.inl q2963) q2964 q241 md_fmo_bits np_fmo_bits (cmo_bits l11 (kI 10) (kI 12) W) (by decide) (Nat.le_of_ble_eq_true rfl) (by decide +kernel)) ?_
  refine j_runA hx 2 (tb := [(249, .i2l), (250, .lload 5)]) (jtb_ok (by decide +kernel)) (pc' := 252) (lv' := [(0, vR t), (1, vI a1), (2, vL a2), (4, vI l4), (5, vL l5), (7, vL l7), (9, vI l9), (11, vI l11), (12, vI l12)]) (st' := [vL l5, vL ((fmo_bits l11 (kI 10) (kI 12)).toInt64)]) rfl ?_
  refine j_ldc2 hx (v := (kJ 4095)) (jkd2 q3030 (by decide +kernel)) (by decide +kernel) ?_
  refine j_runA hx 1 (tb := [(255, .land)]) (jtb_ok (by decide +kernel)) (pc' := 256) (lv' := [(0, vR t), (1, vI a1), (2, vL a2), (4, vI l4), (5, vL l5), (7, vL l7), (9, vI l9), (11, vI l11), (12, vI l12)]) (st' := [vL (l5 &&& (kJ 4095)), vL ((fmo_bits l11 (kI 10) (kI 12)).toInt64)]) rfl ?_
  refine j_lcmp_eq hx (off := 5) (tgt := 262) (by decide +kernel) (by decide +kernel) (by decide) (fun _ => ?_) (fun _ => ?_)
  · exact wmo_isRight_262 h l4 l5 l7 l9 l11 l12 W
  refine j_lv (lv' := [(0, vR t), (1, vI a1), (2, vL a2)]) ⟨rfl, rfl, rfl, trivial⟩ ?_
  exact wmo_isRight_260 h W
theorem wmo_isRight {x : jCx} {en : (Int32 × jW) → Option (Outcome × jW)} {t : Nat} {a1 : Int32} {a2 : Int64} (h : hmo_isRight x en t a1 a2) (W : jW) : jJ x 14 0 [(0, vR t), (1, vI a1), (2, vL a2)] [] W (fmo_isRight t a1 a2 W) en := by
  have h0 := h
  obtain ⟨hx, hm, hr, he⟩ := h0
  unfold fmo_isRight
  refine j_runA hx 2 (tb := [(0, .aload_n 0), (1, .lload_n 2)]) (jtb_ok (by decide +kernel)) (pc' := 2) (lv' := [(0, vR t), (1, vI a1), (2, vL a2)]) (st' := [vL a2, vR t]) rfl ?_
  refine j_gd (fun h1 => ?_)
  refine j_OI (j_callV (av := [vL a2]) (st := []) hx hr (Or.inl q3010) q3012 qs139 rfl md_fmo_fixType np_fmo_fixType (cmo_fixType t a2 W) (by decide) (Nat.le_of_ble_eq_true rfl) h1 (by decide) (by decide +kernel)) (fun q2 _ => ?_)
  refine j_runA hx 2 (tb := [(5, .istore 4), (7, .iload 4)]) (jtb_ok (by decide +kernel)) (pc' := 9) (lv' := [(4, vI q2), (0, vR t), (1, vI a1), (2, vL a2)]) (st' := [vI q2]) rfl ?_
  refine j_if_ne hx (off := 5) (tgt := 14) (by decide +kernel) (by decide) (fun _ => ?_) (fun _ => ?_)
  · refine j_runA hx 2 (tb := [(14, .aload_n 0), (15, .dup)]) (jtb_ok (by decide +kernel)) (pc' := 16) (lv' := [(4, vI q2), (0, vR t), (1, vI a1), (2, vL a2)]) (st' := [vR t, vR t]) rfl ?_
    refine j_getI hx flX8_330 kd1328 h1 (by decide) (by decide +kernel) ?_
    refine j_runA hx 2 (tb := [(19, .iconst 1), (20, .iadd)]) (jtb_ok (by decide +kernel)) (pc' := 21) (lv' := [(4, vI q2), (0, vR t), (1, vI a1), (2, vL a2)]) (st' := [vI ((jI W 1328 t) + (kI 1)), vR t]) rfl ?_
    refine j_putI hx fwX8_330 wf1328 kd1328 h1 (by decide) (by decide +kernel) (ni1328 _) (fi1328 _) ?_
    refine j_ltw rfl (fun W3 hc4 => ?_)
    have h5 : jC W3 t = 13 := (congrFun hc4 _).trans h1
    refine j_runA hx 2 (tb := [(24, .aload_n 0), (25, .lload_n 2)]) (jtb_ok (by decide +kernel)) (pc' := 26) (lv' := [(4, vI q2), (0, vR t), (1, vI a1), (2, vL a2)]) (st' := [vL a2, vR t]) rfl ?_
    refine j_OL (j_callV (av := [vL a2]) (st := []) hx hr (Or.inl q3014) q3016 qs140 rfl md_fmo_target np_fmo_target (cmo_target t a2 W3) (by decide) (Nat.le_of_ble_eq_true rfl) h5 (by decide) (by decide +kernel)) (fun q7 _ => ?_)
    refine j_runA hx 2 (tb := [(29, .lstore 5), (31, .aload_n 0)]) (jtb_ok (by decide +kernel)) (pc' := 32) (lv' := [(5, vL q7), (4, vI q2), (0, vR t), (1, vI a1), (2, vL a2)]) (st' := [vR t]) rfl ?_
    refine j_getR hx flX8_23 kl1305 h5 (by decide) (by decide +kernel) ?_
    refine j_runA hx 2 (tb := [(35, .lload_n 2), (36, .bipush 8)]) (jtb_ok (by decide +kernel)) (pc' := 38) (lv' := [(5, vL q7), (4, vI q2), (0, vR t), (1, vI a1), (2, vL a2)]) (st' := [vI (kI 8), vL a2, vR (jR W3 1305 t)]) rfl ?_
    refine j_gd (fun h8 => ?_)
    refine j_OL (j_callV (av := [vL a2, vI (kI 8)]) (st := []) hx hr (Or.inl q2932) q2823 q2824 rfl md_fhd_num np_fhd_num (chd_num (jR W3 1305 t) a2 (kI 8) W3) (by decide) (Nat.le_of_ble_eq_true rfl) h8 (by decide) (by decide +kernel)) (fun q9 _ => ?_)
    refine j_runA hx 2 (tb := [(41, .lstore 7), (43, .aload_n 0)]) (jtb_ok (by decide +kernel)) (pc' := 44) (lv' := [(7, vL q9), (5, vL q7), (4, vI q2), (0, vR t), (1, vI a1), (2, vL a2)]) (st' := [vR t]) rfl ?_
    refine j_getR hx flX8_23 kl1305 h5 (by decide) (by decide +kernel) ?_
    refine j_runA hx 1 (tb := [(47, .lload 5)]) (jtb_ok (by decide +kernel)) (pc' := 49) (lv' := [(7, vL q9), (5, vL q7), (4, vI q2), (0, vR t), (1, vI a1), (2, vL a2)]) (st' := [vL q7, vR (jR W3 1305 t)]) rfl ?_
    refine j_OI (j_callV (av := [vL q7]) (st := []) hx hr (Or.inl q3019) q2924 q2925 rfl md_fhd_isIn np_fhd_isIn (chd_isIn (jR W3 1305 t) q7 W3) (by decide) (Nat.le_of_ble_eq_true rfl) h8 (by decide) (by decide +kernel)) (fun q10 _ => ?_)
    refine j_runA hx 3 (tb := [(52, .istore 9), (54, .iload 4), (56, .sipush 257)]) (jtb_ok (by decide +kernel)) (pc' := 59) (lv' := [(9, vI q10), (7, vL q9), (5, vL q7), (4, vI q2), (0, vR t), (1, vI a1), (2, vL a2)]) (st' := [vI (kI 257), vI q2]) rfl ?_
    refine j_icmp_ne hx (off := 57) (tgt := 116) (by decide +kernel) (by decide) (fun _ => ?_) (fun _ => ?_)
    · refine j_runA hx 2 (tb := [(116, .lload 7), (118, .aload_n 0)]) (jtb_ok (by decide +kernel)) (pc' := 119) (lv' := [(9, vI q10), (7, vL q9), (5, vL q7), (4, vI q2), (0, vR t), (1, vI a1), (2, vL a2)]) (st' := [vR t, vL q9]) rfl ?_
      refine j_getL hx flX8_310 kd1313 h5 (by decide) (by decide +kernel) ?_
      refine j_runA hx 3 (tb := [(122, .lsub), (123, .l2i), (124, .iconst 4)]) (jtb_ok (by decide +kernel)) (pc' := 125) (lv' := [(9, vI q10), (7, vL q9), (5, vL q7), (4, vI q2), (0, vR t), (1, vI a1), (2, vL a2)]) (st' := [vI (kI 4), vI ((q9 - (jL W3 1313 t)).toInt32)]) rfl ?_
      refine j_idiv hx (by decide +kernel) (by decide +kernel) ?_
      refine j_runA hx 1 (tb := [(126, .istore 10)]) (jtb_ok (by decide +kernel)) (pc' := 128) (lv' := [(10, vI (((q9 - (jL W3 1313 t)).toInt32) / (kI 4))), (9, vI q10), (7, vL q9), (5, vL q7), (4, vI q2), (0, vR t), (1, vI a1), (2, vL a2)]) (st' := []) rfl ?_
      refine j_let (v := (((q9 - (jL W3 1313 t)).toInt32) / (kI 4))) (lv := fun v11 => [(10, vI v11), (9, vI q10), (7, vL q9), (5, vL q7), (4, vI q2), (0, vR t), (1, vI a1), (2, vL a2)]) (st := fun _ => []) (fun v11 => ?_)
      refine j_runA hx 1 (tb := [(128, .aload_n 0)]) (jtb_ok (by decide +kernel)) (pc' := 129) (lv' := [(10, vI v11), (9, vI q10), (7, vL q9), (5, vL q7), (4, vI q2), (0, vR t), (1, vI a1), (2, vL a2)]) (st' := [vR t]) rfl ?_
      refine j_getR hx flX8_36 kl1315 h5 (by decide) (by decide +kernel) ?_
      refine j_runA hx 1 (tb := [(132, .iload 10)]) (jtb_ok (by decide +kernel)) (pc' := 134) (lv' := [(10, vI v11), (9, vI q10), (7, vL q9), (5, vL q7), (4, vI q2), (0, vR t), (1, vI a1), (2, vL a2)]) (st' := [vI v11, vR (jR W3 1315 t)]) rfl ?_
      refine j_gd (fun h12 => ?_)
      refine j_iald hx (f := 1315) (o := t) kd1315 rfl (by decide +kernel) h12 ?_
      refine j_runA hx 1 (tb := [(135, .istore 11)]) (jtb_ok (by decide +kernel)) (pc' := 137) (lv' := [(11, vI (jA W3 1315 t (ix v11))), (10, vI v11), (9, vI q10), (7, vL q9), (5, vL q7), (4, vI q2), (0, vR t), (1, vI a1), (2, vL a2)]) (st' := []) rfl ?_
      refine j_let (v := (jA W3 1315 t (ix v11))) (lv := fun v13 => [(11, vI v13), (10, vI v11), (9, vI q10), (7, vL q9), (5, vL q7), (4, vI q2), (0, vR t), (1, vI a1), (2, vL a2)]) (st := fun _ => []) (fun v13 => ?_)
      refine j_runA hx 1 (tb := [(137, .iload 11)]) (jtb_ok (by decide +kernel)) (pc' := 139) (lv' := [(11, vI v13), (10, vI v11), (9, vI q10), (7, vL q9), (5, vL q7), (4, vI q2), (0, vR t), (1, vI a1), (2, vL a2)]) (st' := [vI v13]) rfl ?_
      refine j_TI (j_callS (av := [vI v13]) (st := []) hx hr (Or.inl q2953) q2954 q241 md_fmo_sort np_fmo_sort (cmo_sort v13 W3) (by decide) (Nat.le_of_ble_eq_true rfl) (by decide +kernel)) ?_
      refine j_runA hx 1 (tb := [(142, .istore 12)]) (jtb_ok (by decide +kernel)) (pc' := 144) (lv' := [(12, vI (fmo_sort v13)), (11, vI v13), (10, vI v11), (9, vI q10), (7, vL q9), (5, vL q7), (4, vI q2), (0, vR t), (1, vI a1), (2, vL a2)]) (st' := []) rfl ?_
      refine j_let (v := (fmo_sort v13)) (lv := fun v14 => [(12, vI v14), (11, vI v13), (10, vI v11), (9, vI q10), (7, vL q9), (5, vL q7), (4, vI q2), (0, vR t), (1, vI a1), (2, vL a2)]) (st := fun _ => []) (fun v14 => ?_)
      refine j_runA hx 1 (tb := [(144, .aload_n 0)]) (jtb_ok (by decide +kernel)) (pc' := 145) (lv' := [(12, vI v14), (11, vI v13), (10, vI v11), (9, vI q10), (7, vL q9), (5, vL q7), (4, vI q2), (0, vR t), (1, vI a1), (2, vL a2)]) (st' := [vR t]) rfl ?_
      refine j_getR hx flX8_40 kl1316 h5 (by decide) (by decide +kernel) ?_
      refine j_runA hx 3 (tb := [(148, .iload 10), (150, .lload_n 2), (151, .l2i)]) (jtb_ok (by decide +kernel)) (pc' := 152) (lv' := [(12, vI v14), (11, vI v13), (10, vI v11), (9, vI q10), (7, vL q9), (5, vL q7), (4, vI q2), (0, vR t), (1, vI a1), (2, vL a2)]) (st' := [vI a2.toInt32, vI v11, vR (jR W3 1316 t)]) rfl ?_
      refine j_gd (fun h15 => ?_)
      refine j_iast hx (f := 1316) (o := t) kd1316 rfl (by decide +kernel) h15 ?_
      refine j_ltw rfl (fun W16 hc17 => ?_)
      have h18 : jC W16 t = 13 := (congrFun hc17 _).trans h5
      have h19 : jC W16 (jR W3 1305 t) = 14 := (congrFun hc17 _).trans h8
      refine j_runA hx 2 (tb := [(153, .iload 4), (155, .sipush 275)]) (jtb_ok (by decide +kernel)) (pc' := 158) (lv' := [(12, vI v14), (11, vI v13), (10, vI v11), (9, vI q10), (7, vL q9), (5, vL q7), (4, vI q2), (0, vR t), (1, vI a1), (2, vL a2)]) (st' := [vI (kI 275), vI q2]) rfl ?_
      refine j_icmp_ne hx (off := 44) (tgt := 202) (by decide +kernel) (by decide) (fun _ => ?_) (fun _ => ?_)
      · refine j_lv (lv' := [(0, vR t), (1, vI a1), (2, vL a2), (4, vI q2), (5, vL q7), (7, vL q9), (9, vI q10), (11, vI v13), (12, vI v14)]) ⟨rfl, rfl, rfl, rfl, rfl, rfl, rfl, rfl, rfl, trivial⟩ ?_
        exact wmo_isRight_202 h q2 q7 q9 q10 v13 v14 W16
      refine j_runA hx 2 (tb := [(161, .iload 12), (163, .iconst 5)]) (jtb_ok (by decide +kernel)) (pc' := 164) (lv' := [(12, vI v14), (11, vI v13), (10, vI v11), (9, vI q10), (7, vL q9), (5, vL q7), (4, vI q2), (0, vR t), (1, vI a1), (2, vL a2)]) (st' := [vI (kI 5), vI v14]) rfl ?_
      refine j_icmp_ne hx (off := 36) (tgt := 200) (by decide +kernel) (by decide) (fun _ => ?_) (fun _ => ?_)
      · refine j_lv (lv' := [(0, vR t), (1, vI a1), (2, vL a2)]) ⟨rfl, rfl, rfl, trivial⟩ ?_
        exact wmo_isRight_200 h W16
      refine j_runA hx 2 (tb := [(167, .lload 5), (169, .lconst 0)]) (jtb_ok (by decide +kernel)) (pc' := 170) (lv' := [(12, vI v14), (11, vI v13), (10, vI v11), (9, vI q10), (7, vL q9), (5, vL q7), (4, vI q2), (0, vR t), (1, vI a1), (2, vL a2)]) (st' := [vL (kJ 0), vL q7]) rfl ?_
      refine j_lcmp_lt hx (off := 29) (tgt := 200) (by decide +kernel) (by decide +kernel) (by decide) (fun _ => ?_) (fun _ => ?_)
      · refine j_lv (lv' := [(0, vR t), (1, vI a1), (2, vL a2)]) ⟨rfl, rfl, rfl, trivial⟩ ?_
        exact wmo_isRight_200 h W16
      refine j_runA hx 1 (tb := [(174, .lload 5)]) (jtb_ok (by decide +kernel)) (pc' := 176) (lv' := [(12, vI v14), (11, vI v13), (10, vI v11), (9, vI q10), (7, vL q9), (5, vL q7), (4, vI q2), (0, vR t), (1, vI a1), (2, vL a2)]) (st' := [vL q7]) rfl ?_
      refine j_ldc2 hx (v := (kJ 2147483648)) (jkd2 q3021 (by decide +kernel)) (by decide +kernel) ?_
      refine j_lcmp_ge hx (off := 20) (tgt := 200) (by decide +kernel) (by decide +kernel) (by decide) (fun _ => ?_) (fun _ => ?_)
      · refine j_lv (lv' := [(0, vR t), (1, vI a1), (2, vL a2)]) ⟨rfl, rfl, rfl, trivial⟩ ?_
        exact wmo_isRight_200 h W16
      refine j_runA hx 2 (tb := [(183, .iload 11), (185, .lload 7)]) (jtb_ok (by decide +kernel)) (pc' := 187) (lv' := [(12, vI v14), (11, vI v13), (10, vI v11), (9, vI q10), (7, vL q9), (5, vL q7), (4, vI q2), (0, vR t), (1, vI a1), (2, vL a2)]) (st' := [vL q9, vI v13]) rfl ?_
      refine j_TL (j_callS (av := [vI v13, vL q9]) (st := []) hx hr (Or.inl q3022) q3023 q241 md_fmo_page np_fmo_page (cmo_page v13 q9 W16) (by decide) (Nat.le_of_ble_eq_true rfl) (by decide +kernel)) ?_
      refine j_runA hx 1 (tb := [(190, .lload 5)]) (jtb_ok (by decide +kernel)) (pc' := 192) (lv' := [(12, vI v14), (11, vI v13), (10, vI v11), (9, vI q10), (7, vL q9), (5, vL q7), (4, vI q2), (0, vR t), (1, vI a1), (2, vL a2)]) (st' := [vL q7, vL (fmo_page v13 q9)]) rfl ?_
      refine j_ldc2 hx (v := (kJ (-4096))) (jkd2 q3025 (by decide +kernel)) (by decide +kernel) ?_
      refine j_runA hx 1 (tb := [(195, .land)]) (jtb_ok (by decide +kernel)) (pc' := 196) (lv' := [(12, vI v14), (11, vI v13), (10, vI v11), (9, vI q10), (7, vL q9), (5, vL q7), (4, vI q2), (0, vR t), (1, vI a1), (2, vL a2)]) (st' := [vL (q7 &&& (kJ (-4096))), vL (fmo_page v13 q9)]) rfl ?_
      refine j_lcmp_eq hx (off := 5) (tgt := 202) (by decide +kernel) (by decide +kernel) (by decide) (fun _ => ?_) (fun _ => ?_)
      · refine j_lv (lv' := [(0, vR t), (1, vI a1), (2, vL a2), (4, vI q2), (5, vL q7), (7, vL q9), (9, vI q10), (11, vI v13), (12, vI v14)]) ⟨rfl, rfl, rfl, rfl, rfl, rfl, rfl, rfl, rfl, trivial⟩ ?_
        exact wmo_isRight_202 h q2 q7 q9 q10 v13 v14 W16
      refine j_lv (lv' := [(0, vR t), (1, vI a1), (2, vL a2)]) ⟨rfl, rfl, rfl, trivial⟩ ?_
      exact wmo_isRight_200 h W16
    refine j_runA hx 1 (tb := [(62, .aload_n 0)]) (jtb_ok (by decide +kernel)) (pc' := 63) (lv' := [(9, vI q10), (7, vL q9), (5, vL q7), (4, vI q2), (0, vR t), (1, vI a1), (2, vL a2)]) (st' := [vR t]) rfl ?_
    refine j_getR hx flX8_23 kl1305 h5 (by decide) (by decide +kernel) ?_
    refine j_runA hx 1 (tb := [(66, .iload_n 1)]) (jtb_ok (by decide +kernel)) (pc' := 67) (lv' := [(9, vI q10), (7, vL q9), (5, vL q7), (4, vI q2), (0, vR t), (1, vI a1), (2, vL a2)]) (st' := [vI a1, vR (jR W3 1305 t)]) rfl ?_
    refine j_OI (j_callV (av := [vI a1]) (st := []) hx hr (Or.inl q3020) q2911 q2912 rfl md_fhd_aim np_fhd_aim (chd_aim (jR W3 1305 t) a1 W3) (by decide) (Nat.le_of_ble_eq_true rfl) h8 (by decide) (by decide +kernel)) (fun q21 _ => ?_)
    refine j_runA hx 2 (tb := [(70, .istore 10), (72, .aload_n 0)]) (jtb_ok (by decide +kernel)) (pc' := 73) (lv' := [(10, vI q21), (9, vI q10), (7, vL q9), (5, vL q7), (4, vI q2), (0, vR t), (1, vI a1), (2, vL a2)]) (st' := [vR t]) rfl ?_
    refine j_getR hx flX8_23 kl1305 h5 (by decide) (by decide +kernel) ?_
    refine j_runA hx 1 (tb := [(76, .aload_n 0)]) (jtb_ok (by decide +kernel)) (pc' := 77) (lv' := [(10, vI q21), (9, vI q10), (7, vL q9), (5, vL q7), (4, vI q2), (0, vR t), (1, vI a1), (2, vL a2)]) (st' := [vR t, vR (jR W3 1305 t)]) rfl ?_
    refine j_getR hx flX8_23 kl1305 h5 (by decide) (by decide +kernel) ?_
    refine j_getR hx flX8_301 kl1412 h8 (by decide) (by decide +kernel) ?_
    refine j_runA hx 1 (tb := [(83, .iload 10)]) (jtb_ok (by decide +kernel)) (pc' := 85) (lv' := [(10, vI q21), (9, vI q10), (7, vL q9), (5, vL q7), (4, vI q2), (0, vR t), (1, vI a1), (2, vL a2)]) (st' := [vI q21, vR (jR W3 1412 (jR W3 1305 t)), vR (jR W3 1305 t)]) rfl ?_
    refine j_gd (fun h22 => ?_)
    refine j_lald hx (f := 1412) (o := (jR W3 1305 t)) kd1412 rfl (by decide +kernel) h22 ?_
    refine j_runA hx 3 (tb := [(86, .lload 7), (88, .ladd), (89, .aload_n 0)]) (jtb_ok (by decide +kernel)) (pc' := 90) (lv' := [(10, vI q21), (9, vI q10), (7, vL q9), (5, vL q7), (4, vI q2), (0, vR t), (1, vI a1), (2, vL a2)]) (st' := [vR t, vL ((jB W3 1412 (jR W3 1305 t) (ix q21)) + q9), vR (jR W3 1305 t)]) rfl ?_
    refine j_getR hx flX8_23 kl1305 h5 (by decide) (by decide +kernel) ?_
    refine j_getR hx flX8_307 kl1413 h8 (by decide) (by decide +kernel) ?_
    refine j_runA hx 1 (tb := [(96, .iload 10)]) (jtb_ok (by decide +kernel)) (pc' := 98) (lv' := [(10, vI q21), (9, vI q10), (7, vL q9), (5, vL q7), (4, vI q2), (0, vR t), (1, vI a1), (2, vL a2)]) (st' := [vI q21, vR (jR W3 1413 (jR W3 1305 t)), vL ((jB W3 1412 (jR W3 1305 t) (ix q21)) + q9), vR (jR W3 1305 t)]) rfl ?_
    refine j_gd (fun h23 => ?_)
    refine j_lald hx (f := 1413) (o := (jR W3 1305 t)) kd1413 rfl (by decide +kernel) h23 ?_
    refine j_runA hx 2 (tb := [(99, .lsub), (100, .bipush 8)]) (jtb_ok (by decide +kernel)) (pc' := 102) (lv' := [(10, vI q21), (9, vI q10), (7, vL q9), (5, vL q7), (4, vI q2), (0, vR t), (1, vI a1), (2, vL a2)]) (st' := [vI (kI 8), vL (((jB W3 1412 (jR W3 1305 t) (ix q21)) + q9) - (jB W3 1413 (jR W3 1305 t) (ix q21))), vR (jR W3 1305 t)]) rfl ?_
    refine j_OL (j_callV (av := [vL (((jB W3 1412 (jR W3 1305 t) (ix q21)) + q9) - (jB W3 1413 (jR W3 1305 t) (ix q21))), vI (kI 8)]) (st := []) hx hr (Or.inl q2932) q2823 q2824 rfl md_fhd_num np_fhd_num (chd_num (jR W3 1305 t) (((jB W3 1412 (jR W3 1305 t) (ix q21)) + q9) - (jB W3 1413 (jR W3 1305 t) (ix q21))) (kI 8) W3) (by decide) (Nat.le_of_ble_eq_true rfl) h8 (by decide) (by decide +kernel)) (fun q24 _ => ?_)
    refine j_runA hx 1 (tb := [(105, .lload 5)]) (jtb_ok (by decide +kernel)) (pc' := 107) (lv' := [(10, vI q21), (9, vI q10), (7, vL q9), (5, vL q7), (4, vI q2), (0, vR t), (1, vI a1), (2, vL a2)]) (st' := [vL q7, vL q24]) rfl ?_
    refine j_lcmp_eq hx (off := 5) (tgt := 113) (by decide +kernel) (by decide +kernel) (by decide) (fun _ => ?_) (fun _ => ?_)
    · refine j_goto hx (off := 301) (by decide +kernel) (tgt := 414) (by decide) ?_
      refine j_lv (lv' := [(0, vR t), (1, vI a1), (2, vL a2), (5, vL q7), (9, vI q10)]) ⟨rfl, rfl, rfl, rfl, rfl, trivial⟩ ?_
      exact wmo_isRight_414 h q7 q10 W3
    refine j_runA hx 1 (tb := [(111, .iconst 0)]) (jtb_ok (by decide +kernel)) (pc' := 112) (lv' := [(10, vI q21), (9, vI q10), (7, vL q9), (5, vL q7), (4, vI q2), (0, vR t), (1, vI a1), (2, vL a2)]) (st' := [vI (kI 0)]) rfl ?_
    exact j_iret hx hm (by decide +kernel) jz0n (he _)
  refine j_runA hx 1 (tb := [(12, .iconst 1)]) (jtb_ok (by decide +kernel)) (pc' := 13) (lv' := [(4, vI q2), (0, vR t), (1, vI a1), (2, vL a2)]) (st' := [vI (kI 1)]) rfl ?_
  exact j_iret hx hm (by decide +kernel) jz1n (he _)
theorem cmo_isRight (t : Nat) (a1 : Int32) (a2 : Int64) (W : jW) : jM yX8_isRight cX8_isRight 14 (Option.some Jvm.ClassFile.FieldType.boolean) [] 3 43 [vR t, vI a1, vL a2] W ((fmo_isRight t a1 a2 W).bind (fun q => some (.returned (some (.int q.1)), q.2))) := 
  jM.of (Nat.le_of_ble_eq_true rfl) (fun x hx hm hr => wmo_isRight ⟨hx, hm, hr, fun _ => rfl⟩ W)
def hmo_isIf (x : jCx) (en : (Int32) → Option (Outcome × jW)) (a0 : Int32) (W : jW) : Prop :=
  jOK x RX8 cX8_isIf 1 ∧
  jMt x "isIf" (Option.some Jvm.ClassFile.FieldType.boolean) [] ∧
  jRm x 0 0 ∧
  (∀ q : Int32, en q = some (.returned (some (.int q)), W))
theorem wmo_isIf_18 {x : jCx} {en : (Int32) → Option (Outcome × jW)} {W : jW} {a0 : Int32} (h : hmo_isIf x en a0 W) : jJ x 1 18 [(0, vI a0)] [] W (some (fmo_isIf_18 a0)) en := by
  have h0 := h
  obtain ⟨hx, hm, hr, he⟩ := h0
  unfold fmo_isIf_18
  refine j_runA hx 1 (tb := [(18, .iconst 1)]) (jtb_ok (by decide +kernel)) (pc' := 19) (lv' := [(0, vI a0)]) (st' := [vI (kI 1)]) rfl ?_
  refine j_goto hx (off := 4) (by decide +kernel) (tgt := 23) (by decide) ?_
  exact j_iret hx hm (by decide +kernel) jz1n (he _)
theorem wmo_isIf {x : jCx} {en : (Int32) → Option (Outcome × jW)} {W : jW} {a0 : Int32} (h : hmo_isIf x en a0 W) : jJ x 1 0 [(0, vI a0)] [] W (some (fmo_isIf a0)) en := by
  have h0 := h
  obtain ⟨hx, hm, hr, he⟩ := h0
  unfold fmo_isIf
  refine j_runA hx 2 (tb := [(0, .iload_n 0), (1, .bipush 14)]) (jtb_ok (by decide +kernel)) (pc' := 3) (lv' := [(0, vI a0)]) (st' := [vI (kI 14), vI a0]) rfl ?_
  refine j_tot (j_icmp_eq hx (off := 15) (tgt := 18) (by decide +kernel) (by decide) (fun _ => ?_) (fun _ => ?_))
  · exact wmo_isIf_18 h
  refine j_runA hx 2 (tb := [(6, .iload_n 0), (7, .bipush 15)]) (jtb_ok (by decide +kernel)) (pc' := 9) (lv' := [(0, vI a0)]) (st' := [vI (kI 15), vI a0]) rfl ?_
  refine j_tot (j_icmp_eq hx (off := 9) (tgt := 18) (by decide +kernel) (by decide) (fun _ => ?_) (fun _ => ?_))
  · exact wmo_isIf_18 h
  refine j_runA hx 2 (tb := [(12, .iload_n 0), (13, .bipush 16)]) (jtb_ok (by decide +kernel)) (pc' := 15) (lv' := [(0, vI a0)]) (st' := [vI (kI 16), vI a0]) rfl ?_
  refine j_tot (j_icmp_ne hx (off := 7) (tgt := 22) (by decide +kernel) (by decide) (fun _ => ?_) (fun _ => ?_))
  · refine j_runA hx 1 (tb := [(22, .iconst 0)]) (jtb_ok (by decide +kernel)) (pc' := 23) (lv' := [(0, vI a0)]) (st' := [vI (kI 0)]) rfl ?_
    exact j_iret hx hm (by decide +kernel) jz0n (he _)
  exact wmo_isIf_18 h
theorem cmo_isIf (a0 : Int32) (W : jW) : jM yX8_isIf cX8_isIf 1 (Option.some Jvm.ClassFile.FieldType.boolean) [] 0 0 [vI a0] W (some (.returned (some (.int (fmo_isIf a0))), W)) := 
  jM.of (mm := some (fmo_isIf a0)) (en := fun q => some (.returned (some (.int q)), W)) (Nat.le_of_ble_eq_true rfl) (fun x hx hm hr => wmo_isIf ⟨hx, hm, hr, fun _ => rfl⟩)
def hmo_functionAt (x : jCx) (en : (fmo_functionAt_S ⊕ (Int32)) → Option (Outcome × jW)) (t : Nat) (a1 : Int32) (W : jW) : Prop :=
  jOK x RX8 cX8_functionAt 3 ∧
  jMt x "functionAt" (Option.some Jvm.ClassFile.FieldType.int) [] ∧
  jRm x 0 0 ∧
  (∀ q : Int32, en (.inr q) = some (.returned (some (.int q)), W)) ∧
  (∀ (l2 : Int32), jJ x 3 2 [(0, vR t), (1, vI a1), (2, vI l2)] [] W (some (.inl l2)) en)
theorem wmo_functionAt_30 {x : jCx} {en : (fmo_functionAt_S ⊕ (Int32)) → Option (Outcome × jW)} {W : jW} {t : Nat} {a1 : Int32} (h : hmo_functionAt x en t a1 W) (l2 : Int32) : jJ x 3 30 [(0, vR t), (1, vI a1), (2, vI l2)] [] W (fmo_functionAt_30 t a1 l2 W) en := by
  have h0 := h
  obtain ⟨hx, hm, hr, he, k2⟩ := h0
  unfold fmo_functionAt_30
  refine j_runA hx 1 (tb := [(30, .iload_n 2)]) (jtb_ok (by decide +kernel)) (pc' := 31) (lv' := [(0, vR t), (1, vI a1), (2, vI l2)]) (st' := [vI l2]) rfl ?_
  exact j_iret hx hm (by decide +kernel) rfl (he _)
theorem wmo_functionAt_2 {x : jCx} {en : (fmo_functionAt_S ⊕ (Int32)) → Option (Outcome × jW)} {W : jW} {t : Nat} {a1 : Int32} (h : hmo_functionAt x en t a1 W) (l2 : Int32) : jJ x 3 2 [(0, vR t), (1, vI a1), (2, vI l2)] [] W (fmo_functionAt_2 t a1 l2 W) en := by
  have h0 := h
  obtain ⟨hx, hm, hr, he, k2⟩ := h0
  unfold fmo_functionAt_2
  refine j_runA hx 4 (tb := [(2, .iload_n 2), (3, .iconst 1), (4, .iadd), (5, .aload_n 0)]) (jtb_ok (by decide +kernel)) (pc' := 6) (lv' := [(0, vR t), (1, vI a1), (2, vI l2)]) (st' := [vR t, vI (l2 + (kI 1))]) rfl ?_
  refine j_gd (fun h2 => ?_)
  refine j_getI hx flX8_281 kd1311 h2 (by decide) (by decide +kernel) ?_
  refine j_icmp_ge hx (off := 21) (tgt := 30) (by decide +kernel) (by decide) (fun _ => ?_) (fun _ => ?_)
  · exact wmo_functionAt_30 h l2
  refine j_runA hx 1 (tb := [(12, .aload_n 0)]) (jtb_ok (by decide +kernel)) (pc' := 13) (lv' := [(0, vR t), (1, vI a1), (2, vI l2)]) (st' := [vR t]) rfl ?_
  refine j_getR hx flX8_50 kl1319 h2 (by decide) (by decide +kernel) ?_
  refine j_runA hx 3 (tb := [(16, .iload_n 2), (17, .iconst 1), (18, .iadd)]) (jtb_ok (by decide +kernel)) (pc' := 19) (lv' := [(0, vR t), (1, vI a1), (2, vI l2)]) (st' := [vI (l2 + (kI 1)), vR (jR W 1319 t)]) rfl ?_
  refine j_gd (fun h3 => ?_)
  refine j_iald hx (f := 1319) (o := t) kd1319 rfl (by decide +kernel) h3 ?_
  refine j_runA hx 1 (tb := [(20, .iload_n 1)]) (jtb_ok (by decide +kernel)) (pc' := 21) (lv' := [(0, vR t), (1, vI a1), (2, vI l2)]) (st' := [vI a1, vI (jA W 1319 t (ix (l2 + (kI 1))))]) rfl ?_
  refine j_icmp_gt hx (off := 9) (tgt := 30) (by decide +kernel) (by decide) (fun _ => ?_) (fun _ => ?_)
  · exact wmo_functionAt_30 h l2
  refine j_runA hx 1 (tb := [(24, .iinc 2 1)]) (jtb_ok (by decide +kernel)) (pc' := 27) (lv' := [(2, vI (l2 + (kI 1))), (0, vR t), (1, vI a1)]) (st' := []) rfl ?_
  refine j_let (v := (l2 + (kI 1))) (lv := fun v4 => [(2, vI v4), (0, vR t), (1, vI a1)]) (st := fun _ => []) (fun v4 => ?_)
  refine j_goto hx (off := -25) (by decide +kernel) (tgt := 2) (by decide) ?_
  refine j_lv (lv' := [(0, vR t), (1, vI a1), (2, vI v4)]) ⟨rfl, rfl, rfl, trivial⟩ ?_
  exact k2 v4
theorem wmo_functionAt {x : jCx} {en : (fmo_functionAt_S ⊕ (Int32)) → Option (Outcome × jW)} {W : jW} {t : Nat} {a1 : Int32} (h : hmo_functionAt x en t a1 W) : jJ x 3 0 [(0, vR t), (1, vI a1)] [] W (fmo_functionAt_0 t a1 W) en := by
  have h0 := h
  obtain ⟨hx, hm, hr, he, k2⟩ := h0
  unfold fmo_functionAt_0
  refine j_runA hx 2 (tb := [(0, .iconst 0), (1, .istore_n 2)]) (jtb_ok (by decide +kernel)) (pc' := 2) (lv' := [(2, vI (kI 0)), (0, vR t), (1, vI a1)]) (st' := []) rfl ?_
  refine j_lv (lv' := [(0, vR t), (1, vI a1), (2, vI (kI 0))]) ⟨rfl, rfl, rfl, trivial⟩ ?_
  exact k2 (kI 0)
theorem cmo_functionAt (t : Nat) (a1 : Int32) (W : jW) : jM yX8_functionAt cX8_functionAt 3 (Option.some Jvm.ClassFile.FieldType.int) [] 0 0 [vR t, vI a1] W ((fmo_functionAt t a1 W).bind (fun q => some (.returned (some (.int q)), W))) := by
  refine jM.of (Nat.le_of_ble_eq_true rfl) (fun x hx hm hr => ?_)
  refine j_begin (P := (fun s => (2, [(0, vR t), (1, vI a1), (2, vI s)], W))) (fun en he hk => ?_)
  have h : hmo_functionAt x en t a1 W := ⟨hx, hm, hr, fun q => he _, fun l2 => hk l2⟩
  exact ⟨fun s => wmo_functionAt_2 h s, wmo_functionAt h⟩
def hmo_isFirst (x : jCx) (en : (Int32) → Option (Outcome × jW)) (t : Nat) (a1 : Int32) (W : jW) : Prop :=
  jOK x RX8 cX8_isFirst 2 ∧
  jMt x "isFirst" (Option.some Jvm.ClassFile.FieldType.boolean) [] ∧
  jRm x 1 15 ∧
  (∀ q : Int32, en q = some (.returned (some (.int q)), W))
theorem wmo_isFirst_12 {x : jCx} {en : (Int32) → Option (Outcome × jW)} {W : jW} {t : Nat} {a1 : Int32} (h : hmo_isFirst x en t a1 W) : jJ x 2 12 [(0, vR t), (1, vI a1)] [] W (fmo_isFirst_12 t a1 W) en := by
  have h0 := h
  obtain ⟨hx, hm, hr, he⟩ := h0
  unfold fmo_isFirst_12
  refine j_runA hx 1 (tb := [(12, .iconst 0)]) (jtb_ok (by decide +kernel)) (pc' := 13) (lv' := [(0, vR t), (1, vI a1)]) (st' := [vI (kI 0)]) rfl ?_
  exact j_iret hx hm (by decide +kernel) jz0n (he _)
theorem wmo_isFirst {x : jCx} {en : (Int32) → Option (Outcome × jW)} {W : jW} {t : Nat} {a1 : Int32} (h : hmo_isFirst x en t a1 W) : jJ x 2 0 [(0, vR t), (1, vI a1)] [] W (fmo_isFirst t a1 W) en := by
  have h0 := h
  obtain ⟨hx, hm, hr, he⟩ := h0
  unfold fmo_isFirst
  refine j_runA hx 1 (tb := [(0, .iload_n 1)]) (jtb_ok (by decide +kernel)) (pc' := 1) (lv' := [(0, vR t), (1, vI a1)]) (st' := [vI a1]) rfl ?_
  refine j_if_lt hx (off := 11) (tgt := 12) (by decide +kernel) (by decide) (fun _ => ?_) (fun _ => ?_)
  · exact wmo_isFirst_12 h
  refine j_runA hx 2 (tb := [(4, .iload_n 1), (5, .aload_n 0)]) (jtb_ok (by decide +kernel)) (pc' := 6) (lv' := [(0, vR t), (1, vI a1)]) (st' := [vR t, vI a1]) rfl ?_
  refine j_gd (fun h1 => ?_)
  refine j_getI hx flX8_316 kd1310 h1 (by decide) (by decide +kernel) ?_
  refine j_icmp_lt hx (off := 5) (tgt := 14) (by decide +kernel) (by decide) (fun _ => ?_) (fun _ => ?_)
  · refine j_runA hx 1 (tb := [(14, .aload_n 0)]) (jtb_ok (by decide +kernel)) (pc' := 15) (lv' := [(0, vR t), (1, vI a1)]) (st' := [vR t]) rfl ?_
    refine j_getR hx flX8_50 kl1319 h1 (by decide) (by decide +kernel) ?_
    refine j_runA hx 2 (tb := [(18, .aload_n 0), (19, .iload_n 1)]) (jtb_ok (by decide +kernel)) (pc' := 20) (lv' := [(0, vR t), (1, vI a1)]) (st' := [vI a1, vR t, vR (jR W 1319 t)]) rfl ?_
    refine j_OI (j_callV (av := [vI a1]) (st := [vR (jR W 1319 t)]) hx hr (Or.inl q3047) q3049 qs143 rfl md_fmo_functionAt np_fmo_functionAt (cmo_functionAt t a1 W) (by decide) (Nat.le_of_ble_eq_true rfl) h1 (by decide) (by decide +kernel)) (fun q2 _ => ?_)
    refine j_gd (fun h3 => ?_)
    refine j_iald hx (f := 1319) (o := t) kd1319 rfl (by decide +kernel) h3 ?_
    refine j_runA hx 1 (tb := [(24, .iload_n 1)]) (jtb_ok (by decide +kernel)) (pc' := 25) (lv' := [(0, vR t), (1, vI a1)]) (st' := [vI a1, vI (jA W 1319 t (ix q2))]) rfl ?_
    refine j_icmp_ne hx (off := 7) (tgt := 32) (by decide +kernel) (by decide) (fun _ => ?_) (fun _ => ?_)
    · refine j_runA hx 1 (tb := [(32, .iconst 0)]) (jtb_ok (by decide +kernel)) (pc' := 33) (lv' := [(0, vR t), (1, vI a1)]) (st' := [vI (kI 0)]) rfl ?_
      exact j_iret hx hm (by decide +kernel) jz0n (he _)
    refine j_runA hx 1 (tb := [(28, .iconst 1)]) (jtb_ok (by decide +kernel)) (pc' := 29) (lv' := [(0, vR t), (1, vI a1)]) (st' := [vI (kI 1)]) rfl ?_
    refine j_goto hx (off := 4) (by decide +kernel) (tgt := 33) (by decide) ?_
    exact j_iret hx hm (by decide +kernel) jz1n (he _)
  exact wmo_isFirst_12 h
theorem cmo_isFirst (t : Nat) (a1 : Int32) (W : jW) : jM yX8_isFirst cX8_isFirst 2 (Option.some Jvm.ClassFile.FieldType.boolean) [] 1 15 [vR t, vI a1] W ((fmo_isFirst t a1 W).bind (fun q => some (.returned (some (.int q)), W))) := 
  jM.of (Nat.le_of_ble_eq_true rfl) (fun x hx hm hr => wmo_isFirst ⟨hx, hm, hr, fun _ => rfl⟩)
def hmo_goesRight (x : jCx) (en : (Int32) → Option (Outcome × jW)) (t : Nat) (a1 : Int32) (a2 : Int32) (W : jW) : Prop :=
  jOK x RX8 cX8_goesRight 6 ∧
  jMt x "goesRight" (Option.some Jvm.ClassFile.FieldType.boolean) [] ∧
  jRm x 3 43 ∧
  (∀ q : Int32, en q = some (.returned (some (.int q)), W))
theorem wmo_goesRight_122 {x : jCx} {en : (Int32) → Option (Outcome × jW)} {W : jW} {t : Nat} {a1 : Int32} {a2 : Int32} (h : hmo_goesRight x en t a1 a2 W) : jJ x 6 122 [(0, vR t), (1, vI a1), (2, vI a2)] [] W (fmo_goesRight_122 t a1 a2 W) en := by
  have h0 := h
  obtain ⟨hx, hm, hr, he⟩ := h0
  unfold fmo_goesRight_122
  refine j_runA hx 1 (tb := [(122, .iconst 1)]) (jtb_ok (by decide +kernel)) (pc' := 123) (lv' := [(0, vR t), (1, vI a1), (2, vI a2)]) (st' := [vI (kI 1)]) rfl ?_
  refine j_goto hx (off := 4) (by decide +kernel) (tgt := 127) (by decide) ?_
  exact j_iret hx hm (by decide +kernel) jz1n (he _)
theorem wmo_goesRight_79 {x : jCx} {en : (Int32) → Option (Outcome × jW)} {W : jW} {t : Nat} {a1 : Int32} {a2 : Int32} (h : hmo_goesRight x en t a1 a2 W) (l3 : Int32) (l4 : Int32) (s0 : Int32) : jJ x 6 79 [(0, vR t), (1, vI a1), (2, vI a2), (3, vI l3), (4, vI l4)] [vI s0] W (fmo_goesRight_79 t a1 a2 l3 l4 s0 W) en := by
  have h0 := h
  obtain ⟨hx, hm, hr, he⟩ := h0
  unfold fmo_goesRight_79
  refine j_runA hx 2 (tb := [(79, .istore 5), (81, .iload_n 3)]) (jtb_ok (by decide +kernel)) (pc' := 82) (lv' := [(5, vI s0), (0, vR t), (1, vI a1), (2, vI a2), (3, vI l3), (4, vI l4)]) (st' := [vI l3]) rfl ?_
  refine j_TI (j_callS (av := [vI l3]) (st := []) hx hr (Or.inl q3040) q3041 q241 md_fmo_isIf np_fmo_isIf (cmo_isIf l3 W) (by decide) (Nat.le_of_ble_eq_true rfl) (by decide +kernel)) ?_
  refine j_if_eq hx (off := 8) (tgt := 93) (by decide +kernel) (by decide) (fun _ => ?_) (fun _ => ?_)
  · refine j_runA hx 2 (tb := [(93, .iload_n 3), (94, .bipush 13)]) (jtb_ok (by decide +kernel)) (pc' := 96) (lv' := [(5, vI s0), (0, vR t), (1, vI a1), (2, vI a2), (3, vI l3), (4, vI l4)]) (st' := [vI (kI 13), vI l3]) rfl ?_
    refine j_icmp_ne hx (off := 12) (tgt := 108) (by decide +kernel) (by decide) (fun _ => ?_) (fun _ => ?_)
    · refine j_runA hx 1 (tb := [(108, .iload 5)]) (jtb_ok (by decide +kernel)) (pc' := 110) (lv' := [(5, vI s0), (0, vR t), (1, vI a1), (2, vI a2), (3, vI l3), (4, vI l4)]) (st' := [vI s0]) rfl ?_
      refine j_if_ne hx (off := 12) (tgt := 122) (by decide +kernel) (by decide) (fun _ => ?_) (fun _ => ?_)
      · refine j_lv (lv' := [(0, vR t), (1, vI a1), (2, vI a2)]) ⟨rfl, rfl, rfl, trivial⟩ ?_
        exact wmo_goesRight_122 h
      refine j_runA hx 2 (tb := [(113, .aload_n 0), (114, .iload 4)]) (jtb_ok (by decide +kernel)) (pc' := 116) (lv' := [(5, vI s0), (0, vR t), (1, vI a1), (2, vI a2), (3, vI l3), (4, vI l4)]) (st' := [vI l4, vR t]) rfl ?_
      refine j_gd (fun h12 => ?_)
      refine j_OI (j_callV (av := [vI l4]) (st := []) hx hr (Or.inl q3043) q3045 qs142 rfl md_fmo_isFirst np_fmo_isFirst (cmo_isFirst t l4 W) (by decide) (Nat.le_of_ble_eq_true rfl) h12 (by decide) (by decide +kernel)) (fun q13 _ => ?_)
      refine j_if_eq hx (off := 7) (tgt := 126) (by decide +kernel) (by decide) (fun _ => ?_) (fun _ => ?_)
      · refine j_runA hx 1 (tb := [(126, .iconst 0)]) (jtb_ok (by decide +kernel)) (pc' := 127) (lv' := [(5, vI s0), (0, vR t), (1, vI a1), (2, vI a2), (3, vI l3), (4, vI l4)]) (st' := [vI (kI 0)]) rfl ?_
        exact j_iret hx hm (by decide +kernel) jz0n (he _)
      refine j_lv (lv' := [(0, vR t), (1, vI a1), (2, vI a2)]) ⟨rfl, rfl, rfl, trivial⟩ ?_
      exact wmo_goesRight_122 h
    refine j_runA hx 2 (tb := [(99, .aload_n 0), (100, .iload 4)]) (jtb_ok (by decide +kernel)) (pc' := 102) (lv' := [(5, vI s0), (0, vR t), (1, vI a1), (2, vI a2), (3, vI l3), (4, vI l4)]) (st' := [vI l4, vR t]) rfl ?_
    refine j_gd (fun h14 => ?_)
    refine j_OI (j_callV (av := [vI l4]) (st := []) hx hr (Or.inl q3043) q3045 qs142 rfl md_fmo_isFirst np_fmo_isFirst (cmo_isFirst t l4 W) (by decide) (Nat.le_of_ble_eq_true rfl) h14 (by decide) (by decide +kernel)) (fun q15 _ => ?_)
    refine j_goto hx (off := 22) (by decide +kernel) (tgt := 127) (by decide) ?_
    refine j_gd (fun h16 => ?_)
    exact j_iret hx hm (by decide +kernel) (jzn h16) (he _)
  refine j_runA hx 1 (tb := [(88, .iload 5)]) (jtb_ok (by decide +kernel)) (pc' := 90) (lv' := [(5, vI s0), (0, vR t), (1, vI a1), (2, vI a2), (3, vI l3), (4, vI l4)]) (st' := [vI s0]) rfl ?_
  refine j_goto hx (off := 37) (by decide +kernel) (tgt := 127) (by decide) ?_
  refine j_gd (fun h17 => ?_)
  exact j_iret hx hm (by decide +kernel) (jzn h17) (he _)
theorem wmo_goesRight_78 {x : jCx} {en : (Int32) → Option (Outcome × jW)} {W : jW} {t : Nat} {a1 : Int32} {a2 : Int32} (h : hmo_goesRight x en t a1 a2 W) (l3 : Int32) (l4 : Int32) : jJ x 6 78 [(0, vR t), (1, vI a1), (2, vI a2), (3, vI l3), (4, vI l4)] [] W (fmo_goesRight_78 t a1 a2 l3 l4 W) en := by
  have h0 := h
  obtain ⟨hx, hm, hr, he⟩ := h0
  unfold fmo_goesRight_78
  refine j_runA hx 1 (tb := [(78, .iconst 0)]) (jtb_ok (by decide +kernel)) (pc' := 79) (lv' := [(0, vR t), (1, vI a1), (2, vI a2), (3, vI l3), (4, vI l4)]) (st' := [vI (kI 0)]) rfl ?_
  exact wmo_goesRight_79 h l3 l4 (kI 0)
theorem wmo_goesRight_31 {x : jCx} {en : (Int32) → Option (Outcome × jW)} {W : jW} {t : Nat} {a1 : Int32} {a2 : Int32} (h : hmo_goesRight x en t a1 a2 W) (l3 : Int32) : jJ x 6 31 [(0, vR t), (1, vI a1), (2, vI a2), (3, vI l3)] [] W (fmo_goesRight_31 t a1 a2 l3 W) en := by
  have h0 := h
  obtain ⟨hx, hm, hr, he⟩ := h0
  unfold fmo_goesRight_31
  refine j_runA hx 2 (tb := [(31, .iload_n 2), (32, .aload_n 0)]) (jtb_ok (by decide +kernel)) (pc' := 33) (lv' := [(0, vR t), (1, vI a1), (2, vI a2), (3, vI l3)]) (st' := [vR t, vI a2]) rfl ?_
  refine j_gd (fun h5 => ?_)
  refine j_getR hx flX8_36 kl1315 h5 (by decide) (by decide +kernel) ?_
  refine j_runA hx 1 (tb := [(36, .iload_n 2)]) (jtb_ok (by decide +kernel)) (pc' := 37) (lv' := [(0, vR t), (1, vI a1), (2, vI a2), (3, vI l3)]) (st' := [vI a2, vR (jR W 1315 t), vI a2]) rfl ?_
  refine j_gd (fun h6 => ?_)
  refine j_iald hx (f := 1315) (o := t) kd1315 rfl (by decide +kernel) h6 ?_
  refine j_runA hx 1 (tb := [(38, .iload_n 3)]) (jtb_ok (by decide +kernel)) (pc' := 39) (lv' := [(0, vR t), (1, vI a1), (2, vI a2), (3, vI l3)]) (st' := [vI l3, vI (jA W 1315 t (ix a2)), vI a2]) rfl ?_
  refine j_TI (j_callS (av := [vI (jA W 1315 t (ix a2)), vI l3]) (st := [vI a2]) hx hr (Or.inl q3031) q3032 q241 md_fmo_far np_fmo_far (cmo_far (jA W 1315 t (ix a2)) l3 W) (by decide) (Nat.le_of_ble_eq_true rfl) (by decide +kernel)) ?_
  refine j_runA hx 2 (tb := [(42, .iadd), (43, .istore 4)]) (jtb_ok (by decide +kernel)) (pc' := 45) (lv' := [(4, vI (a2 + (fmo_far (jA W 1315 t (ix a2)) l3))), (0, vR t), (1, vI a1), (2, vI a2), (3, vI l3)]) (st' := []) rfl ?_
  refine j_let (v := (a2 + (fmo_far (jA W 1315 t (ix a2)) l3))) (lv := fun v7 => [(4, vI v7), (0, vR t), (1, vI a1), (2, vI a2), (3, vI l3)]) (st := fun _ => []) (fun v7 => ?_)
  refine j_runA hx 2 (tb := [(45, .iload 4), (47, .aload_n 0)]) (jtb_ok (by decide +kernel)) (pc' := 48) (lv' := [(4, vI v7), (0, vR t), (1, vI a1), (2, vI a2), (3, vI l3)]) (st' := [vR t, vI v7]) rfl ?_
  refine j_getR hx flX8_50 kl1319 h5 (by decide) (by decide +kernel) ?_
  refine j_runA hx 1 (tb := [(51, .iload_n 1)]) (jtb_ok (by decide +kernel)) (pc' := 52) (lv' := [(4, vI v7), (0, vR t), (1, vI a1), (2, vI a2), (3, vI l3)]) (st' := [vI a1, vR (jR W 1319 t), vI v7]) rfl ?_
  refine j_gd (fun h8 => ?_)
  refine j_iald hx (f := 1319) (o := t) kd1319 rfl (by decide +kernel) h8 ?_
  refine j_icmp_lt hx (off := 25) (tgt := 78) (by decide +kernel) (by decide) (fun _ => ?_) (fun _ => ?_)
  · refine j_lv (lv' := [(0, vR t), (1, vI a1), (2, vI a2), (3, vI l3), (4, vI v7)]) ⟨rfl, rfl, rfl, rfl, rfl, trivial⟩ ?_
    exact wmo_goesRight_78 h l3 v7
  refine j_runA hx 2 (tb := [(56, .iload 4), (58, .aload_n 0)]) (jtb_ok (by decide +kernel)) (pc' := 59) (lv' := [(4, vI v7), (0, vR t), (1, vI a1), (2, vI a2), (3, vI l3)]) (st' := [vR t, vI v7]) rfl ?_
  refine j_getR hx flX8_50 kl1319 h5 (by decide) (by decide +kernel) ?_
  refine j_runA hx 1 (tb := [(62, .iload_n 1)]) (jtb_ok (by decide +kernel)) (pc' := 63) (lv' := [(4, vI v7), (0, vR t), (1, vI a1), (2, vI a2), (3, vI l3)]) (st' := [vI a1, vR (jR W 1319 t), vI v7]) rfl ?_
  refine j_gd (fun h9 => ?_)
  refine j_iald hx (f := 1319) (o := t) kd1319 rfl (by decide +kernel) h9 ?_
  refine j_runA hx 1 (tb := [(64, .aload_n 0)]) (jtb_ok (by decide +kernel)) (pc' := 65) (lv' := [(4, vI v7), (0, vR t), (1, vI a1), (2, vI a2), (3, vI l3)]) (st' := [vR t, vI (jA W 1319 t (ix a1)), vI v7]) rfl ?_
  refine j_getR hx flX8_53 kl1320 h5 (by decide) (by decide +kernel) ?_
  refine j_runA hx 1 (tb := [(68, .iload_n 1)]) (jtb_ok (by decide +kernel)) (pc' := 69) (lv' := [(4, vI v7), (0, vR t), (1, vI a1), (2, vI a2), (3, vI l3)]) (st' := [vI a1, vR (jR W 1320 t), vI (jA W 1319 t (ix a1)), vI v7]) rfl ?_
  refine j_gd (fun h10 => ?_)
  refine j_iald hx (f := 1320) (o := t) kd1320 rfl (by decide +kernel) h10 ?_
  refine j_runA hx 1 (tb := [(70, .iadd)]) (jtb_ok (by decide +kernel)) (pc' := 71) (lv' := [(4, vI v7), (0, vR t), (1, vI a1), (2, vI a2), (3, vI l3)]) (st' := [vI ((jA W 1319 t (ix a1)) + (jA W 1320 t (ix a1))), vI v7]) rfl ?_
  refine j_icmp_ge hx (off := 7) (tgt := 78) (by decide +kernel) (by decide) (fun _ => ?_) (fun _ => ?_)
  · refine j_lv (lv' := [(0, vR t), (1, vI a1), (2, vI a2), (3, vI l3), (4, vI v7)]) ⟨rfl, rfl, rfl, rfl, rfl, trivial⟩ ?_
    exact wmo_goesRight_78 h l3 v7
  refine j_runA hx 1 (tb := [(74, .iconst 1)]) (jtb_ok (by decide +kernel)) (pc' := 75) (lv' := [(4, vI v7), (0, vR t), (1, vI a1), (2, vI a2), (3, vI l3)]) (st' := [vI (kI 1)]) rfl ?_
  refine j_goto hx (off := 4) (by decide +kernel) (tgt := 79) (by decide) ?_
  refine j_lv (lv' := [(0, vR t), (1, vI a1), (2, vI a2), (3, vI l3), (4, vI v7)]) ⟨rfl, rfl, rfl, rfl, rfl, trivial⟩ ?_
  exact wmo_goesRight_79 h l3 v7 (kI 1)
theorem wmo_goesRight {x : jCx} {en : (Int32) → Option (Outcome × jW)} {W : jW} {t : Nat} {a1 : Int32} {a2 : Int32} (h : hmo_goesRight x en t a1 a2 W) : jJ x 6 0 [(0, vR t), (1, vI a1), (2, vI a2)] [] W (fmo_goesRight t a1 a2 W) en := by
  have h0 := h
  obtain ⟨hx, hm, hr, he⟩ := h0
  unfold fmo_goesRight
  refine j_runA hx 1 (tb := [(0, .aload_n 0)]) (jtb_ok (by decide +kernel)) (pc' := 1) (lv' := [(0, vR t), (1, vI a1), (2, vI a2)]) (st' := [vR t]) rfl ?_
  refine j_gd (fun h1 => ?_)
  refine j_getR hx flX8_36 kl1315 h1 (by decide) (by decide +kernel) ?_
  refine j_runA hx 1 (tb := [(4, .iload_n 2)]) (jtb_ok (by decide +kernel)) (pc' := 5) (lv' := [(0, vR t), (1, vI a1), (2, vI a2)]) (st' := [vI a2, vR (jR W 1315 t)]) rfl ?_
  refine j_gd (fun h2 => ?_)
  refine j_iald hx (f := 1315) (o := t) kd1315 rfl (by decide +kernel) h2 ?_
  refine j_TI (j_callS (av := [vI (jA W 1315 t (ix a2))]) (st := []) hx hr (Or.inl q2953) q2954 q241 md_fmo_sort np_fmo_sort (cmo_sort (jA W 1315 t (ix a2)) W) (by decide) (Nat.le_of_ble_eq_true rfl) (by decide +kernel)) ?_
  refine j_runA hx 1 (tb := [(9, .istore_n 3)]) (jtb_ok (by decide +kernel)) (pc' := 10) (lv' := [(3, vI (fmo_sort (jA W 1315 t (ix a2)))), (0, vR t), (1, vI a1), (2, vI a2)]) (st' := []) rfl ?_
  refine j_let (v := (fmo_sort (jA W 1315 t (ix a2)))) (lv := fun v3 => [(3, vI v3), (0, vR t), (1, vI a1), (2, vI a2)]) (st := fun _ => []) (fun v3 => ?_)
  refine j_runA hx 1 (tb := [(10, .iload_n 3)]) (jtb_ok (by decide +kernel)) (pc' := 11) (lv' := [(3, vI v3), (0, vR t), (1, vI a1), (2, vI a2)]) (st' := [vI v3]) rfl ?_
  refine j_TI (j_callS (av := [vI v3]) (st := []) hx hr (Or.inl q3040) q3041 q241 md_fmo_isIf np_fmo_isIf (cmo_isIf v3 W) (by decide) (Nat.le_of_ble_eq_true rfl) (by decide +kernel)) ?_
  refine j_if_ne hx (off := 17) (tgt := 31) (by decide +kernel) (by decide) (fun _ => ?_) (fun _ => ?_)
  · refine j_lv (lv' := [(0, vR t), (1, vI a1), (2, vI a2), (3, vI v3)]) ⟨rfl, rfl, rfl, rfl, trivial⟩ ?_
    exact wmo_goesRight_31 h v3
  refine j_runA hx 2 (tb := [(17, .iload_n 3), (18, .bipush 12)]) (jtb_ok (by decide +kernel)) (pc' := 20) (lv' := [(3, vI v3), (0, vR t), (1, vI a1), (2, vI a2)]) (st' := [vI (kI 12), vI v3]) rfl ?_
  refine j_icmp_eq hx (off := 11) (tgt := 31) (by decide +kernel) (by decide) (fun _ => ?_) (fun _ => ?_)
  · refine j_lv (lv' := [(0, vR t), (1, vI a1), (2, vI a2), (3, vI v3)]) ⟨rfl, rfl, rfl, rfl, trivial⟩ ?_
    exact wmo_goesRight_31 h v3
  refine j_runA hx 2 (tb := [(23, .iload_n 3), (24, .bipush 13)]) (jtb_ok (by decide +kernel)) (pc' := 26) (lv' := [(3, vI v3), (0, vR t), (1, vI a1), (2, vI a2)]) (st' := [vI (kI 13), vI v3]) rfl ?_
  refine j_icmp_eq hx (off := 5) (tgt := 31) (by decide +kernel) (by decide) (fun _ => ?_) (fun _ => ?_)
  · refine j_lv (lv' := [(0, vR t), (1, vI a1), (2, vI a2), (3, vI v3)]) ⟨rfl, rfl, rfl, rfl, trivial⟩ ?_
    exact wmo_goesRight_31 h v3
  refine j_runA hx 1 (tb := [(29, .iconst 1)]) (jtb_ok (by decide +kernel)) (pc' := 30) (lv' := [(3, vI v3), (0, vR t), (1, vI a1), (2, vI a2)]) (st' := [vI (kI 1)]) rfl ?_
  exact j_iret hx hm (by decide +kernel) jz1n (he _)
theorem cmo_goesRight (t : Nat) (a1 : Int32) (a2 : Int32) (W : jW) : jM yX8_goesRight cX8_goesRight 6 (Option.some Jvm.ClassFile.FieldType.boolean) [] 3 43 [vR t, vI a1, vI a2] W ((fmo_goesRight t a1 a2 W).bind (fun q => some (.returned (some (.int q)), W))) := 
  jM.of (Nat.le_of_ble_eq_true rfl) (fun x hx hm hr => wmo_goesRight ⟨hx, hm, hr, fun _ => rfl⟩)
def hmo_lead (x : jCx) (en : (jW) → Option (Outcome × jW)) (t : Nat) (a1 : Int32) : Prop :=
  jOK x RX8 cX8_lead 2 ∧
  jMt x "lead" (Option.none : Option Jvm.ClassFile.FieldType) [] ∧
  jRm x 0 0 ∧
  (∀ q : jW, en q = some (.returned none, q))
theorem wmo_lead {x : jCx} {en : (jW) → Option (Outcome × jW)} {t : Nat} {a1 : Int32} (h : hmo_lead x en t a1) (W : jW) : jJ x 2 0 [(0, vR t), (1, vI a1)] [] W (fmo_lead t a1 W) en := by
  have h0 := h
  obtain ⟨hx, hm, hr, he⟩ := h0
  unfold fmo_lead
  refine j_runA hx 1 (tb := [(0, .iload_n 1)]) (jtb_ok (by decide +kernel)) (pc' := 1) (lv' := [(0, vR t), (1, vI a1)]) (st' := [vI a1]) rfl ?_
  refine j_if_lt hx (off := 18) (tgt := 19) (by decide +kernel) (by decide) (fun _ => ?_) (fun _ => ?_)
  · exact j_vret hx hm (by decide +kernel) (he _)
  refine j_runA hx 2 (tb := [(4, .iload_n 1), (5, .aload_n 0)]) (jtb_ok (by decide +kernel)) (pc' := 6) (lv' := [(0, vR t), (1, vI a1)]) (st' := [vR t, vI a1]) rfl ?_
  refine j_gd (fun h1 => ?_)
  refine j_getI hx flX8_316 kd1310 h1 (by decide) (by decide +kernel) ?_
  refine j_icmp_ge hx (off := 10) (tgt := 19) (by decide +kernel) (by decide) (fun _ => ?_) (fun _ => ?_)
  · exact j_vret hx hm (by decide +kernel) (he _)
  refine j_runA hx 1 (tb := [(12, .aload_n 0)]) (jtb_ok (by decide +kernel)) (pc' := 13) (lv' := [(0, vR t), (1, vI a1)]) (st' := [vR t]) rfl ?_
  refine j_getR hx flX8_46 kl1318 h1 (by decide) (by decide +kernel) ?_
  refine j_runA hx 2 (tb := [(16, .iload_n 1), (17, .iconst 1)]) (jtb_ok (by decide +kernel)) (pc' := 18) (lv' := [(0, vR t), (1, vI a1)]) (st' := [vI (kI 1), vI a1, vR (jR W 1318 t)]) rfl ?_
  refine j_gd (fun h2 => ?_)
  refine j_zast hx (f := 1318) (o := t) kd1318 rfl (by decide +kernel) h2 ?_
  refine j_ltw rfl (fun W3 hc4 => ?_)
  have h5 : jC W3 t = 13 := (congrFun hc4 _).trans h1
  exact j_vret hx hm (by decide +kernel) (he _)
theorem cmo_lead (t : Nat) (a1 : Int32) (W : jW) : jM yX8_lead cX8_lead 2 (Option.none : Option Jvm.ClassFile.FieldType) [] 0 0 [vR t, vI a1] W ((fmo_lead t a1 W).bind (fun q => some (.returned none, q))) := 
  jM.of (Nat.le_of_ble_eq_true rfl) (fun x hx hm hr => wmo_lead ⟨hx, hm, hr, fun _ => rfl⟩ W)
def hmo_close (x : jCx) (en : (jW) → Option (Outcome × jW)) (t : Nat) (a1 : Int32) : Prop :=
  jOK x RX8 cX8_close 6 ∧
  jMt x "close" (Option.none : Option Jvm.ClassFile.FieldType) [] ∧
  jRm x 3 43 ∧
  (∀ q : jW, en q = some (.returned none, q))
theorem wmo_close_173 {x : jCx} {en : (jW) → Option (Outcome × jW)} {t : Nat} {a1 : Int32} (h : hmo_close x en t a1) (s0 : Int32) (s1 : Int32) (s2 : Nat) (W : jW) : jJ x 6 173 [(0, vR t), (1, vI a1)] [vI s0, vI s1, vR s2] W (fmo_close_173 t a1 s0 s1 s2 W) en := by
  have h0 := h
  obtain ⟨hx, hm, hr, he⟩ := h0
  unfold fmo_close_173
  refine j_gd (fun h33 => ?_)
  refine j_gd (fun h34 => ?_)
  refine j_iast hx (f := 1325) (o := t) kd1325 h33 (by decide +kernel) h34 ?_
  refine j_ltw rfl (fun W35 hc36 => ?_)
  exact j_vret hx hm (by decide +kernel) (he _)
theorem wmo_close_152 {x : jCx} {en : (jW) → Option (Outcome × jW)} {t : Nat} {a1 : Int32} (h : hmo_close x en t a1) (l3 : Int32) (l5 : Int32) (W : jW) : jJ x 6 152 [(0, vR t), (1, vI a1), (3, vI l3), (5, vI l5)] [] W (fmo_close_152 t a1 l3 l5 W) en := by
  have h0 := h
  obtain ⟨hx, hm, hr, he⟩ := h0
  unfold fmo_close_152
  refine j_runA hx 2 (tb := [(152, .iload_n 3), (153, .bipush 12)]) (jtb_ok (by decide +kernel)) (pc' := 155) (lv' := [(0, vR t), (1, vI a1), (3, vI l3), (5, vI l5)]) (st' := [vI (kI 12), vI l3]) rfl ?_
  refine j_icmp_ne hx (off := 19) (tgt := 174) (by decide +kernel) (by decide) (fun _ => ?_) (fun _ => ?_)
  · exact j_vret hx hm (by decide +kernel) (he _)
  refine j_runA hx 1 (tb := [(158, .aload_n 0)]) (jtb_ok (by decide +kernel)) (pc' := 159) (lv' := [(0, vR t), (1, vI a1), (3, vI l3), (5, vI l5)]) (st' := [vR t]) rfl ?_
  refine j_gd (fun h31 => ?_)
  refine j_getR hx flX8_68 kl1325 h31 (by decide) (by decide +kernel) ?_
  refine j_runA hx 2 (tb := [(162, .iload_n 1), (163, .iload 5)]) (jtb_ok (by decide +kernel)) (pc' := 165) (lv' := [(0, vR t), (1, vI a1), (3, vI l3), (5, vI l5)]) (st' := [vI l5, vI a1, vR (jR W 1325 t)]) rfl ?_
  refine j_if_eq hx (off := 7) (tgt := 172) (by decide +kernel) (by decide) (fun _ => ?_) (fun _ => ?_)
  · refine j_runA hx 1 (tb := [(172, .iconst 2)]) (jtb_ok (by decide +kernel)) (pc' := 173) (lv' := [(0, vR t), (1, vI a1), (3, vI l3), (5, vI l5)]) (st' := [vI (kI 2), vI a1, vR (jR W 1325 t)]) rfl ?_
    refine j_lv (lv' := [(0, vR t), (1, vI a1)]) ⟨rfl, rfl, trivial⟩ ?_
    exact wmo_close_173 h (kI 2) a1 (jR W 1325 t) W
  refine j_runA hx 1 (tb := [(168, .iconst 1)]) (jtb_ok (by decide +kernel)) (pc' := 169) (lv' := [(0, vR t), (1, vI a1), (3, vI l3), (5, vI l5)]) (st' := [vI (kI 1), vI a1, vR (jR W 1325 t)]) rfl ?_
  refine j_goto hx (off := 4) (by decide +kernel) (tgt := 173) (by decide) ?_
  refine j_lv (lv' := [(0, vR t), (1, vI a1)]) ⟨rfl, rfl, trivial⟩ ?_
  exact wmo_close_173 h (kI 1) a1 (jR W 1325 t) W
theorem wmo_close_137 {x : jCx} {en : (jW) → Option (Outcome × jW)} {t : Nat} {a1 : Int32} (h : hmo_close x en t a1) (l3 : Int32) (l4 : Int32) (s0 : Int32) (W : jW) : jJ x 6 137 [(0, vR t), (1, vI a1), (3, vI l3), (4, vI l4)] [vI s0] W (fmo_close_137 t a1 l3 l4 s0 W) en := by
  have h0 := h
  obtain ⟨hx, hm, hr, he⟩ := h0
  unfold fmo_close_137
  refine j_runA hx 2 (tb := [(137, .istore 5), (139, .iload 5)]) (jtb_ok (by decide +kernel)) (pc' := 141) (lv' := [(5, vI s0), (0, vR t), (1, vI a1), (3, vI l3), (4, vI l4)]) (st' := [vI s0]) rfl ?_
  refine j_if_eq hx (off := 11) (tgt := 152) (by decide +kernel) (by decide) (fun _ => ?_) (fun _ => ?_)
  · refine j_lv (lv' := [(0, vR t), (1, vI a1), (3, vI l3), (5, vI s0)]) ⟨rfl, rfl, rfl, rfl, trivial⟩ ?_
    exact wmo_close_152 h l3 s0 W
  refine j_runA hx 1 (tb := [(144, .aload_n 0)]) (jtb_ok (by decide +kernel)) (pc' := 145) (lv' := [(5, vI s0), (0, vR t), (1, vI a1), (3, vI l3), (4, vI l4)]) (st' := [vR t]) rfl ?_
  refine j_gd (fun h24 => ?_)
  refine j_getR hx flX8_71 kl1326 h24 (by decide) (by decide +kernel) ?_
  refine j_runA hx 2 (tb := [(148, .iload_n 1), (149, .iload 4)]) (jtb_ok (by decide +kernel)) (pc' := 151) (lv' := [(5, vI s0), (0, vR t), (1, vI a1), (3, vI l3), (4, vI l4)]) (st' := [vI l4, vI a1, vR (jR W 1326 t)]) rfl ?_
  refine j_gd (fun h25 => ?_)
  refine j_iast hx (f := 1326) (o := t) kd1326 rfl (by decide +kernel) h25 ?_
  refine j_ltw rfl (fun W26 hc27 => ?_)
  have h28 : jC W26 t = 13 := (congrFun hc27 _).trans h24
  refine j_lv (lv' := [(0, vR t), (1, vI a1), (3, vI l3), (5, vI s0)]) ⟨rfl, rfl, rfl, rfl, trivial⟩ ?_
  exact wmo_close_152 h l3 s0 W26
theorem wmo_close_97 {x : jCx} {en : (jW) → Option (Outcome × jW)} {t : Nat} {a1 : Int32} (h : hmo_close x en t a1) (l2 : Int32) (l3 : Int32) (W : jW) : jJ x 6 97 [(0, vR t), (1, vI a1), (2, vI l2), (3, vI l3)] [] W (fmo_close_97 t a1 l2 l3 W) en := by
  have h0 := h
  obtain ⟨hx, hm, hr, he⟩ := h0
  unfold fmo_close_97
  refine j_runA hx 1 (tb := [(97, .aload_n 0)]) (jtb_ok (by decide +kernel)) (pc' := 98) (lv' := [(0, vR t), (1, vI a1), (2, vI l2), (3, vI l3)]) (st' := [vR t]) rfl ?_
  refine j_gd (fun h17 => ?_)
  refine j_getR hx flX8_43 kl1317 h17 (by decide) (by decide +kernel) ?_
  refine j_runA hx 2 (tb := [(101, .iload_n 2), (102, .aload_n 0)]) (jtb_ok (by decide +kernel)) (pc' := 103) (lv' := [(0, vR t), (1, vI a1), (2, vI l2), (3, vI l3)]) (st' := [vR t, vI l2, vR (jR W 1317 t)]) rfl ?_
  refine j_getR hx flX8_36 kl1315 h17 (by decide) (by decide +kernel) ?_
  refine j_runA hx 1 (tb := [(106, .iload_n 2)]) (jtb_ok (by decide +kernel)) (pc' := 107) (lv' := [(0, vR t), (1, vI a1), (2, vI l2), (3, vI l3)]) (st' := [vI l2, vR (jR W 1315 t), vI l2, vR (jR W 1317 t)]) rfl ?_
  refine j_gd (fun h18 => ?_)
  refine j_iald hx (f := 1315) (o := t) kd1315 rfl (by decide +kernel) h18 ?_
  refine j_runA hx 1 (tb := [(108, .iload_n 3)]) (jtb_ok (by decide +kernel)) (pc' := 109) (lv' := [(0, vR t), (1, vI a1), (2, vI l2), (3, vI l3)]) (st' := [vI l3, vI (jA W 1315 t (ix l2)), vI l2, vR (jR W 1317 t)]) rfl ?_
  refine j_TI (j_callS (av := [vI (jA W 1315 t (ix l2)), vI l3]) (st := [vI l2, vR (jR W 1317 t)]) hx hr (Or.inl q3031) q3032 q241 md_fmo_far np_fmo_far (cmo_far (jA W 1315 t (ix l2)) l3 W) (by decide) (Nat.le_of_ble_eq_true rfl) (by decide +kernel)) ?_
  refine j_runA hx 1 (tb := [(112, .iadd)]) (jtb_ok (by decide +kernel)) (pc' := 113) (lv' := [(0, vR t), (1, vI a1), (2, vI l2), (3, vI l3)]) (st' := [vI (l2 + (fmo_far (jA W 1315 t (ix l2)) l3)), vR (jR W 1317 t)]) rfl ?_
  refine j_gd (fun h19 => ?_)
  refine j_iald hx (f := 1317) (o := t) kd1317 rfl (by decide +kernel) h19 ?_
  refine j_runA hx 1 (tb := [(114, .istore 4)]) (jtb_ok (by decide +kernel)) (pc' := 116) (lv' := [(4, vI (jA W 1317 t (ix (l2 + (fmo_far (jA W 1315 t (ix l2)) l3))))), (0, vR t), (1, vI a1), (2, vI l2), (3, vI l3)]) (st' := []) rfl ?_
  refine j_let (v := (jA W 1317 t (ix (l2 + (fmo_far (jA W 1315 t (ix l2)) l3))))) (lv := fun v20 => [(4, vI v20), (0, vR t), (1, vI a1), (2, vI l2), (3, vI l3)]) (st := fun _ => []) (fun v20 => ?_)
  refine j_runA hx 1 (tb := [(116, .aload_n 0)]) (jtb_ok (by decide +kernel)) (pc' := 117) (lv' := [(4, vI v20), (0, vR t), (1, vI a1), (2, vI l2), (3, vI l3)]) (st' := [vR t]) rfl ?_
  refine j_getR hx flX8_65 kl1324 h17 (by decide) (by decide +kernel) ?_
  refine j_runA hx 1 (tb := [(120, .iload 4)]) (jtb_ok (by decide +kernel)) (pc' := 122) (lv' := [(4, vI v20), (0, vR t), (1, vI a1), (2, vI l2), (3, vI l3)]) (st' := [vI v20, vR (jR W 1324 t)]) rfl ?_
  refine j_gd (fun h21 => ?_)
  refine j_iald hx (f := 1324) (o := t) kd1324 rfl (by decide +kernel) h21 ?_
  refine j_runA hx 1 (tb := [(123, .aload_n 0)]) (jtb_ok (by decide +kernel)) (pc' := 124) (lv' := [(4, vI v20), (0, vR t), (1, vI a1), (2, vI l2), (3, vI l3)]) (st' := [vR t, vI (jA W 1324 t (ix v20))]) rfl ?_
  refine j_getR hx flX8_65 kl1324 h17 (by decide) (by decide +kernel) ?_
  refine j_runA hx 1 (tb := [(127, .iload_n 1)]) (jtb_ok (by decide +kernel)) (pc' := 128) (lv' := [(4, vI v20), (0, vR t), (1, vI a1), (2, vI l2), (3, vI l3)]) (st' := [vI a1, vR (jR W 1324 t), vI (jA W 1324 t (ix v20))]) rfl ?_
  refine j_gd (fun h22 => ?_)
  refine j_iald hx (f := 1324) (o := t) kd1324 rfl (by decide +kernel) h22 ?_
  refine j_icmp_ne hx (off := 7) (tgt := 136) (by decide +kernel) (by decide) (fun _ => ?_) (fun _ => ?_)
  · refine j_runA hx 1 (tb := [(136, .iconst 0)]) (jtb_ok (by decide +kernel)) (pc' := 137) (lv' := [(4, vI v20), (0, vR t), (1, vI a1), (2, vI l2), (3, vI l3)]) (st' := [vI (kI 0)]) rfl ?_
    refine j_lv (lv' := [(0, vR t), (1, vI a1), (3, vI l3), (4, vI v20)]) ⟨rfl, rfl, rfl, rfl, trivial⟩ ?_
    exact wmo_close_137 h l3 v20 (kI 0) W
  refine j_runA hx 1 (tb := [(132, .iconst 1)]) (jtb_ok (by decide +kernel)) (pc' := 133) (lv' := [(4, vI v20), (0, vR t), (1, vI a1), (2, vI l2), (3, vI l3)]) (st' := [vI (kI 1)]) rfl ?_
  refine j_goto hx (off := 4) (by decide +kernel) (tgt := 137) (by decide) ?_
  refine j_lv (lv' := [(0, vR t), (1, vI a1), (3, vI l3), (4, vI v20)]) ⟨rfl, rfl, rfl, rfl, trivial⟩ ?_
  exact wmo_close_137 h l3 v20 (kI 1) W
theorem wmo_close_82 {x : jCx} {en : (jW) → Option (Outcome × jW)} {t : Nat} {a1 : Int32} (h : hmo_close x en t a1) (l2 : Int32) (l3 : Int32) (s0 : Int32) (s1 : Int32) (s2 : Nat) (W : jW) : jJ x 6 82 [(0, vR t), (1, vI a1), (2, vI l2), (3, vI l3)] [vI s0, vI s1, vR s2] W (fmo_close_82 t a1 l2 l3 s0 s1 s2 W) en := by
  have h0 := h
  obtain ⟨hx, hm, hr, he⟩ := h0
  unfold fmo_close_82
  refine j_gd (fun h11 => ?_)
  refine j_gd (fun h12 => ?_)
  refine j_iast hx (f := 1325) (o := t) kd1325 h11 (by decide +kernel) h12 ?_
  refine j_ltw rfl (fun W13 hc14 => ?_)
  refine j_runA hx 2 (tb := [(83, .iload_n 3), (84, .bipush 12)]) (jtb_ok (by decide +kernel)) (pc' := 86) (lv' := [(0, vR t), (1, vI a1), (2, vI l2), (3, vI l3)]) (st' := [vI (kI 12), vI l3]) rfl ?_
  refine j_icmp_eq hx (off := 11) (tgt := 97) (by decide +kernel) (by decide) (fun _ => ?_) (fun _ => ?_)
  · exact wmo_close_97 h l2 l3 W13
  refine j_runA hx 1 (tb := [(89, .iload_n 3)]) (jtb_ok (by decide +kernel)) (pc' := 90) (lv' := [(0, vR t), (1, vI a1), (2, vI l2), (3, vI l3)]) (st' := [vI l3]) rfl ?_
  refine j_TI (j_callS (av := [vI l3]) (st := []) hx hr (Or.inl q3040) q3041 q241 md_fmo_isIf np_fmo_isIf (cmo_isIf l3 W13) (by decide) (Nat.le_of_ble_eq_true rfl) (by decide +kernel)) ?_
  refine j_if_ne hx (off := 4) (tgt := 97) (by decide +kernel) (by decide) (fun _ => ?_) (fun _ => ?_)
  · exact wmo_close_97 h l2 l3 W13
  exact j_vret hx hm (by decide +kernel) (he _)
theorem wmo_close {x : jCx} {en : (jW) → Option (Outcome × jW)} {t : Nat} {a1 : Int32} (h : hmo_close x en t a1) (W : jW) : jJ x 6 0 [(0, vR t), (1, vI a1)] [] W (fmo_close t a1 W) en := by
  have h0 := h
  obtain ⟨hx, hm, hr, he⟩ := h0
  unfold fmo_close
  refine j_runA hx 2 (tb := [(0, .aload_n 0), (1, .iload_n 1)]) (jtb_ok (by decide +kernel)) (pc' := 2) (lv' := [(0, vR t), (1, vI a1)]) (st' := [vI a1, vR t]) rfl ?_
  refine j_gd (fun h1 => ?_)
  refine j_OI (j_callV (av := [vI a1]) (st := []) hx hr (Or.inl q3063) q3065 qs147 rfl md_fmo_last np_fmo_last (cmo_last t a1 W) (by decide) (Nat.le_of_ble_eq_true rfl) h1 (by decide) (by decide +kernel)) (fun q2 _ => ?_)
  refine j_runA hx 2 (tb := [(5, .istore_n 2), (6, .aload_n 0)]) (jtb_ok (by decide +kernel)) (pc' := 7) (lv' := [(2, vI q2), (0, vR t), (1, vI a1)]) (st' := [vR t]) rfl ?_
  refine j_getR hx flX8_36 kl1315 h1 (by decide) (by decide +kernel) ?_
  refine j_runA hx 1 (tb := [(10, .iload_n 2)]) (jtb_ok (by decide +kernel)) (pc' := 11) (lv' := [(2, vI q2), (0, vR t), (1, vI a1)]) (st' := [vI q2, vR (jR W 1315 t)]) rfl ?_
  refine j_gd (fun h3 => ?_)
  refine j_iald hx (f := 1315) (o := t) kd1315 rfl (by decide +kernel) h3 ?_
  refine j_TI (j_callS (av := [vI (jA W 1315 t (ix q2))]) (st := []) hx hr (Or.inl q2953) q2954 q241 md_fmo_sort np_fmo_sort (cmo_sort (jA W 1315 t (ix q2)) W) (by decide) (Nat.le_of_ble_eq_true rfl) (by decide +kernel)) ?_
  refine j_runA hx 1 (tb := [(15, .istore_n 3)]) (jtb_ok (by decide +kernel)) (pc' := 16) (lv' := [(3, vI (fmo_sort (jA W 1315 t (ix q2)))), (2, vI q2), (0, vR t), (1, vI a1)]) (st' := []) rfl ?_
  refine j_let (v := (fmo_sort (jA W 1315 t (ix q2)))) (lv := fun v4 => [(3, vI v4), (2, vI q2), (0, vR t), (1, vI a1)]) (st := fun _ => []) (fun v4 => ?_)
  refine j_runA hx 1 (tb := [(16, .aload_n 0)]) (jtb_ok (by decide +kernel)) (pc' := 17) (lv' := [(3, vI v4), (2, vI q2), (0, vR t), (1, vI a1)]) (st' := [vR t]) rfl ?_
  refine j_getR hx flX8_71 kl1326 h1 (by decide) (by decide +kernel) ?_
  refine j_runA hx 2 (tb := [(20, .iload_n 1), (21, .iconst (-1))]) (jtb_ok (by decide +kernel)) (pc' := 22) (lv' := [(3, vI v4), (2, vI q2), (0, vR t), (1, vI a1)]) (st' := [vI (kI (-1)), vI a1, vR (jR W 1326 t)]) rfl ?_
  refine j_gd (fun h5 => ?_)
  refine j_iast hx (f := 1326) (o := t) kd1326 rfl (by decide +kernel) h5 ?_
  refine j_ltw rfl (fun W6 hc7 => ?_)
  have h8 : jC W6 t = 13 := (congrFun hc7 _).trans h1
  refine j_runA hx 1 (tb := [(23, .aload_n 0)]) (jtb_ok (by decide +kernel)) (pc' := 24) (lv' := [(3, vI v4), (2, vI q2), (0, vR t), (1, vI a1)]) (st' := [vR t]) rfl ?_
  refine j_getR hx flX8_68 kl1325 h8 (by decide) (by decide +kernel) ?_
  refine j_runA hx 3 (tb := [(27, .iload_n 1), (28, .iload_n 3), (29, .bipush 13)]) (jtb_ok (by decide +kernel)) (pc' := 31) (lv' := [(3, vI v4), (2, vI q2), (0, vR t), (1, vI a1)]) (st' := [vI (kI 13), vI v4, vI a1, vR (jR W6 1325 t)]) rfl ?_
  refine j_icmp_ne hx (off := 7) (tgt := 38) (by decide +kernel) (by decide) (fun _ => ?_) (fun _ => ?_)
  · refine j_runA hx 2 (tb := [(38, .iload_n 3), (39, .bipush 18)]) (jtb_ok (by decide +kernel)) (pc' := 41) (lv' := [(3, vI v4), (2, vI q2), (0, vR t), (1, vI a1)]) (st' := [vI (kI 18), vI v4, vI a1, vR (jR W6 1325 t)]) rfl ?_
    refine j_icmp_ne hx (off := 7) (tgt := 48) (by decide +kernel) (by decide) (fun _ => ?_) (fun _ => ?_)
    · refine j_runA hx 2 (tb := [(48, .iload_n 3), (49, .bipush 17)]) (jtb_ok (by decide +kernel)) (pc' := 51) (lv' := [(3, vI v4), (2, vI q2), (0, vR t), (1, vI a1)]) (st' := [vI (kI 17), vI v4, vI a1, vR (jR W6 1325 t)]) rfl ?_
      refine j_icmp_ne hx (off := 8) (tgt := 59) (by decide +kernel) (by decide) (fun _ => ?_) (fun _ => ?_)
      · refine j_runA hx 2 (tb := [(59, .iload_n 3), (60, .bipush 19)]) (jtb_ok (by decide +kernel)) (pc' := 62) (lv' := [(3, vI v4), (2, vI q2), (0, vR t), (1, vI a1)]) (st' := [vI (kI 19), vI v4, vI a1, vR (jR W6 1325 t)]) rfl ?_
        refine j_icmp_ne hx (off := 8) (tgt := 70) (by decide +kernel) (by decide) (fun _ => ?_) (fun _ => ?_)
        · refine j_runA hx 1 (tb := [(70, .iload_n 3)]) (jtb_ok (by decide +kernel)) (pc' := 71) (lv' := [(3, vI v4), (2, vI q2), (0, vR t), (1, vI a1)]) (st' := [vI v4, vI a1, vR (jR W6 1325 t)]) rfl ?_
          refine j_TI (j_callS (av := [vI v4]) (st := [vI a1, vR (jR W6 1325 t)]) hx hr (Or.inl q3040) q3041 q241 md_fmo_isIf np_fmo_isIf (cmo_isIf v4 W6) (by decide) (Nat.le_of_ble_eq_true rfl) (by decide +kernel)) ?_
          refine j_if_eq hx (off := 7) (tgt := 81) (by decide +kernel) (by decide) (fun _ => ?_) (fun _ => ?_)
          · refine j_runA hx 1 (tb := [(81, .iconst 0)]) (jtb_ok (by decide +kernel)) (pc' := 82) (lv' := [(3, vI v4), (2, vI q2), (0, vR t), (1, vI a1)]) (st' := [vI (kI 0), vI a1, vR (jR W6 1325 t)]) rfl ?_
            refine j_lv (lv' := [(0, vR t), (1, vI a1), (2, vI q2), (3, vI v4)]) ⟨rfl, rfl, rfl, rfl, trivial⟩ ?_
            exact wmo_close_82 h q2 v4 (kI 0) a1 (jR W6 1325 t) W6
          refine j_runA hx 1 (tb := [(77, .iconst 3)]) (jtb_ok (by decide +kernel)) (pc' := 78) (lv' := [(3, vI v4), (2, vI q2), (0, vR t), (1, vI a1)]) (st' := [vI (kI 3), vI a1, vR (jR W6 1325 t)]) rfl ?_
          refine j_goto hx (off := 4) (by decide +kernel) (tgt := 82) (by decide) ?_
          refine j_lv (lv' := [(0, vR t), (1, vI a1), (2, vI q2), (3, vI v4)]) ⟨rfl, rfl, rfl, rfl, trivial⟩ ?_
          exact wmo_close_82 h q2 v4 (kI 3) a1 (jR W6 1325 t) W6
        refine j_runA hx 1 (tb := [(65, .bipush 7)]) (jtb_ok (by decide +kernel)) (pc' := 67) (lv' := [(3, vI v4), (2, vI q2), (0, vR t), (1, vI a1)]) (st' := [vI (kI 7), vI a1, vR (jR W6 1325 t)]) rfl ?_
        refine j_goto hx (off := 15) (by decide +kernel) (tgt := 82) (by decide) ?_
        refine j_lv (lv' := [(0, vR t), (1, vI a1), (2, vI q2), (3, vI v4)]) ⟨rfl, rfl, rfl, rfl, trivial⟩ ?_
        exact wmo_close_82 h q2 v4 (kI 7) a1 (jR W6 1325 t) W6
      refine j_runA hx 1 (tb := [(54, .bipush 6)]) (jtb_ok (by decide +kernel)) (pc' := 56) (lv' := [(3, vI v4), (2, vI q2), (0, vR t), (1, vI a1)]) (st' := [vI (kI 6), vI a1, vR (jR W6 1325 t)]) rfl ?_
      refine j_goto hx (off := 26) (by decide +kernel) (tgt := 82) (by decide) ?_
      refine j_lv (lv' := [(0, vR t), (1, vI a1), (2, vI q2), (3, vI v4)]) ⟨rfl, rfl, rfl, rfl, trivial⟩ ?_
      exact wmo_close_82 h q2 v4 (kI 6) a1 (jR W6 1325 t) W6
    refine j_runA hx 1 (tb := [(44, .iconst 5)]) (jtb_ok (by decide +kernel)) (pc' := 45) (lv' := [(3, vI v4), (2, vI q2), (0, vR t), (1, vI a1)]) (st' := [vI (kI 5), vI a1, vR (jR W6 1325 t)]) rfl ?_
    refine j_goto hx (off := 37) (by decide +kernel) (tgt := 82) (by decide) ?_
    refine j_lv (lv' := [(0, vR t), (1, vI a1), (2, vI q2), (3, vI v4)]) ⟨rfl, rfl, rfl, rfl, trivial⟩ ?_
    exact wmo_close_82 h q2 v4 (kI 5) a1 (jR W6 1325 t) W6
  refine j_runA hx 1 (tb := [(34, .iconst 4)]) (jtb_ok (by decide +kernel)) (pc' := 35) (lv' := [(3, vI v4), (2, vI q2), (0, vR t), (1, vI a1)]) (st' := [vI (kI 4), vI a1, vR (jR W6 1325 t)]) rfl ?_
  refine j_goto hx (off := 47) (by decide +kernel) (tgt := 82) (by decide) ?_
  refine j_lv (lv' := [(0, vR t), (1, vI a1), (2, vI q2), (3, vI v4)]) ⟨rfl, rfl, rfl, rfl, trivial⟩ ?_
  exact wmo_close_82 h q2 v4 (kI 4) a1 (jR W6 1325 t) W6
theorem cmo_close (t : Nat) (a1 : Int32) (W : jW) : jM yX8_close cX8_close 6 (Option.none : Option Jvm.ClassFile.FieldType) [] 3 43 [vR t, vI a1] W ((fmo_close t a1 W).bind (fun q => some (.returned none, q))) := 
  jM.of (Nat.le_of_ble_eq_true rfl) (fun x hx hm hr => wmo_close ⟨hx, hm, hr, fun _ => rfl⟩ W)
