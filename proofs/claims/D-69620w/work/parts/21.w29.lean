/-! ===== walks: fhd_begins fhd_hasSegments ===== -/
set_option maxRecDepth 100000
def hhd_begins (x : jCx) (en : (Int32 × jW) → Option (Outcome × jW)) (t : Nat) : Prop :=
  jOK x RX9 cX9_begins 2 ∧
  jMt x "begins" (Option.some Jvm.ClassFile.FieldType.boolean) [] ∧
  jRm x 2 36 ∧
  (∀ q : Int32 × jW, en q = some (.returned (some (.int q.1)), q.2))
theorem whd_begins_172 {x : jCx} {en : (Int32 × jW) → Option (Outcome × jW)} {t : Nat} (h : hhd_begins x en t) (W : jW) : jJ x 2 172 [(0, vR t)] [] W (fhd_begins_172 t W) en := by
  have h0 := h
  obtain ⟨hx, hm, hr, he⟩ := h0
  unfold fhd_begins_172
  refine j_runA hx 1 (tb := [(172, .iconst 0)]) (jtb_ok (by decide +kernel)) (pc' := 173) (lv' := [(0, vR t)]) (st' := [vI (kI 0)]) rfl ?_
  exact j_iret hx hm (by decide +kernel) jz0n (he _)
theorem whd_begins_324 {x : jCx} {en : (Int32 × jW) → Option (Outcome × jW)} {t : Nat} (h : hhd_begins x en t) (W : jW) : jJ x 2 324 [(0, vR t)] [] W (fhd_begins_324 t W) en := by
  have h0 := h
  obtain ⟨hx, hm, hr, he⟩ := h0
  unfold fhd_begins_324
  refine j_runA hx 1 (tb := [(324, .iconst 0)]) (jtb_ok (by decide +kernel)) (pc' := 325) (lv' := [(0, vR t)]) (st' := [vI (kI 0)]) rfl ?_
  exact j_iret hx hm (by decide +kernel) jz0n (he _)
theorem whd_begins_381 {x : jCx} {en : (Int32 × jW) → Option (Outcome × jW)} {t : Nat} (h : hhd_begins x en t) (s0 : Int32) (s1 : Nat) (W : jW) : jJ x 2 381 [(0, vR t)] [vI s0, vR s1] W (fhd_begins_381 t s0 s1 W) en := by
  have h0 := h
  obtain ⟨hx, hm, hr, he⟩ := h0
  unfold fhd_begins_381
  refine j_ldc2 hx (v := (kJ 40)) (jkd2 q2848 (by decide +kernel)) (by decide +kernel) ?_
  refine j_gd (fun h73 => ?_)
  refine j_WI (j_callV (av := [vI s0, vL (kJ 40)]) (st := []) hx hr (Or.inl q2818) q2820 qs124 rfl md_fhd_is np_fhd_is (chd_is s1 s0 (kJ 40) W) (by decide) (Nat.le_of_ble_eq_true rfl) h73 (by decide) (by decide +kernel)) (fun q74 _ => ?_)
  refine j_gd (fun h76 => ?_)
  exact j_iret hx hm (by decide +kernel) (jzn h76) (he _)
theorem whd_begins_380 {x : jCx} {en : (Int32 × jW) → Option (Outcome × jW)} {t : Nat} (h : hhd_begins x en t) (s0 : Nat) (W : jW) : jJ x 2 380 [(0, vR t)] [vR s0] W (fhd_begins_380 t s0 W) en := by
  have h0 := h
  obtain ⟨hx, hm, hr, he⟩ := h0
  unfold fhd_begins_380
  refine j_runA hx 1 (tb := [(380, .iconst 0)]) (jtb_ok (by decide +kernel)) (pc' := 381) (lv' := [(0, vR t)]) (st' := [vI (kI 0), vR s0]) rfl ?_
  exact whd_begins_381 h (kI 0) s0 W
theorem whd_begins_315 {x : jCx} {en : (Int32 × jW) → Option (Outcome × jW)} {t : Nat} (h : hhd_begins x en t) (s0 : Int32) (s1 : Nat) (W : jW) : jJ x 2 315 [(0, vR t)] [vI s0, vR s1] W (fhd_begins_315 t s0 s1 W) en := by
  have h0 := h
  obtain ⟨hx, hm, hr, he⟩ := h0
  unfold fhd_begins_315
  refine j_ldc2 hx (v := (kJ 62)) (jkd2 q2846 (by decide +kernel)) (by decide +kernel) ?_
  refine j_gd (fun h63 => ?_)
  refine j_WI (j_callV (av := [vI s0, vL (kJ 62)]) (st := []) hx hr (Or.inl q2818) q2820 qs124 rfl md_fhd_is np_fhd_is (chd_is s1 s0 (kJ 62) W) (by decide) (Nat.le_of_ble_eq_true rfl) h63 (by decide) (by decide +kernel)) (fun q64 _ => ?_)
  refine j_if_ne hx (off := 5) (tgt := 326) (by decide +kernel) (by decide) (fun _ => ?_) (fun _ => ?_)
  · refine j_runA hx 2 (tb := [(326, .aload_n 0), (327, .aload_n 0)]) (jtb_ok (by decide +kernel)) (pc' := 328) (lv' := [(0, vR t)]) (st' := [vR t, vR t]) rfl ?_
    refine j_ldc2 hx (v := (kJ 40)) (jkd2 q2848 (by decide +kernel)) (by decide +kernel) ?_
    refine j_runA hx 1 (tb := [(331, .bipush 8)]) (jtb_ok (by decide +kernel)) (pc' := 333) (lv' := [(0, vR t)]) (st' := [vI (kI 8), vL (kJ 40), vR t, vR t]) rfl ?_
    refine j_gd (fun h66 => ?_)
    refine j_OL (j_callV (av := [vL (kJ 40), vI (kI 8)]) (st := [vR t]) hx hr (Or.inl q2849) q2850 q2851 rfl md_fhd_big np_fhd_big (chd_big t (kJ 40) (kI 8) q64.2) (by decide) (Nat.le_of_ble_eq_true rfl) h66 (by decide) (by decide +kernel)) (fun q67 _ => ?_)
    refine j_putL hx fwX9_141 wf1405 kd1405 h66 (by decide) (by decide +kernel) (nl1405 _) (ff1405 _) ?_
    refine j_ltw rfl (fun W68 hc69 => ?_)
    have h70 : jC W68 t = 14 := (congrFun hc69 _).trans h66
    refine j_runA hx 2 (tb := [(339, .aload_n 0), (340, .aload_n 0)]) (jtb_ok (by decide +kernel)) (pc' := 341) (lv' := [(0, vR t)]) (st' := [vR t, vR t]) rfl ?_
    refine j_getL hx flX9_141 kd1405 h70 (by decide) (by decide +kernel) ?_
    refine j_ldc2 hx (v := (kJ 8)) (jkd2 q2829 (by decide +kernel)) (by decide +kernel) ?_
    refine j_lrem hx (by decide +kernel) (by decide +kernel) ?_
    refine j_runA hx 1 (tb := [(348, .lconst 0)]) (jtb_ok (by decide +kernel)) (pc' := 349) (lv' := [(0, vR t)]) (st' := [vL (kJ 0), vL (lrm (jL W68 1405 t) (kJ 8)), vR t]) rfl ?_
    refine j_lcmp_ne hx (off := 30) (tgt := 380) (by decide +kernel) (by decide +kernel) (by decide) (fun _ => ?_) (fun _ => ?_)
    · exact whd_begins_380 h t W68
    refine j_runA hx 1 (tb := [(353, .aload_n 0)]) (jtb_ok (by decide +kernel)) (pc' := 354) (lv' := [(0, vR t)]) (st' := [vR t, vR t]) rfl ?_
    refine j_getL hx flX9_141 kd1405 h70 (by decide) (by decide +kernel) ?_
    refine j_ldc2 hx (v := (kJ 64)) (jkd2 q2840 (by decide +kernel)) (by decide +kernel) ?_
    refine j_runA hx 1 (tb := [(360, .aload_n 0)]) (jtb_ok (by decide +kernel)) (pc' := 361) (lv' := [(0, vR t)]) (st' := [vR t, vL (kJ 64), vL (jL W68 1405 t), vR t]) rfl ?_
    refine j_getI hx flX9_126 kd1403 h70 (by decide) (by decide +kernel) ?_
    refine j_runA hx 4 (tb := [(364, .i2l), (365, .lmul), (366, .ladd), (367, .aload_n 0)]) (jtb_ok (by decide +kernel)) (pc' := 368) (lv' := [(0, vR t)]) (st' := [vR t, vL ((jL W68 1405 t) + ((kJ 64) * ((jI W68 1403 t).toInt64))), vR t]) rfl ?_
    refine j_getI hx flX9_84 kd1401 h70 (by decide) (by decide +kernel) ?_
    refine j_runA hx 1 (tb := [(371, .i2l)]) (jtb_ok (by decide +kernel)) (pc' := 372) (lv' := [(0, vR t)]) (st' := [vL ((jI W68 1401 t).toInt64), vL ((jL W68 1405 t) + ((kJ 64) * ((jI W68 1403 t).toInt64))), vR t]) rfl ?_
    refine j_lcmp_ne hx (off := 7) (tgt := 380) (by decide +kernel) (by decide +kernel) (by decide) (fun _ => ?_) (fun _ => ?_)
    · exact whd_begins_380 h t W68
    refine j_runA hx 1 (tb := [(376, .iconst 1)]) (jtb_ok (by decide +kernel)) (pc' := 377) (lv' := [(0, vR t)]) (st' := [vI (kI 1), vR t]) rfl ?_
    refine j_goto hx (off := 4) (by decide +kernel) (tgt := 381) (by decide) ?_
    exact whd_begins_381 h (kI 1) t W68
  exact whd_begins_324 h q64.2
theorem whd_begins_314 {x : jCx} {en : (Int32 × jW) → Option (Outcome × jW)} {t : Nat} (h : hhd_begins x en t) (s0 : Nat) (W : jW) : jJ x 2 314 [(0, vR t)] [vR s0] W (fhd_begins_314 t s0 W) en := by
  have h0 := h
  obtain ⟨hx, hm, hr, he⟩ := h0
  unfold fhd_begins_314
  refine j_runA hx 1 (tb := [(314, .iconst 0)]) (jtb_ok (by decide +kernel)) (pc' := 315) (lv' := [(0, vR t)]) (st' := [vI (kI 0), vR s0]) rfl ?_
  exact whd_begins_315 h (kI 0) s0 W
theorem whd_begins_281 {x : jCx} {en : (Int32 × jW) → Option (Outcome × jW)} {t : Nat} (h : hhd_begins x en t) (s0 : Int32) (s1 : Nat) (W : jW) : jJ x 2 281 [(0, vR t)] [vI s0, vR s1] W (fhd_begins_281 t s0 s1 W) en := by
  have h0 := h
  obtain ⟨hx, hm, hr, he⟩ := h0
  unfold fhd_begins_281
  refine j_ldc2 hx (v := (kJ 60)) (jkd2 q2845 (by decide +kernel)) (by decide +kernel) ?_
  refine j_gd (fun h58 => ?_)
  refine j_WI (j_callV (av := [vI s0, vL (kJ 60)]) (st := []) hx hr (Or.inl q2818) q2820 qs124 rfl md_fhd_is np_fhd_is (chd_is s1 s0 (kJ 60) W) (by decide) (Nat.le_of_ble_eq_true rfl) h58 (by decide) (by decide +kernel)) (fun q59 _ => ?_)
  refine j_if_eq hx (off := 37) (tgt := 324) (by decide +kernel) (by decide) (fun _ => ?_) (fun _ => ?_)
  · exact whd_begins_324 h q59.2
  refine j_runA hx 2 (tb := [(290, .aload_n 0), (291, .aload_n 0)]) (jtb_ok (by decide +kernel)) (pc' := 292) (lv' := [(0, vR t)]) (st' := [vR t, vR t]) rfl ?_
  refine j_gd (fun h61 => ?_)
  refine j_getI hx flX9_131 kd1404 h61 (by decide) (by decide +kernel) ?_
  refine j_runA hx 1 (tb := [(295, .iconst 1)]) (jtb_ok (by decide +kernel)) (pc' := 296) (lv' := [(0, vR t)]) (st' := [vI (kI 1), vI (jI q59.2 1404 t), vR t]) rfl ?_
  refine j_icmp_lt hx (off := 18) (tgt := 314) (by decide +kernel) (by decide) (fun _ => ?_) (fun _ => ?_)
  · exact whd_begins_314 h t q59.2
  refine j_runA hx 1 (tb := [(299, .aload_n 0)]) (jtb_ok (by decide +kernel)) (pc' := 300) (lv' := [(0, vR t)]) (st' := [vR t, vR t]) rfl ?_
  refine j_getI hx flX9_131 kd1404 h61 (by decide) (by decide +kernel) ?_
  refine j_runA hx 1 (tb := [(303, .aload_n 0)]) (jtb_ok (by decide +kernel)) (pc' := 304) (lv' := [(0, vR t)]) (st' := [vR t, vI (jI q59.2 1404 t), vR t]) rfl ?_
  refine j_getI hx flX9_126 kd1403 h61 (by decide) (by decide +kernel) ?_
  refine j_icmp_ge hx (off := 7) (tgt := 314) (by decide +kernel) (by decide) (fun _ => ?_) (fun _ => ?_)
  · exact whd_begins_314 h t q59.2
  refine j_runA hx 1 (tb := [(310, .iconst 1)]) (jtb_ok (by decide +kernel)) (pc' := 311) (lv' := [(0, vR t)]) (st' := [vI (kI 1), vR t]) rfl ?_
  refine j_goto hx (off := 4) (by decide +kernel) (tgt := 315) (by decide) ?_
  exact whd_begins_315 h (kI 1) t q59.2
theorem whd_begins_280 {x : jCx} {en : (Int32 × jW) → Option (Outcome × jW)} {t : Nat} (h : hhd_begins x en t) (s0 : Nat) (W : jW) : jJ x 2 280 [(0, vR t)] [vR s0] W (fhd_begins_280 t s0 W) en := by
  have h0 := h
  obtain ⟨hx, hm, hr, he⟩ := h0
  unfold fhd_begins_280
  refine j_runA hx 1 (tb := [(280, .iconst 0)]) (jtb_ok (by decide +kernel)) (pc' := 281) (lv' := [(0, vR t)]) (st' := [vI (kI 0), vR s0]) rfl ?_
  exact whd_begins_281 h (kI 0) s0 W
theorem whd_begins_235 {x : jCx} {en : (Int32 × jW) → Option (Outcome × jW)} {t : Nat} (h : hhd_begins x en t) (s0 : Int32) (s1 : Nat) (W : jW) : jJ x 2 235 [(0, vR t)] [vI s0, vR s1] W (fhd_begins_235 t s0 s1 W) en := by
  have h0 := h
  obtain ⟨hx, hm, hr, he⟩ := h0
  unfold fhd_begins_235
  refine j_ldc2 hx (v := (kJ 56)) (jkd2 q2844 (by decide +kernel)) (by decide +kernel) ?_
  refine j_gd (fun h50 => ?_)
  refine j_WI (j_callV (av := [vI s0, vL (kJ 56)]) (st := []) hx hr (Or.inl q2818) q2820 qs124 rfl md_fhd_is np_fhd_is (chd_is s1 s0 (kJ 56) W) (by decide) (Nat.le_of_ble_eq_true rfl) h50 (by decide) (by decide +kernel)) (fun q51 _ => ?_)
  refine j_if_eq hx (off := 83) (tgt := 324) (by decide +kernel) (by decide) (fun _ => ?_) (fun _ => ?_)
  · exact whd_begins_324 h q51.2
  refine j_runA hx 1 (tb := [(244, .aload_n 0)]) (jtb_ok (by decide +kernel)) (pc' := 245) (lv' := [(0, vR t)]) (st' := [vR t]) rfl ?_
  refine j_ldc2 hx (v := (kJ 58)) (jkd2 q2847 (by decide +kernel)) (by decide +kernel) ?_
  refine j_runA hx 1 (tb := [(248, .iconst 2)]) (jtb_ok (by decide +kernel)) (pc' := 249) (lv' := [(0, vR t)]) (st' := [vI (kI 2), vL (kJ 58), vR t]) rfl ?_
  refine j_ldc2 hx (v := (kJ 64)) (jkd2 q2840 (by decide +kernel)) (by decide +kernel) ?_
  refine j_gd (fun h53 => ?_)
  refine j_WI (j_callV (av := [vL (kJ 58), vI (kI 2), vL (kJ 64)]) (st := []) hx hr (Or.inl q2832) q2834 qs125 rfl md_fhd_has np_fhd_has (chd_has t (kJ 58) (kI 2) (kJ 64) q51.2) (by decide) (Nat.le_of_ble_eq_true rfl) h53 (by decide) (by decide +kernel)) (fun q54 _ => ?_)
  refine j_if_eq hx (off := 69) (tgt := 324) (by decide +kernel) (by decide) (fun _ => ?_) (fun _ => ?_)
  · exact whd_begins_324 h q54.2
  refine j_runA hx 2 (tb := [(258, .aload_n 0), (259, .aload_n 0)]) (jtb_ok (by decide +kernel)) (pc' := 260) (lv' := [(0, vR t)]) (st' := [vR t, vR t]) rfl ?_
  refine j_gd (fun h56 => ?_)
  refine j_getI hx flX9_126 kd1403 h56 (by decide) (by decide +kernel) ?_
  refine j_runA hx 1 (tb := [(263, .iconst 5)]) (jtb_ok (by decide +kernel)) (pc' := 264) (lv' := [(0, vR t)]) (st' := [vI (kI 5), vI (jI q54.2 1403 t), vR t]) rfl ?_
  refine j_icmp_lt hx (off := 16) (tgt := 280) (by decide +kernel) (by decide) (fun _ => ?_) (fun _ => ?_)
  · exact whd_begins_280 h t q54.2
  refine j_runA hx 1 (tb := [(267, .aload_n 0)]) (jtb_ok (by decide +kernel)) (pc' := 268) (lv' := [(0, vR t)]) (st' := [vR t, vR t]) rfl ?_
  refine j_getI hx flX9_126 kd1403 h56 (by decide) (by decide +kernel) ?_
  refine j_runA hx 1 (tb := [(271, .bipush 16)]) (jtb_ok (by decide +kernel)) (pc' := 273) (lv' := [(0, vR t)]) (st' := [vI (kI 16), vI (jI q54.2 1403 t), vR t]) rfl ?_
  refine j_icmp_gt hx (off := 7) (tgt := 280) (by decide +kernel) (by decide) (fun _ => ?_) (fun _ => ?_)
  · exact whd_begins_280 h t q54.2
  refine j_runA hx 1 (tb := [(276, .iconst 1)]) (jtb_ok (by decide +kernel)) (pc' := 277) (lv' := [(0, vR t)]) (st' := [vI (kI 1), vR t]) rfl ?_
  refine j_goto hx (off := 4) (by decide +kernel) (tgt := 281) (by decide) ?_
  exact whd_begins_281 h (kI 1) t q54.2
theorem whd_begins_234 {x : jCx} {en : (Int32 × jW) → Option (Outcome × jW)} {t : Nat} (h : hhd_begins x en t) (s0 : Nat) (W : jW) : jJ x 2 234 [(0, vR t)] [vR s0] W (fhd_begins_234 t s0 W) en := by
  have h0 := h
  obtain ⟨hx, hm, hr, he⟩ := h0
  unfold fhd_begins_234
  refine j_runA hx 1 (tb := [(234, .iconst 0)]) (jtb_ok (by decide +kernel)) (pc' := 235) (lv' := [(0, vR t)]) (st' := [vI (kI 0), vR s0]) rfl ?_
  exact whd_begins_235 h (kI 0) s0 W
theorem whd_begins_67 {x : jCx} {en : (Int32 × jW) → Option (Outcome × jW)} {t : Nat} (h : hhd_begins x en t) (s0 : Int32) (W : jW) : jJ x 2 67 [(0, vR t)] [vI s0] W (fhd_begins_67 t s0 W) en := by
  have h0 := h
  obtain ⟨hx, hm, hr, he⟩ := h0
  unfold fhd_begins_67
  refine j_runA hx 4 (tb := [(67, .istore_n 1), (68, .aload_n 0), (69, .iload_n 1), (70, .lconst 0)]) (jtb_ok (by decide +kernel)) (pc' := 71) (lv' := [(1, vI s0), (0, vR t)]) (st' := [vL (kJ 0), vI s0, vR t]) rfl ?_
  refine j_gd (fun h9 => ?_)
  refine j_WI (j_callV (av := [vI s0, vL (kJ 0)]) (st := []) hx hr (Or.inl q2818) q2820 qs124 rfl md_fhd_is np_fhd_is (chd_is t s0 (kJ 0) W) (by decide) (Nat.le_of_ble_eq_true rfl) h9 (by decide) (by decide +kernel)) (fun q10 _ => ?_)
  refine j_if_eq hx (off := 98) (tgt := 172) (by decide +kernel) (by decide) (fun _ => ?_) (fun _ => ?_)
  · refine j_lv (lv' := [(0, vR t)]) ⟨rfl, trivial⟩ ?_
    exact whd_begins_172 h q10.2
  refine j_runA hx 1 (tb := [(77, .aload_n 0)]) (jtb_ok (by decide +kernel)) (pc' := 78) (lv' := [(1, vI s0), (0, vR t)]) (st' := [vR t]) rfl ?_
  refine j_ldc2 hx (v := (kJ 16)) (jkd2 q2830 (by decide +kernel)) (by decide +kernel) ?_
  refine j_runA hx 1 (tb := [(81, .iconst 2)]) (jtb_ok (by decide +kernel)) (pc' := 82) (lv' := [(1, vI s0), (0, vR t)]) (st' := [vI (kI 2), vL (kJ 16), vR t]) rfl ?_
  refine j_ldc2 hx (v := (kJ 2)) (jkd2 q2831 (by decide +kernel)) (by decide +kernel) ?_
  refine j_gd (fun h12 => ?_)
  refine j_WI (j_callV (av := [vL (kJ 16), vI (kI 2), vL (kJ 2)]) (st := []) hx hr (Or.inl q2832) q2834 qs125 rfl md_fhd_has np_fhd_has (chd_has t (kJ 16) (kI 2) (kJ 2) q10.2) (by decide) (Nat.le_of_ble_eq_true rfl) h12 (by decide) (by decide +kernel)) (fun q13 _ => ?_)
  refine j_if_eq hx (off := 84) (tgt := 172) (by decide +kernel) (by decide) (fun _ => ?_) (fun _ => ?_)
  · refine j_lv (lv' := [(0, vR t)]) ⟨rfl, trivial⟩ ?_
    exact whd_begins_172 h q13.2
  refine j_runA hx 1 (tb := [(91, .aload_n 0)]) (jtb_ok (by decide +kernel)) (pc' := 92) (lv' := [(1, vI s0), (0, vR t)]) (st' := [vR t]) rfl ?_
  refine j_ldc2 hx (v := (kJ 18)) (jkd2 q2836 (by decide +kernel)) (by decide +kernel) ?_
  refine j_runA hx 1 (tb := [(95, .iconst 2)]) (jtb_ok (by decide +kernel)) (pc' := 96) (lv' := [(1, vI s0), (0, vR t)]) (st' := [vI (kI 2), vL (kJ 18), vR t]) rfl ?_
  refine j_ldc2 hx (v := (kJ 183)) (jkd2 q2837 (by decide +kernel)) (by decide +kernel) ?_
  refine j_gd (fun h15 => ?_)
  refine j_WI (j_callV (av := [vL (kJ 18), vI (kI 2), vL (kJ 183)]) (st := []) hx hr (Or.inl q2832) q2834 qs125 rfl md_fhd_has np_fhd_has (chd_has t (kJ 18) (kI 2) (kJ 183) q13.2) (by decide) (Nat.le_of_ble_eq_true rfl) h15 (by decide) (by decide +kernel)) (fun q16 _ => ?_)
  refine j_if_eq hx (off := 70) (tgt := 172) (by decide +kernel) (by decide) (fun _ => ?_) (fun _ => ?_)
  · refine j_lv (lv' := [(0, vR t)]) ⟨rfl, trivial⟩ ?_
    exact whd_begins_172 h q16.2
  refine j_runA hx 1 (tb := [(105, .aload_n 0)]) (jtb_ok (by decide +kernel)) (pc' := 106) (lv' := [(1, vI s0), (0, vR t)]) (st' := [vR t]) rfl ?_
  refine j_ldc2 hx (v := (kJ 20)) (jkd2 q2838 (by decide +kernel)) (by decide +kernel) ?_
  refine j_runA hx 2 (tb := [(109, .iconst 4), (110, .lconst 1)]) (jtb_ok (by decide +kernel)) (pc' := 111) (lv' := [(1, vI s0), (0, vR t)]) (st' := [vL (kJ 1), vI (kI 4), vL (kJ 20), vR t]) rfl ?_
  refine j_gd (fun h18 => ?_)
  refine j_WI (j_callV (av := [vL (kJ 20), vI (kI 4), vL (kJ 1)]) (st := []) hx hr (Or.inl q2832) q2834 qs125 rfl md_fhd_has np_fhd_has (chd_has t (kJ 20) (kI 4) (kJ 1) q16.2) (by decide) (Nat.le_of_ble_eq_true rfl) h18 (by decide) (by decide +kernel)) (fun q19 _ => ?_)
  refine j_if_eq hx (off := 58) (tgt := 172) (by decide +kernel) (by decide) (fun _ => ?_) (fun _ => ?_)
  · refine j_lv (lv' := [(0, vR t)]) ⟨rfl, trivial⟩ ?_
    exact whd_begins_172 h q19.2
  refine j_runA hx 1 (tb := [(117, .aload_n 0)]) (jtb_ok (by decide +kernel)) (pc' := 118) (lv' := [(1, vI s0), (0, vR t)]) (st' := [vR t]) rfl ?_
  refine j_ldc2 hx (v := (kJ 32)) (jkd2 q2839 (by decide +kernel)) (by decide +kernel) ?_
  refine j_runA hx 1 (tb := [(121, .bipush 8)]) (jtb_ok (by decide +kernel)) (pc' := 123) (lv' := [(1, vI s0), (0, vR t)]) (st' := [vI (kI 8), vL (kJ 32), vR t]) rfl ?_
  refine j_ldc2 hx (v := (kJ 64)) (jkd2 q2840 (by decide +kernel)) (by decide +kernel) ?_
  refine j_gd (fun h21 => ?_)
  refine j_WI (j_callV (av := [vL (kJ 32), vI (kI 8), vL (kJ 64)]) (st := []) hx hr (Or.inl q2832) q2834 qs125 rfl md_fhd_has np_fhd_has (chd_has t (kJ 32) (kI 8) (kJ 64) q19.2) (by decide) (Nat.le_of_ble_eq_true rfl) h21 (by decide) (by decide +kernel)) (fun q22 _ => ?_)
  refine j_if_eq hx (off := 43) (tgt := 172) (by decide +kernel) (by decide) (fun _ => ?_) (fun _ => ?_)
  · refine j_lv (lv' := [(0, vR t)]) ⟨rfl, trivial⟩ ?_
    exact whd_begins_172 h q22.2
  refine j_runA hx 1 (tb := [(132, .aload_n 0)]) (jtb_ok (by decide +kernel)) (pc' := 133) (lv' := [(1, vI s0), (0, vR t)]) (st' := [vR t]) rfl ?_
  refine j_ldc2 hx (v := (kJ 48)) (jkd2 q2841 (by decide +kernel)) (by decide +kernel) ?_
  refine j_runA hx 2 (tb := [(136, .iconst 4), (137, .lconst 0)]) (jtb_ok (by decide +kernel)) (pc' := 138) (lv' := [(1, vI s0), (0, vR t)]) (st' := [vL (kJ 0), vI (kI 4), vL (kJ 48), vR t]) rfl ?_
  refine j_gd (fun h24 => ?_)
  refine j_WI (j_callV (av := [vL (kJ 48), vI (kI 4), vL (kJ 0)]) (st := []) hx hr (Or.inl q2832) q2834 qs125 rfl md_fhd_has np_fhd_has (chd_has t (kJ 48) (kI 4) (kJ 0) q22.2) (by decide) (Nat.le_of_ble_eq_true rfl) h24 (by decide) (by decide +kernel)) (fun q25 _ => ?_)
  refine j_if_eq hx (off := 31) (tgt := 172) (by decide +kernel) (by decide) (fun _ => ?_) (fun _ => ?_)
  · refine j_lv (lv' := [(0, vR t)]) ⟨rfl, trivial⟩ ?_
    exact whd_begins_172 h q25.2
  refine j_runA hx 1 (tb := [(144, .aload_n 0)]) (jtb_ok (by decide +kernel)) (pc' := 145) (lv' := [(1, vI s0), (0, vR t)]) (st' := [vR t]) rfl ?_
  refine j_ldc2 hx (v := (kJ 52)) (jkd2 q2842 (by decide +kernel)) (by decide +kernel) ?_
  refine j_runA hx 1 (tb := [(148, .iconst 2)]) (jtb_ok (by decide +kernel)) (pc' := 149) (lv' := [(1, vI s0), (0, vR t)]) (st' := [vI (kI 2), vL (kJ 52), vR t]) rfl ?_
  refine j_ldc2 hx (v := (kJ 64)) (jkd2 q2840 (by decide +kernel)) (by decide +kernel) ?_
  refine j_gd (fun h27 => ?_)
  refine j_WI (j_callV (av := [vL (kJ 52), vI (kI 2), vL (kJ 64)]) (st := []) hx hr (Or.inl q2832) q2834 qs125 rfl md_fhd_has np_fhd_has (chd_has t (kJ 52) (kI 2) (kJ 64) q25.2) (by decide) (Nat.le_of_ble_eq_true rfl) h27 (by decide) (by decide +kernel)) (fun q28 _ => ?_)
  refine j_if_eq hx (off := 17) (tgt := 172) (by decide +kernel) (by decide) (fun _ => ?_) (fun _ => ?_)
  · refine j_lv (lv' := [(0, vR t)]) ⟨rfl, trivial⟩ ?_
    exact whd_begins_172 h q28.2
  refine j_runA hx 1 (tb := [(158, .aload_n 0)]) (jtb_ok (by decide +kernel)) (pc' := 159) (lv' := [(1, vI s0), (0, vR t)]) (st' := [vR t]) rfl ?_
  refine j_ldc2 hx (v := (kJ 54)) (jkd2 q2843 (by decide +kernel)) (by decide +kernel) ?_
  refine j_runA hx 1 (tb := [(162, .iconst 2)]) (jtb_ok (by decide +kernel)) (pc' := 163) (lv' := [(1, vI s0), (0, vR t)]) (st' := [vI (kI 2), vL (kJ 54), vR t]) rfl ?_
  refine j_ldc2 hx (v := (kJ 56)) (jkd2 q2844 (by decide +kernel)) (by decide +kernel) ?_
  refine j_gd (fun h30 => ?_)
  refine j_WI (j_callV (av := [vL (kJ 54), vI (kI 2), vL (kJ 56)]) (st := []) hx hr (Or.inl q2832) q2834 qs125 rfl md_fhd_has np_fhd_has (chd_has t (kJ 54) (kI 2) (kJ 56) q28.2) (by decide) (Nat.le_of_ble_eq_true rfl) h30 (by decide) (by decide +kernel)) (fun q31 _ => ?_)
  refine j_if_ne hx (off := 5) (tgt := 174) (by decide +kernel) (by decide) (fun _ => ?_) (fun _ => ?_)
  · refine j_runA hx 2 (tb := [(174, .aload_n 0), (175, .aload_n 0)]) (jtb_ok (by decide +kernel)) (pc' := 176) (lv' := [(1, vI s0), (0, vR t)]) (st' := [vR t, vR t]) rfl ?_
    refine j_ldc2 hx (v := (kJ 56)) (jkd2 q2844 (by decide +kernel)) (by decide +kernel) ?_
    refine j_runA hx 1 (tb := [(179, .iconst 2)]) (jtb_ok (by decide +kernel)) (pc' := 180) (lv' := [(1, vI s0), (0, vR t)]) (st' := [vI (kI 2), vL (kJ 56), vR t, vR t]) rfl ?_
    refine j_gd (fun h33 => ?_)
    refine j_OL (j_callV (av := [vL (kJ 56), vI (kI 2)]) (st := [vR t]) hx hr (Or.inl q2822) q2823 q2824 rfl md_fhd_num np_fhd_num (chd_num t (kJ 56) (kI 2) q31.2) (by decide) (Nat.le_of_ble_eq_true rfl) h33 (by decide) (by decide +kernel)) (fun q34 _ => ?_)
    refine j_runA hx 1 (tb := [(183, .l2i)]) (jtb_ok (by decide +kernel)) (pc' := 184) (lv' := [(1, vI s0), (0, vR t)]) (st' := [vI q34.toInt32, vR t]) rfl ?_
    refine j_putI hx fwX9_121 wf1402 kd1402 h33 (by decide) (by decide +kernel) (ni1402 _) (fi1402 _) ?_
    refine j_ltw rfl (fun W35 hc36 => ?_)
    have h37 : jC W35 t = 14 := (congrFun hc36 _).trans h33
    refine j_runA hx 2 (tb := [(187, .aload_n 0), (188, .aload_n 0)]) (jtb_ok (by decide +kernel)) (pc' := 189) (lv' := [(1, vI s0), (0, vR t)]) (st' := [vR t, vR t]) rfl ?_
    refine j_ldc2 hx (v := (kJ 60)) (jkd2 q2845 (by decide +kernel)) (by decide +kernel) ?_
    refine j_runA hx 1 (tb := [(192, .iconst 2)]) (jtb_ok (by decide +kernel)) (pc' := 193) (lv' := [(1, vI s0), (0, vR t)]) (st' := [vI (kI 2), vL (kJ 60), vR t, vR t]) rfl ?_
    refine j_OL (j_callV (av := [vL (kJ 60), vI (kI 2)]) (st := [vR t]) hx hr (Or.inl q2822) q2823 q2824 rfl md_fhd_num np_fhd_num (chd_num t (kJ 60) (kI 2) W35) (by decide) (Nat.le_of_ble_eq_true rfl) h37 (by decide) (by decide +kernel)) (fun q39 _ => ?_)
    refine j_runA hx 1 (tb := [(196, .l2i)]) (jtb_ok (by decide +kernel)) (pc' := 197) (lv' := [(1, vI s0), (0, vR t)]) (st' := [vI q39.toInt32, vR t]) rfl ?_
    refine j_putI hx fwX9_126 wf1403 kd1403 h37 (by decide) (by decide +kernel) (ni1403 _) (fi1403 _) ?_
    refine j_ltw rfl (fun W40 hc41 => ?_)
    have h42 : jC W40 t = 14 := (congrFun hc41 _).trans h37
    refine j_runA hx 2 (tb := [(200, .aload_n 0), (201, .aload_n 0)]) (jtb_ok (by decide +kernel)) (pc' := 202) (lv' := [(1, vI s0), (0, vR t)]) (st' := [vR t, vR t]) rfl ?_
    refine j_ldc2 hx (v := (kJ 62)) (jkd2 q2846 (by decide +kernel)) (by decide +kernel) ?_
    refine j_runA hx 1 (tb := [(205, .iconst 2)]) (jtb_ok (by decide +kernel)) (pc' := 206) (lv' := [(1, vI s0), (0, vR t)]) (st' := [vI (kI 2), vL (kJ 62), vR t, vR t]) rfl ?_
    refine j_OL (j_callV (av := [vL (kJ 62), vI (kI 2)]) (st := [vR t]) hx hr (Or.inl q2822) q2823 q2824 rfl md_fhd_num np_fhd_num (chd_num t (kJ 62) (kI 2) W40) (by decide) (Nat.le_of_ble_eq_true rfl) h42 (by decide) (by decide +kernel)) (fun q44 _ => ?_)
    refine j_runA hx 1 (tb := [(209, .l2i)]) (jtb_ok (by decide +kernel)) (pc' := 210) (lv' := [(1, vI s0), (0, vR t)]) (st' := [vI q44.toInt32, vR t]) rfl ?_
    refine j_putI hx fwX9_131 wf1404 kd1404 h42 (by decide) (by decide +kernel) (ni1404 _) (fi1404 _) ?_
    refine j_ltw rfl (fun W45 hc46 => ?_)
    have h47 : jC W45 t = 14 := (congrFun hc46 _).trans h42
    refine j_runA hx 2 (tb := [(213, .aload_n 0), (214, .aload_n 0)]) (jtb_ok (by decide +kernel)) (pc' := 215) (lv' := [(1, vI s0), (0, vR t)]) (st' := [vR t, vR t]) rfl ?_
    refine j_getI hx flX9_121 kd1402 h47 (by decide) (by decide +kernel) ?_
    refine j_runA hx 1 (tb := [(218, .iconst 1)]) (jtb_ok (by decide +kernel)) (pc' := 219) (lv' := [(1, vI s0), (0, vR t)]) (st' := [vI (kI 1), vI (jI W45 1402 t), vR t]) rfl ?_
    refine j_icmp_lt hx (off := 15) (tgt := 234) (by decide +kernel) (by decide) (fun _ => ?_) (fun _ => ?_)
    · refine j_lv (lv' := [(0, vR t)]) ⟨rfl, trivial⟩ ?_
      exact whd_begins_234 h t W45
    refine j_runA hx 1 (tb := [(222, .aload_n 0)]) (jtb_ok (by decide +kernel)) (pc' := 223) (lv' := [(1, vI s0), (0, vR t)]) (st' := [vR t, vR t]) rfl ?_
    refine j_getI hx flX9_121 kd1402 h47 (by decide) (by decide +kernel) ?_
    refine j_runA hx 1 (tb := [(226, .iconst 4)]) (jtb_ok (by decide +kernel)) (pc' := 227) (lv' := [(1, vI s0), (0, vR t)]) (st' := [vI (kI 4), vI (jI W45 1402 t), vR t]) rfl ?_
    refine j_icmp_gt hx (off := 7) (tgt := 234) (by decide +kernel) (by decide) (fun _ => ?_) (fun _ => ?_)
    · refine j_lv (lv' := [(0, vR t)]) ⟨rfl, trivial⟩ ?_
      exact whd_begins_234 h t W45
    refine j_runA hx 1 (tb := [(230, .iconst 1)]) (jtb_ok (by decide +kernel)) (pc' := 231) (lv' := [(1, vI s0), (0, vR t)]) (st' := [vI (kI 1), vR t]) rfl ?_
    refine j_goto hx (off := 4) (by decide +kernel) (tgt := 235) (by decide) ?_
    refine j_lv (lv' := [(0, vR t)]) ⟨rfl, trivial⟩ ?_
    exact whd_begins_235 h (kI 1) t W45
  refine j_lv (lv' := [(0, vR t)]) ⟨rfl, trivial⟩ ?_
  exact whd_begins_172 h q31.2
theorem whd_begins_66 {x : jCx} {en : (Int32 × jW) → Option (Outcome × jW)} {t : Nat} (h : hhd_begins x en t) (W : jW) : jJ x 2 66 [(0, vR t)] [] W (fhd_begins_66 t W) en := by
  have h0 := h
  obtain ⟨hx, hm, hr, he⟩ := h0
  unfold fhd_begins_66
  refine j_runA hx 1 (tb := [(66, .iconst 0)]) (jtb_ok (by decide +kernel)) (pc' := 67) (lv' := [(0, vR t)]) (st' := [vI (kI 0)]) rfl ?_
  exact whd_begins_67 h (kI 0) W
theorem whd_begins {x : jCx} {en : (Int32 × jW) → Option (Outcome × jW)} {t : Nat} (h : hhd_begins x en t) (W : jW) : jJ x 2 0 [(0, vR t)] [] W (fhd_begins t W) en := by
  have h0 := h
  obtain ⟨hx, hm, hr, he⟩ := h0
  unfold fhd_begins
  refine j_runA hx 1 (tb := [(0, .aload_n 0)]) (jtb_ok (by decide +kernel)) (pc' := 1) (lv' := [(0, vR t)]) (st' := [vR t]) rfl ?_
  refine j_gd (fun h1 => ?_)
  refine j_getI hx flX9_84 kd1401 h1 (by decide) (by decide +kernel) ?_
  refine j_runA hx 1 (tb := [(4, .bipush 64)]) (jtb_ok (by decide +kernel)) (pc' := 6) (lv' := [(0, vR t)]) (st' := [vI (kI 64), vI (jI W 1401 t)]) rfl ?_
  refine j_icmp_ge hx (off := 14) (tgt := 20) (by decide +kernel) (by decide) (fun _ => ?_) (fun _ => ?_)
  · refine j_runA hx 3 (tb := [(20, .aload_n 0), (21, .lconst 0), (22, .iconst 4)]) (jtb_ok (by decide +kernel)) (pc' := 23) (lv' := [(0, vR t)]) (st' := [vI (kI 4), vL (kJ 0), vR t]) rfl ?_
    refine j_OL (j_callV (av := [vL (kJ 0), vI (kI 4)]) (st := []) hx hr (Or.inl q2822) q2823 q2824 rfl md_fhd_num np_fhd_num (chd_num t (kJ 0) (kI 4) W) (by decide) (Nat.le_of_ble_eq_true rfl) h1 (by decide) (by decide +kernel)) (fun q2 _ => ?_)
    refine j_ldc2 hx (v := (kJ 1179403647)) (jkd2 q2826 (by decide +kernel)) (by decide +kernel) ?_
    refine j_lcmp_ne hx (off := 36) (tgt := 66) (by decide +kernel) (by decide +kernel) (by decide) (fun _ => ?_) (fun _ => ?_)
    · exact whd_begins_66 h W
    refine j_runA hx 1 (tb := [(33, .aload_n 0)]) (jtb_ok (by decide +kernel)) (pc' := 34) (lv' := [(0, vR t)]) (st' := [vR t]) rfl ?_
    refine j_ldc2 hx (v := (kJ 4)) (jkd2 q2827 (by decide +kernel)) (by decide +kernel) ?_
    refine j_runA hx 1 (tb := [(37, .iconst 4)]) (jtb_ok (by decide +kernel)) (pc' := 38) (lv' := [(0, vR t)]) (st' := [vI (kI 4), vL (kJ 4), vR t]) rfl ?_
    refine j_OL (j_callV (av := [vL (kJ 4), vI (kI 4)]) (st := []) hx hr (Or.inl q2822) q2823 q2824 rfl md_fhd_num np_fhd_num (chd_num t (kJ 4) (kI 4) W) (by decide) (Nat.le_of_ble_eq_true rfl) h1 (by decide) (by decide +kernel)) (fun q3 _ => ?_)
    refine j_ldc2 hx (v := (kJ 65794)) (jkd2 q2828 (by decide +kernel)) (by decide +kernel) ?_
    refine j_lcmp_ne hx (off := 21) (tgt := 66) (by decide +kernel) (by decide +kernel) (by decide) (fun _ => ?_) (fun _ => ?_)
    · exact whd_begins_66 h W
    refine j_runA hx 1 (tb := [(48, .aload_n 0)]) (jtb_ok (by decide +kernel)) (pc' := 49) (lv' := [(0, vR t)]) (st' := [vR t]) rfl ?_
    refine j_ldc2 hx (v := (kJ 8)) (jkd2 q2829 (by decide +kernel)) (by decide +kernel) ?_
    refine j_runA hx 1 (tb := [(52, .bipush 8)]) (jtb_ok (by decide +kernel)) (pc' := 54) (lv' := [(0, vR t)]) (st' := [vI (kI 8), vL (kJ 8), vR t]) rfl ?_
    refine j_OL (j_callV (av := [vL (kJ 8), vI (kI 8)]) (st := []) hx hr (Or.inl q2822) q2823 q2824 rfl md_fhd_num np_fhd_num (chd_num t (kJ 8) (kI 8) W) (by decide) (Nat.le_of_ble_eq_true rfl) h1 (by decide) (by decide +kernel)) (fun q4 _ => ?_)
    refine j_runA hx 1 (tb := [(57, .lconst 0)]) (jtb_ok (by decide +kernel)) (pc' := 58) (lv' := [(0, vR t)]) (st' := [vL (kJ 0), vL q4]) rfl ?_
    refine j_lcmp_ne hx (off := 7) (tgt := 66) (by decide +kernel) (by decide +kernel) (by decide) (fun _ => ?_) (fun _ => ?_)
    · exact whd_begins_66 h W
    refine j_runA hx 1 (tb := [(62, .iconst 1)]) (jtb_ok (by decide +kernel)) (pc' := 63) (lv' := [(0, vR t)]) (st' := [vI (kI 1)]) rfl ?_
    refine j_goto hx (off := 4) (by decide +kernel) (tgt := 67) (by decide) ?_
    exact whd_begins_67 h (kI 1) W
  refine j_runA hx 3 (tb := [(9, .aload_n 0), (10, .iconst 0), (11, .aload_n 0)]) (jtb_ok (by decide +kernel)) (pc' := 12) (lv' := [(0, vR t)]) (st' := [vR t, vI (kI 0), vR t]) rfl ?_
  refine j_getI hx flX9_84 kd1401 h1 (by decide) (by decide +kernel) ?_
  refine j_runA hx 1 (tb := [(15, .i2l)]) (jtb_ok (by decide +kernel)) (pc' := 16) (lv' := [(0, vR t)]) (st' := [vL ((jI W 1401 t).toInt64), vI (kI 0), vR t]) rfl ?_
  refine j_WI (j_callV (av := [vI (kI 0), vL ((jI W 1401 t).toInt64)]) (st := []) hx hr (Or.inl q2818) q2820 qs124 rfl md_fhd_is np_fhd_is (chd_is t (kI 0) ((jI W 1401 t).toInt64) W) (by decide) (Nat.le_of_ble_eq_true rfl) h1 (by decide) (by decide +kernel)) (fun q5 _ => ?_)
  refine j_gd (fun h7 => ?_)
  exact j_iret hx hm (by decide +kernel) (jzn h7) (he _)
theorem chd_begins (t : Nat) (W : jW) : jM yX9_begins cX9_begins 2 (Option.some Jvm.ClassFile.FieldType.boolean) [] 2 36 [vR t] W ((fhd_begins t W).bind (fun q => some (.returned (some (.int q.1)), q.2))) := 
  jM.of (Nat.le_of_ble_eq_true rfl) (fun x hx hm hr => whd_begins ⟨hx, hm, hr, fun _ => rfl⟩ W)
def hhd_hasSegments (x : jCx) (en : (fhd_hasSegments_S ⊕ (Int32 × jW)) → Option (Outcome × jW)) (t : Nat) : Prop :=
  jOK x RX9 cX9_hasSegments 14 ∧
  jMt x "hasSegments" (Option.some Jvm.ClassFile.FieldType.boolean) [] ∧
  jRm x 2 36 ∧
  (∀ q : Int32 × jW, en (.inr q) = some (.returned (some (.int q.1)), q.2)) ∧
  (∀ (l1 : Int32) (W : jW), jJ x 14 2 [(0, vR t), (1, vI l1)] [] W (some (.inl (l1, W))) en)
theorem whd_hasSegments_244 {x : jCx} {en : (fhd_hasSegments_S ⊕ (Int32 × jW)) → Option (Outcome × jW)} {t : Nat} (h : hhd_hasSegments x en t) (W : jW) : jJ x 14 244 [(0, vR t)] [] W (fhd_hasSegments_244 t W) en := by
  have h0 := h
  obtain ⟨hx, hm, hr, he, k2⟩ := h0
  unfold fhd_hasSegments_244
  refine j_runA hx 1 (tb := [(244, .iconst 0)]) (jtb_ok (by decide +kernel)) (pc' := 245) (lv' := [(0, vR t)]) (st' := [vI (kI 0)]) rfl ?_
  exact j_iret hx hm (by decide +kernel) jz0n (he _)
theorem whd_hasSegments_436 {x : jCx} {en : (fhd_hasSegments_S ⊕ (Int32 × jW)) → Option (Outcome × jW)} {t : Nat} (h : hhd_hasSegments x en t) (W : jW) : jJ x 14 436 [(0, vR t)] [] W (fhd_hasSegments_436 t W) en := by
  have h0 := h
  obtain ⟨hx, hm, hr, he, k2⟩ := h0
  unfold fhd_hasSegments_436
  refine j_runA hx 1 (tb := [(436, .iconst 0)]) (jtb_ok (by decide +kernel)) (pc' := 437) (lv' := [(0, vR t)]) (st' := [vI (kI 0)]) rfl ?_
  exact j_iret hx hm (by decide +kernel) jz0n (he _)
theorem whd_hasSegments_383 {x : jCx} {en : (fhd_hasSegments_S ⊕ (Int32 × jW)) → Option (Outcome × jW)} {t : Nat} (h : hhd_hasSegments x en t) (l1 : Int32) (l2 : Int32) (l3 : Int32) (l4 : Int64) (l6 : Int64) (l8 : Int64) (s0 : Int32) (s1 : Nat) (W : jW) : jJ x 14 383 [(0, vR t), (1, vI l1), (2, vI l2), (3, vI l3), (4, vL l4), (6, vL l6), (8, vL l8)] [vI s0, vR s1] W (fhd_hasSegments_383 t l1 l2 l3 l4 l6 l8 s0 s1 W) en := by
  have h0 := h
  obtain ⟨hx, hm, hr, he, k2⟩ := h0
  unfold fhd_hasSegments_383
  refine j_runA hx 4 (tb := [(383, .iload_n 2), (384, .bipush 32), (386, .iadd), (387, .i2l)]) (jtb_ok (by decide +kernel)) (pc' := 388) (lv' := [(0, vR t), (1, vI l1), (2, vI l2), (3, vI l3), (4, vL l4), (6, vL l6), (8, vL l8)]) (st' := [vL ((l2 + (kI 32)).toInt64), vI s0, vR s1]) rfl ?_
  refine j_gd (fun h43 => ?_)
  refine j_WI (j_callV (av := [vI s0, vL ((l2 + (kI 32)).toInt64)]) (st := []) hx hr (Or.inl q2818) q2820 qs124 rfl md_fhd_is np_fhd_is (chd_is s1 s0 ((l2 + (kI 32)).toInt64) W) (by decide) (Nat.le_of_ble_eq_true rfl) h43 (by decide) (by decide +kernel)) (fun q44 _ => ?_)
  refine j_if_eq hx (off := 45) (tgt := 436) (by decide +kernel) (by decide) (fun _ => ?_) (fun _ => ?_)
  · refine j_lv (lv' := [(0, vR t)]) ⟨rfl, trivial⟩ ?_
    exact whd_hasSegments_436 h q44.2
  refine j_runA hx 12 (tb := [(394, .aload_n 0), (395, .iload_n 2), (396, .bipush 40), (398, .iadd), (399, .i2l), (400, .bipush 8), (402, .aload_n 0), (403, .iload_n 2), (404, .bipush 32), (406, .iadd), (407, .i2l), (408, .bipush 8)]) (jtb_ok (by decide +kernel)) (pc' := 410) (lv' := [(0, vR t), (1, vI l1), (2, vI l2), (3, vI l3), (4, vL l4), (6, vL l6), (8, vL l8)]) (st' := [vI (kI 8), vL ((l2 + (kI 32)).toInt64), vR t, vI (kI 8), vL ((l2 + (kI 40)).toInt64), vR t]) rfl ?_
  refine j_gd (fun h46 => ?_)
  refine j_OL (j_callV (av := [vL ((l2 + (kI 32)).toInt64), vI (kI 8)]) (st := [vI (kI 8), vL ((l2 + (kI 40)).toInt64), vR t]) hx hr (Or.inl q2822) q2823 q2824 rfl md_fhd_num np_fhd_num (chd_num t ((l2 + (kI 32)).toInt64) (kI 8) q44.2) (by decide) (Nat.le_of_ble_eq_true rfl) h46 (by decide) (by decide +kernel)) (fun q47 _ => ?_)
  refine j_WI (j_callV (av := [vL ((l2 + (kI 40)).toInt64), vI (kI 8), vL q47]) (st := []) hx hr (Or.inl q2832) q2834 qs125 rfl md_fhd_has np_fhd_has (chd_has t ((l2 + (kI 40)).toInt64) (kI 8) q47 q44.2) (by decide) (Nat.le_of_ble_eq_true rfl) h46 (by decide) (by decide +kernel)) (fun q48 _ => ?_)
  refine j_if_eq hx (off := 20) (tgt := 436) (by decide +kernel) (by decide) (fun _ => ?_) (fun _ => ?_)
  · refine j_lv (lv' := [(0, vR t)]) ⟨rfl, trivial⟩ ?_
    exact whd_hasSegments_436 h q48.2
  refine j_runA hx 6 (tb := [(419, .aload_n 0), (420, .iload_n 2), (421, .bipush 48), (423, .iadd), (424, .i2l), (425, .bipush 8)]) (jtb_ok (by decide +kernel)) (pc' := 427) (lv' := [(0, vR t), (1, vI l1), (2, vI l2), (3, vI l3), (4, vL l4), (6, vL l6), (8, vL l8)]) (st' := [vI (kI 8), vL ((l2 + (kI 48)).toInt64), vR t]) rfl ?_
  refine j_ldc2 hx (v := (kJ 16)) (jkd2 q2830 (by decide +kernel)) (by decide +kernel) ?_
  refine j_gd (fun h50 => ?_)
  refine j_WI (j_callV (av := [vL ((l2 + (kI 48)).toInt64), vI (kI 8), vL (kJ 16)]) (st := []) hx hr (Or.inl q2832) q2834 qs125 rfl md_fhd_has np_fhd_has (chd_has t ((l2 + (kI 48)).toInt64) (kI 8) (kJ 16) q48.2) (by decide) (Nat.le_of_ble_eq_true rfl) h50 (by decide) (by decide +kernel)) (fun q51 _ => ?_)
  refine j_if_ne hx (off := 5) (tgt := 438) (by decide +kernel) (by decide) (fun _ => ?_) (fun _ => ?_)
  · refine j_runA hx 1 (tb := [(438, .aload_n 0)]) (jtb_ok (by decide +kernel)) (pc' := 439) (lv' := [(0, vR t), (1, vI l1), (2, vI l2), (3, vI l3), (4, vL l4), (6, vL l6), (8, vL l8)]) (st' := [vR t]) rfl ?_
    refine j_gd (fun h53 => ?_)
    refine j_getR hx flX9_7 kl1406 h53 (by decide) (by decide +kernel) ?_
    refine j_runA hx 2 (tb := [(442, .iload_n 1), (443, .iload_n 3)]) (jtb_ok (by decide +kernel)) (pc' := 444) (lv' := [(0, vR t), (1, vI l1), (2, vI l2), (3, vI l3), (4, vL l4), (6, vL l6), (8, vL l8)]) (st' := [vI l3, vI l1, vR (jR q51.2 1406 t)]) rfl ?_
    refine j_gd (fun h54 => ?_)
    refine j_iast hx (f := 1406) (o := t) kd1406 rfl (by decide +kernel) h54 ?_
    refine j_ltw rfl (fun W55 hc56 => ?_)
    have h57 : jC W55 t = 14 := (congrFun hc56 _).trans h53
    refine j_runA hx 1 (tb := [(445, .aload_n 0)]) (jtb_ok (by decide +kernel)) (pc' := 446) (lv' := [(0, vR t), (1, vI l1), (2, vI l2), (3, vI l3), (4, vL l4), (6, vL l6), (8, vL l8)]) (st' := [vR t]) rfl ?_
    refine j_getR hx flX9_13 kl1407 h57 (by decide) (by decide +kernel) ?_
    refine j_runA hx 3 (tb := [(449, .iload_n 1), (450, .lload 4), (452, .l2i)]) (jtb_ok (by decide +kernel)) (pc' := 453) (lv' := [(0, vR t), (1, vI l1), (2, vI l2), (3, vI l3), (4, vL l4), (6, vL l6), (8, vL l8)]) (st' := [vI l4.toInt32, vI l1, vR (jR W55 1407 t)]) rfl ?_
    refine j_gd (fun h59 => ?_)
    refine j_iast hx (f := 1407) (o := t) kd1407 rfl (by decide +kernel) h59 ?_
    refine j_ltw rfl (fun W60 hc61 => ?_)
    have h62 : jC W60 t = 14 := (congrFun hc61 _).trans h57
    refine j_runA hx 1 (tb := [(454, .aload_n 0)]) (jtb_ok (by decide +kernel)) (pc' := 455) (lv' := [(0, vR t), (1, vI l1), (2, vI l2), (3, vI l3), (4, vL l4), (6, vL l6), (8, vL l8)]) (st' := [vR t]) rfl ?_
    refine j_getR hx flX9_16 kl1408 h62 (by decide) (by decide +kernel) ?_
    refine j_runA hx 2 (tb := [(458, .iload_n 1), (459, .lload 6)]) (jtb_ok (by decide +kernel)) (pc' := 461) (lv' := [(0, vR t), (1, vI l1), (2, vI l2), (3, vI l3), (4, vL l4), (6, vL l6), (8, vL l8)]) (st' := [vL l6, vI l1, vR (jR W60 1408 t)]) rfl ?_
    refine j_gd (fun h64 => ?_)
    refine j_last hx (f := 1408) (o := t) kd1408 rfl (by decide +kernel) h64 ?_
    refine j_ltw rfl (fun W65 hc66 => ?_)
    have h67 : jC W65 t = 14 := (congrFun hc66 _).trans h62
    refine j_runA hx 1 (tb := [(462, .aload_n 0)]) (jtb_ok (by decide +kernel)) (pc' := 463) (lv' := [(0, vR t), (1, vI l1), (2, vI l2), (3, vI l3), (4, vL l4), (6, vL l6), (8, vL l8)]) (st' := [vR t]) rfl ?_
    refine j_getR hx flX9_20 kl1409 h67 (by decide) (by decide +kernel) ?_
    refine j_runA hx 3 (tb := [(466, .iload_n 1), (467, .lload 8), (469, .l2i)]) (jtb_ok (by decide +kernel)) (pc' := 470) (lv' := [(0, vR t), (1, vI l1), (2, vI l2), (3, vI l3), (4, vL l4), (6, vL l6), (8, vL l8)]) (st' := [vI l8.toInt32, vI l1, vR (jR W65 1409 t)]) rfl ?_
    refine j_gd (fun h69 => ?_)
    refine j_iast hx (f := 1409) (o := t) kd1409 rfl (by decide +kernel) h69 ?_
    refine j_ltw rfl (fun W70 hc71 => ?_)
    have h72 : jC W70 t = 14 := (congrFun hc71 _).trans h67
    refine j_runA hx 1 (tb := [(471, .iinc 1 1)]) (jtb_ok (by decide +kernel)) (pc' := 474) (lv' := [(1, vI (l1 + (kI 1))), (0, vR t), (2, vI l2), (3, vI l3), (4, vL l4), (6, vL l6), (8, vL l8)]) (st' := []) rfl ?_
    refine j_let (v := (l1 + (kI 1))) (lv := fun v74 => [(1, vI v74), (0, vR t), (2, vI l2), (3, vI l3), (4, vL l4), (6, vL l6), (8, vL l8)]) (st := fun _ => []) (fun v74 => ?_)
    refine j_goto hx (off := -472) (by decide +kernel) (tgt := 2) (by decide) ?_
    refine j_lv (lv' := [(0, vR t), (1, vI v74)]) ⟨rfl, rfl, trivial⟩ ?_
    exact k2 v74 W70
  refine j_lv (lv' := [(0, vR t)]) ⟨rfl, trivial⟩ ?_
  exact whd_hasSegments_436 h q51.2
theorem whd_hasSegments_382 {x : jCx} {en : (fhd_hasSegments_S ⊕ (Int32 × jW)) → Option (Outcome × jW)} {t : Nat} (h : hhd_hasSegments x en t) (l1 : Int32) (l2 : Int32) (l3 : Int32) (l4 : Int64) (l6 : Int64) (l8 : Int64) (s0 : Nat) (W : jW) : jJ x 14 382 [(0, vR t), (1, vI l1), (2, vI l2), (3, vI l3), (4, vL l4), (6, vL l6), (8, vL l8)] [vR s0] W (fhd_hasSegments_382 t l1 l2 l3 l4 l6 l8 s0 W) en := by
  have h0 := h
  obtain ⟨hx, hm, hr, he, k2⟩ := h0
  unfold fhd_hasSegments_382
  refine j_runA hx 1 (tb := [(382, .iconst 0)]) (jtb_ok (by decide +kernel)) (pc' := 383) (lv' := [(0, vR t), (1, vI l1), (2, vI l2), (3, vI l3), (4, vL l4), (6, vL l6), (8, vL l8)]) (st' := [vI (kI 0), vR s0]) rfl ?_
  exact whd_hasSegments_383 h l1 l2 l3 l4 l6 l8 (kI 0) s0 W
theorem whd_hasSegments_310 {x : jCx} {en : (fhd_hasSegments_S ⊕ (Int32 × jW)) → Option (Outcome × jW)} {t : Nat} (h : hhd_hasSegments x en t) (l1 : Int32) (l2 : Int32) (l3 : Int32) (l4 : Int64) (l6 : Int64) (l8 : Int64) (s0 : Int32) (s1 : Nat) (W : jW) : jJ x 14 310 [(0, vR t), (1, vI l1), (2, vI l2), (3, vI l3), (4, vL l4), (6, vL l6), (8, vL l8)] [vI s0, vR s1] W (fhd_hasSegments_310 t l1 l2 l3 l4 l6 l8 s0 s1 W) en := by
  have h0 := h
  obtain ⟨hx, hm, hr, he, k2⟩ := h0
  unfold fhd_hasSegments_310
  refine j_runA hx 4 (tb := [(310, .iload_n 2), (311, .bipush 16), (313, .iadd), (314, .i2l)]) (jtb_ok (by decide +kernel)) (pc' := 315) (lv' := [(0, vR t), (1, vI l1), (2, vI l2), (3, vI l3), (4, vL l4), (6, vL l6), (8, vL l8)]) (st' := [vL ((l2 + (kI 16)).toInt64), vI s0, vR s1]) rfl ?_
  refine j_gd (fun h34 => ?_)
  refine j_WI (j_callV (av := [vI s0, vL ((l2 + (kI 16)).toInt64)]) (st := []) hx hr (Or.inl q2818) q2820 qs124 rfl md_fhd_is np_fhd_is (chd_is s1 s0 ((l2 + (kI 16)).toInt64) W) (by decide) (Nat.le_of_ble_eq_true rfl) h34 (by decide) (by decide +kernel)) (fun q35 _ => ?_)
  refine j_if_ne hx (off := 5) (tgt := 323) (by decide +kernel) (by decide) (fun _ => ?_) (fun _ => ?_)
  · refine j_runA hx 12 (tb := [(323, .aload_n 0), (324, .iload_n 2), (325, .bipush 24), (327, .iadd), (328, .i2l), (329, .bipush 8), (331, .aload_n 0), (332, .iload_n 2), (333, .bipush 16), (335, .iadd), (336, .i2l), (337, .bipush 8)]) (jtb_ok (by decide +kernel)) (pc' := 339) (lv' := [(0, vR t), (1, vI l1), (2, vI l2), (3, vI l3), (4, vL l4), (6, vL l6), (8, vL l8)]) (st' := [vI (kI 8), vL ((l2 + (kI 16)).toInt64), vR t, vI (kI 8), vL ((l2 + (kI 24)).toInt64), vR t]) rfl ?_
    refine j_gd (fun h37 => ?_)
    refine j_OL (j_callV (av := [vL ((l2 + (kI 16)).toInt64), vI (kI 8)]) (st := [vI (kI 8), vL ((l2 + (kI 24)).toInt64), vR t]) hx hr (Or.inl q2822) q2823 q2824 rfl md_fhd_num np_fhd_num (chd_num t ((l2 + (kI 16)).toInt64) (kI 8) q35.2) (by decide) (Nat.le_of_ble_eq_true rfl) h37 (by decide) (by decide +kernel)) (fun q38 _ => ?_)
    refine j_WI (j_callV (av := [vL ((l2 + (kI 24)).toInt64), vI (kI 8), vL q38]) (st := []) hx hr (Or.inl q2832) q2834 qs125 rfl md_fhd_has np_fhd_has (chd_has t ((l2 + (kI 24)).toInt64) (kI 8) q38 q35.2) (by decide) (Nat.le_of_ble_eq_true rfl) h37 (by decide) (by decide +kernel)) (fun q39 _ => ?_)
    refine j_if_eq hx (off := 91) (tgt := 436) (by decide +kernel) (by decide) (fun _ => ?_) (fun _ => ?_)
    · refine j_lv (lv' := [(0, vR t)]) ⟨rfl, trivial⟩ ?_
      exact whd_hasSegments_436 h q39.2
    refine j_runA hx 3 (tb := [(348, .aload_n 0), (349, .lload 8), (351, .lconst 1)]) (jtb_ok (by decide +kernel)) (pc' := 352) (lv' := [(0, vR t), (1, vI l1), (2, vI l2), (3, vI l3), (4, vL l4), (6, vL l6), (8, vL l8)]) (st' := [vL (kJ 1), vL l8, vR t]) rfl ?_
    refine j_lcmp_lt hx (off := 29) (tgt := 382) (by decide +kernel) (by decide +kernel) (by decide) (fun _ => ?_) (fun _ => ?_)
    · exact whd_hasSegments_382 h l1 l2 l3 l4 l6 l8 t q39.2
    refine j_runA hx 1 (tb := [(356, .lload 8)]) (jtb_ok (by decide +kernel)) (pc' := 358) (lv' := [(0, vR t), (1, vI l1), (2, vI l2), (3, vI l3), (4, vL l4), (6, vL l6), (8, vL l8)]) (st' := [vL l8, vR t]) rfl ?_
    refine j_ldc2 hx (v := (kJ 4194304)) (jkd2 q2861 (by decide +kernel)) (by decide +kernel) ?_
    refine j_lcmp_gt hx (off := 20) (tgt := 382) (by decide +kernel) (by decide +kernel) (by decide) (fun _ => ?_) (fun _ => ?_)
    · exact whd_hasSegments_382 h l1 l2 l3 l4 l6 l8 t q39.2
    refine j_runA hx 4 (tb := [(365, .lload 4), (367, .lload 8), (369, .ladd), (370, .aload_n 0)]) (jtb_ok (by decide +kernel)) (pc' := 371) (lv' := [(0, vR t), (1, vI l1), (2, vI l2), (3, vI l3), (4, vL l4), (6, vL l6), (8, vL l8)]) (st' := [vR t, vL (l4 + l8), vR t]) rfl ?_
    refine j_gd (fun h41 => ?_)
    refine j_getL hx flX9_141 kd1405 h41 (by decide) (by decide +kernel) ?_
    refine j_lcmp_gt hx (off := 7) (tgt := 382) (by decide +kernel) (by decide +kernel) (by decide) (fun _ => ?_) (fun _ => ?_)
    · exact whd_hasSegments_382 h l1 l2 l3 l4 l6 l8 t q39.2
    refine j_runA hx 1 (tb := [(378, .iconst 1)]) (jtb_ok (by decide +kernel)) (pc' := 379) (lv' := [(0, vR t), (1, vI l1), (2, vI l2), (3, vI l3), (4, vL l4), (6, vL l6), (8, vL l8)]) (st' := [vI (kI 1), vR t]) rfl ?_
    refine j_goto hx (off := 4) (by decide +kernel) (tgt := 383) (by decide) ?_
    exact whd_hasSegments_383 h l1 l2 l3 l4 l6 l8 (kI 1) t q39.2
  refine j_runA hx 1 (tb := [(321, .iconst 0)]) (jtb_ok (by decide +kernel)) (pc' := 322) (lv' := [(0, vR t), (1, vI l1), (2, vI l2), (3, vI l3), (4, vL l4), (6, vL l6), (8, vL l8)]) (st' := [vI (kI 0)]) rfl ?_
  exact j_iret hx hm (by decide +kernel) jz0n (he _)
theorem whd_hasSegments_309 {x : jCx} {en : (fhd_hasSegments_S ⊕ (Int32 × jW)) → Option (Outcome × jW)} {t : Nat} (h : hhd_hasSegments x en t) (l1 : Int32) (l2 : Int32) (l3 : Int32) (l4 : Int64) (l6 : Int64) (l8 : Int64) (s0 : Nat) (W : jW) : jJ x 14 309 [(0, vR t), (1, vI l1), (2, vI l2), (3, vI l3), (4, vL l4), (6, vL l6), (8, vL l8)] [vR s0] W (fhd_hasSegments_309 t l1 l2 l3 l4 l6 l8 s0 W) en := by
  have h0 := h
  obtain ⟨hx, hm, hr, he, k2⟩ := h0
  unfold fhd_hasSegments_309
  refine j_runA hx 1 (tb := [(309, .iconst 0)]) (jtb_ok (by decide +kernel)) (pc' := 310) (lv' := [(0, vR t), (1, vI l1), (2, vI l2), (3, vI l3), (4, vL l4), (6, vL l6), (8, vL l8)]) (st' := [vI (kI 0), vR s0]) rfl ?_
  exact whd_hasSegments_310 h l1 l2 l3 l4 l6 l8 (kI 0) s0 W
theorem whd_hasSegments_233 {x : jCx} {en : (fhd_hasSegments_S ⊕ (Int32 × jW)) → Option (Outcome × jW)} {t : Nat} (h : hhd_hasSegments x en t) (l1 : Int32) (l2 : Int32) (l3 : Int32) (l4 : Int64) (l6 : Int64) (l8 : Int64) (l12 : Int64) (s0 : Int32) (s1 : Nat) (W : jW) : jJ x 14 233 [(0, vR t), (1, vI l1), (2, vI l2), (3, vI l3), (4, vL l4), (6, vL l6), (8, vL l8), (12, vL l12)] [vI s0, vR s1] W (fhd_hasSegments_233 t l1 l2 l3 l4 l6 l8 l12 s0 s1 W) en := by
  have h0 := h
  obtain ⟨hx, hm, hr, he, k2⟩ := h0
  unfold fhd_hasSegments_233
  refine j_runA hx 4 (tb := [(233, .iload_n 2), (234, .bipush 8), (236, .iadd), (237, .i2l)]) (jtb_ok (by decide +kernel)) (pc' := 238) (lv' := [(0, vR t), (1, vI l1), (2, vI l2), (3, vI l3), (4, vL l4), (6, vL l6), (8, vL l8), (12, vL l12)]) (st' := [vL ((l2 + (kI 8)).toInt64), vI s0, vR s1]) rfl ?_
  refine j_gd (fun h27 => ?_)
  refine j_WI (j_callV (av := [vI s0, vL ((l2 + (kI 8)).toInt64)]) (st := []) hx hr (Or.inl q2818) q2820 qs124 rfl md_fhd_is np_fhd_is (chd_is s1 s0 ((l2 + (kI 8)).toInt64) W) (by decide) (Nat.le_of_ble_eq_true rfl) h27 (by decide) (by decide +kernel)) (fun q28 _ => ?_)
  refine j_if_ne hx (off := 5) (tgt := 246) (by decide +kernel) (by decide) (fun _ => ?_) (fun _ => ?_)
  · refine j_runA hx 2 (tb := [(246, .aload_n 0), (247, .lload 6)]) (jtb_ok (by decide +kernel)) (pc' := 249) (lv' := [(0, vR t), (1, vI l1), (2, vI l2), (3, vI l3), (4, vL l4), (6, vL l6), (8, vL l8), (12, vL l12)]) (st' := [vL l6, vR t]) rfl ?_
    refine j_ldc2 hx (v := (kJ 65536)) (jkd2 q2858 (by decide +kernel)) (by decide +kernel) ?_
    refine j_lcmp_lt hx (off := 56) (tgt := 309) (by decide +kernel) (by decide +kernel) (by decide) (fun _ => ?_) (fun _ => ?_)
    · refine j_lv (lv' := [(0, vR t), (1, vI l1), (2, vI l2), (3, vI l3), (4, vL l4), (6, vL l6), (8, vL l8)]) ⟨rfl, rfl, rfl, rfl, rfl, rfl, rfl, trivial⟩ ?_
      exact whd_hasSegments_309 h l1 l2 l3 l4 l6 l8 t q28.2
    refine j_runA hx 1 (tb := [(256, .lload 6)]) (jtb_ok (by decide +kernel)) (pc' := 258) (lv' := [(0, vR t), (1, vI l1), (2, vI l2), (3, vI l3), (4, vL l4), (6, vL l6), (8, vL l8), (12, vL l12)]) (st' := [vL l6, vR t]) rfl ?_
    refine j_ldc2 hx (v := (kJ 134217728)) (jkd2 q2859 (by decide +kernel)) (by decide +kernel) ?_
    refine j_lcmp_gt hx (off := 47) (tgt := 309) (by decide +kernel) (by decide +kernel) (by decide) (fun _ => ?_) (fun _ => ?_)
    · refine j_lv (lv' := [(0, vR t), (1, vI l1), (2, vI l2), (3, vI l3), (4, vL l4), (6, vL l6), (8, vL l8)]) ⟨rfl, rfl, rfl, rfl, rfl, rfl, rfl, trivial⟩ ?_
      exact whd_hasSegments_309 h l1 l2 l3 l4 l6 l8 t q28.2
    refine j_runA hx 6 (tb := [(265, .aload_n 0), (266, .iload_n 2), (267, .bipush 16), (269, .iadd), (270, .i2l), (271, .bipush 8)]) (jtb_ok (by decide +kernel)) (pc' := 273) (lv' := [(0, vR t), (1, vI l1), (2, vI l2), (3, vI l3), (4, vL l4), (6, vL l6), (8, vL l8), (12, vL l12)]) (st' := [vI (kI 8), vL ((l2 + (kI 16)).toInt64), vR t, vR t]) rfl ?_
    refine j_gd (fun h30 => ?_)
    refine j_OL (j_callV (av := [vL ((l2 + (kI 16)).toInt64), vI (kI 8)]) (st := [vR t]) hx hr (Or.inl q2822) q2823 q2824 rfl md_fhd_num np_fhd_num (chd_num t ((l2 + (kI 16)).toInt64) (kI 8) q28.2) (by decide) (Nat.le_of_ble_eq_true rfl) h30 (by decide) (by decide +kernel)) (fun q31 _ => ?_)
    refine j_runA hx 6 (tb := [(276, .aload_n 0), (277, .iload_n 2), (278, .bipush 8), (280, .iadd), (281, .i2l), (282, .bipush 8)]) (jtb_ok (by decide +kernel)) (pc' := 284) (lv' := [(0, vR t), (1, vI l1), (2, vI l2), (3, vI l3), (4, vL l4), (6, vL l6), (8, vL l8), (12, vL l12)]) (st' := [vI (kI 8), vL ((l2 + (kI 8)).toInt64), vR t, vL q31, vR t]) rfl ?_
    refine j_OL (j_callV (av := [vL ((l2 + (kI 8)).toInt64), vI (kI 8)]) (st := [vL q31, vR t]) hx hr (Or.inl q2822) q2823 q2824 rfl md_fhd_num np_fhd_num (chd_num t ((l2 + (kI 8)).toInt64) (kI 8) q28.2) (by decide) (Nat.le_of_ble_eq_true rfl) h30 (by decide) (by decide +kernel)) (fun q32 _ => ?_)
    refine j_runA hx 1 (tb := [(287, .lsub)]) (jtb_ok (by decide +kernel)) (pc' := 288) (lv' := [(0, vR t), (1, vI l1), (2, vI l2), (3, vI l3), (4, vL l4), (6, vL l6), (8, vL l8), (12, vL l12)]) (st' := [vL (q31 - q32), vR t]) rfl ?_
    refine j_ldc2 hx (v := (kJ 15)) (jkd2 q2860 (by decide +kernel)) (by decide +kernel) ?_
    refine j_runA hx 2 (tb := [(291, .land), (292, .lconst 0)]) (jtb_ok (by decide +kernel)) (pc' := 293) (lv' := [(0, vR t), (1, vI l1), (2, vI l2), (3, vI l3), (4, vL l4), (6, vL l6), (8, vL l8), (12, vL l12)]) (st' := [vL (kJ 0), vL ((q31 - q32) &&& (kJ 15)), vR t]) rfl ?_
    refine j_lcmp_ne hx (off := 15) (tgt := 309) (by decide +kernel) (by decide +kernel) (by decide) (fun _ => ?_) (fun _ => ?_)
    · refine j_lv (lv' := [(0, vR t), (1, vI l1), (2, vI l2), (3, vI l3), (4, vL l4), (6, vL l6), (8, vL l8)]) ⟨rfl, rfl, rfl, rfl, rfl, rfl, rfl, trivial⟩ ?_
      exact whd_hasSegments_309 h l1 l2 l3 l4 l6 l8 t q28.2
    refine j_runA hx 2 (tb := [(297, .lload 6), (299, .lload 12)]) (jtb_ok (by decide +kernel)) (pc' := 301) (lv' := [(0, vR t), (1, vI l1), (2, vI l2), (3, vI l3), (4, vL l4), (6, vL l6), (8, vL l8), (12, vL l12)]) (st' := [vL l12, vL l6, vR t]) rfl ?_
    refine j_lcmp_lt hx (off := 7) (tgt := 309) (by decide +kernel) (by decide +kernel) (by decide) (fun _ => ?_) (fun _ => ?_)
    · refine j_lv (lv' := [(0, vR t), (1, vI l1), (2, vI l2), (3, vI l3), (4, vL l4), (6, vL l6), (8, vL l8)]) ⟨rfl, rfl, rfl, rfl, rfl, rfl, rfl, trivial⟩ ?_
      exact whd_hasSegments_309 h l1 l2 l3 l4 l6 l8 t q28.2
    refine j_runA hx 1 (tb := [(305, .iconst 1)]) (jtb_ok (by decide +kernel)) (pc' := 306) (lv' := [(0, vR t), (1, vI l1), (2, vI l2), (3, vI l3), (4, vL l4), (6, vL l6), (8, vL l8), (12, vL l12)]) (st' := [vI (kI 1), vR t]) rfl ?_
    refine j_goto hx (off := 4) (by decide +kernel) (tgt := 310) (by decide) ?_
    refine j_lv (lv' := [(0, vR t), (1, vI l1), (2, vI l2), (3, vI l3), (4, vL l4), (6, vL l6), (8, vL l8)]) ⟨rfl, rfl, rfl, rfl, rfl, rfl, rfl, trivial⟩ ?_
    exact whd_hasSegments_310 h l1 l2 l3 l4 l6 l8 (kI 1) t q28.2
  refine j_lv (lv' := [(0, vR t)]) ⟨rfl, trivial⟩ ?_
  exact whd_hasSegments_244 h q28.2
theorem whd_hasSegments_232 {x : jCx} {en : (fhd_hasSegments_S ⊕ (Int32 × jW)) → Option (Outcome × jW)} {t : Nat} (h : hhd_hasSegments x en t) (l1 : Int32) (l2 : Int32) (l3 : Int32) (l4 : Int64) (l6 : Int64) (l8 : Int64) (l12 : Int64) (s0 : Nat) (W : jW) : jJ x 14 232 [(0, vR t), (1, vI l1), (2, vI l2), (3, vI l3), (4, vL l4), (6, vL l6), (8, vL l8), (12, vL l12)] [vR s0] W (fhd_hasSegments_232 t l1 l2 l3 l4 l6 l8 l12 s0 W) en := by
  have h0 := h
  obtain ⟨hx, hm, hr, he, k2⟩ := h0
  unfold fhd_hasSegments_232
  refine j_runA hx 1 (tb := [(232, .iconst 0)]) (jtb_ok (by decide +kernel)) (pc' := 233) (lv' := [(0, vR t), (1, vI l1), (2, vI l2), (3, vI l3), (4, vL l4), (6, vL l6), (8, vL l8), (12, vL l12)]) (st' := [vI (kI 0), vR s0]) rfl ?_
  exact whd_hasSegments_233 h l1 l2 l3 l4 l6 l8 l12 (kI 0) s0 W
theorem whd_hasSegments_192 {x : jCx} {en : (fhd_hasSegments_S ⊕ (Int32 × jW)) → Option (Outcome × jW)} {t : Nat} (h : hhd_hasSegments x en t) (l1 : Int32) (l2 : Int32) (l3 : Int32) (l4 : Int64) (l6 : Int64) (l8 : Int64) (l10 : Int64) (l12 : Int64) (s0 : Int32) (s1 : Nat) (W : jW) : jJ x 14 192 [(0, vR t), (1, vI l1), (2, vI l2), (3, vI l3), (4, vL l4), (6, vL l6), (8, vL l8), (10, vL l10), (12, vL l12)] [vI s0, vR s1] W (fhd_hasSegments_192 t l1 l2 l3 l4 l6 l8 l10 l12 s0 s1 W) en := by
  have h0 := h
  obtain ⟨hx, hm, hr, he, k2⟩ := h0
  unfold fhd_hasSegments_192
  refine j_runA hx 4 (tb := [(192, .iload_n 2), (193, .iconst 4), (194, .iadd), (195, .i2l)]) (jtb_ok (by decide +kernel)) (pc' := 196) (lv' := [(0, vR t), (1, vI l1), (2, vI l2), (3, vI l3), (4, vL l4), (6, vL l6), (8, vL l8), (10, vL l10), (12, vL l12)]) (st' := [vL ((l2 + (kI 4)).toInt64), vI s0, vR s1]) rfl ?_
  refine j_gd (fun h22 => ?_)
  refine j_WI (j_callV (av := [vI s0, vL ((l2 + (kI 4)).toInt64)]) (st := []) hx hr (Or.inl q2818) q2820 qs124 rfl md_fhd_is np_fhd_is (chd_is s1 s0 ((l2 + (kI 4)).toInt64) W) (by decide) (Nat.le_of_ble_eq_true rfl) h22 (by decide) (by decide +kernel)) (fun q23 _ => ?_)
  refine j_if_eq hx (off := 45) (tgt := 244) (by decide +kernel) (by decide) (fun _ => ?_) (fun _ => ?_)
  · refine j_lv (lv' := [(0, vR t)]) ⟨rfl, trivial⟩ ?_
    exact whd_hasSegments_244 h q23.2
  refine j_runA hx 3 (tb := [(202, .aload_n 0), (203, .lload 4), (205, .lload 10)]) (jtb_ok (by decide +kernel)) (pc' := 207) (lv' := [(0, vR t), (1, vI l1), (2, vI l2), (3, vI l3), (4, vL l4), (6, vL l6), (8, vL l8), (10, vL l10), (12, vL l12)]) (st' := [vL l10, vL l4, vR t]) rfl ?_
  refine j_lcmp_lt hx (off := 24) (tgt := 232) (by decide +kernel) (by decide +kernel) (by decide) (fun _ => ?_) (fun _ => ?_)
  · refine j_lv (lv' := [(0, vR t), (1, vI l1), (2, vI l2), (3, vI l3), (4, vL l4), (6, vL l6), (8, vL l8), (12, vL l12)]) ⟨rfl, rfl, rfl, rfl, rfl, rfl, rfl, rfl, trivial⟩ ?_
    exact whd_hasSegments_232 h l1 l2 l3 l4 l6 l8 l12 t q23.2
  refine j_runA hx 4 (tb := [(211, .lload 4), (213, .bipush 64), (215, .bipush 56), (217, .aload_n 0)]) (jtb_ok (by decide +kernel)) (pc' := 218) (lv' := [(0, vR t), (1, vI l1), (2, vI l2), (3, vI l3), (4, vL l4), (6, vL l6), (8, vL l8), (10, vL l10), (12, vL l12)]) (st' := [vR t, vI (kI 56), vI (kI 64), vL l4, vR t]) rfl ?_
  refine j_gd (fun h25 => ?_)
  refine j_getI hx flX9_121 kd1402 h25 (by decide) (by decide +kernel) ?_
  refine j_runA hx 3 (tb := [(221, .imul), (222, .iadd), (223, .i2l)]) (jtb_ok (by decide +kernel)) (pc' := 224) (lv' := [(0, vR t), (1, vI l1), (2, vI l2), (3, vI l3), (4, vL l4), (6, vL l6), (8, vL l8), (10, vL l10), (12, vL l12)]) (st' := [vL (((kI 64) + ((kI 56) * (jI q23.2 1402 t))).toInt64), vL l4, vR t]) rfl ?_
  refine j_lcmp_lt hx (off := 7) (tgt := 232) (by decide +kernel) (by decide +kernel) (by decide) (fun _ => ?_) (fun _ => ?_)
  · refine j_lv (lv' := [(0, vR t), (1, vI l1), (2, vI l2), (3, vI l3), (4, vL l4), (6, vL l6), (8, vL l8), (12, vL l12)]) ⟨rfl, rfl, rfl, rfl, rfl, rfl, rfl, rfl, trivial⟩ ?_
    exact whd_hasSegments_232 h l1 l2 l3 l4 l6 l8 l12 t q23.2
  refine j_runA hx 1 (tb := [(228, .iconst 1)]) (jtb_ok (by decide +kernel)) (pc' := 229) (lv' := [(0, vR t), (1, vI l1), (2, vI l2), (3, vI l3), (4, vL l4), (6, vL l6), (8, vL l8), (10, vL l10), (12, vL l12)]) (st' := [vI (kI 1), vR t]) rfl ?_
  refine j_goto hx (off := 4) (by decide +kernel) (tgt := 233) (by decide) ?_
  refine j_lv (lv' := [(0, vR t), (1, vI l1), (2, vI l2), (3, vI l3), (4, vL l4), (6, vL l6), (8, vL l8), (12, vL l12)]) ⟨rfl, rfl, rfl, rfl, rfl, rfl, rfl, rfl, trivial⟩ ?_
  exact whd_hasSegments_233 h l1 l2 l3 l4 l6 l8 l12 (kI 1) t q23.2
theorem whd_hasSegments_191 {x : jCx} {en : (fhd_hasSegments_S ⊕ (Int32 × jW)) → Option (Outcome × jW)} {t : Nat} (h : hhd_hasSegments x en t) (l1 : Int32) (l2 : Int32) (l3 : Int32) (l4 : Int64) (l6 : Int64) (l8 : Int64) (l10 : Int64) (l12 : Int64) (s0 : Nat) (W : jW) : jJ x 14 191 [(0, vR t), (1, vI l1), (2, vI l2), (3, vI l3), (4, vL l4), (6, vL l6), (8, vL l8), (10, vL l10), (12, vL l12)] [vR s0] W (fhd_hasSegments_191 t l1 l2 l3 l4 l6 l8 l10 l12 s0 W) en := by
  have h0 := h
  obtain ⟨hx, hm, hr, he, k2⟩ := h0
  unfold fhd_hasSegments_191
  refine j_runA hx 1 (tb := [(191, .iconst 0)]) (jtb_ok (by decide +kernel)) (pc' := 192) (lv' := [(0, vR t), (1, vI l1), (2, vI l2), (3, vI l3), (4, vL l4), (6, vL l6), (8, vL l8), (10, vL l10), (12, vL l12)]) (st' := [vI (kI 0), vR s0]) rfl ?_
  exact whd_hasSegments_192 h l1 l2 l3 l4 l6 l8 l10 l12 (kI 0) s0 W
theorem whd_hasSegments_184 {x : jCx} {en : (fhd_hasSegments_S ⊕ (Int32 × jW)) → Option (Outcome × jW)} {t : Nat} (h : hhd_hasSegments x en t) (l1 : Int32) (l2 : Int32) (l3 : Int32) (l4 : Int64) (l6 : Int64) (l8 : Int64) (l10 : Int64) (l12 : Int64) (s0 : Int32) (s1 : Int32) (s2 : Nat) (W : jW) : jJ x 14 184 [(0, vR t), (1, vI l1), (2, vI l2), (3, vI l3), (4, vL l4), (6, vL l6), (8, vL l8), (10, vL l10), (12, vL l12)] [vI s0, vI s1, vR s2] W (fhd_hasSegments_184 t l1 l2 l3 l4 l6 l8 l10 l12 s0 s1 s2 W) en := by
  have h0 := h
  obtain ⟨hx, hm, hr, he, k2⟩ := h0
  unfold fhd_hasSegments_184
  refine j_icmp_ne hx (off := 7) (tgt := 191) (by decide +kernel) (by decide) (fun _ => ?_) (fun _ => ?_)
  · exact whd_hasSegments_191 h l1 l2 l3 l4 l6 l8 l10 l12 s2 W
  refine j_runA hx 1 (tb := [(187, .iconst 1)]) (jtb_ok (by decide +kernel)) (pc' := 188) (lv' := [(0, vR t), (1, vI l1), (2, vI l2), (3, vI l3), (4, vL l4), (6, vL l6), (8, vL l8), (10, vL l10), (12, vL l12)]) (st' := [vI (kI 1), vR s2]) rfl ?_
  refine j_goto hx (off := 4) (by decide +kernel) (tgt := 192) (by decide) ?_
  exact whd_hasSegments_192 h l1 l2 l3 l4 l6 l8 l10 l12 (kI 1) s2 W
theorem whd_hasSegments_169 {x : jCx} {en : (fhd_hasSegments_S ⊕ (Int32 × jW)) → Option (Outcome × jW)} {t : Nat} (h : hhd_hasSegments x en t) (l1 : Int32) (l2 : Int32) (l3 : Int32) (l4 : Int64) (l6 : Int64) (l8 : Int64) (l10 : Int64) (l12 : Int64) (s0 : Int32) (s1 : Nat) (W : jW) : jJ x 14 169 [(0, vR t), (1, vI l1), (2, vI l2), (3, vI l3), (4, vL l4), (6, vL l6), (8, vL l8), (10, vL l10), (12, vL l12)] [vI s0, vR s1] W (fhd_hasSegments_169 t l1 l2 l3 l4 l6 l8 l10 l12 s0 s1 W) en := by
  have h0 := h
  obtain ⟨hx, hm, hr, he, k2⟩ := h0
  unfold fhd_hasSegments_169
  refine j_runA hx 2 (tb := [(169, .iload_n 1), (170, .aload_n 0)]) (jtb_ok (by decide +kernel)) (pc' := 171) (lv' := [(0, vR t), (1, vI l1), (2, vI l2), (3, vI l3), (4, vL l4), (6, vL l6), (8, vL l8), (10, vL l10), (12, vL l12)]) (st' := [vR t, vI l1, vI s0, vR s1]) rfl ?_
  refine j_gd (fun h19 => ?_)
  refine j_getI hx flX9_121 kd1402 h19 (by decide) (by decide +kernel) ?_
  refine j_runA hx 2 (tb := [(174, .iconst 1), (175, .isub)]) (jtb_ok (by decide +kernel)) (pc' := 176) (lv' := [(0, vR t), (1, vI l1), (2, vI l2), (3, vI l3), (4, vL l4), (6, vL l6), (8, vL l8), (10, vL l10), (12, vL l12)]) (st' := [vI ((jI W 1402 t) - (kI 1)), vI l1, vI s0, vR s1]) rfl ?_
  refine j_icmp_ne hx (off := 7) (tgt := 183) (by decide +kernel) (by decide) (fun _ => ?_) (fun _ => ?_)
  · refine j_runA hx 1 (tb := [(183, .iconst 0)]) (jtb_ok (by decide +kernel)) (pc' := 184) (lv' := [(0, vR t), (1, vI l1), (2, vI l2), (3, vI l3), (4, vL l4), (6, vL l6), (8, vL l8), (10, vL l10), (12, vL l12)]) (st' := [vI (kI 0), vI s0, vR s1]) rfl ?_
    exact whd_hasSegments_184 h l1 l2 l3 l4 l6 l8 l10 l12 (kI 0) s0 s1 W
  refine j_runA hx 1 (tb := [(179, .iconst 1)]) (jtb_ok (by decide +kernel)) (pc' := 180) (lv' := [(0, vR t), (1, vI l1), (2, vI l2), (3, vI l3), (4, vL l4), (6, vL l6), (8, vL l8), (10, vL l10), (12, vL l12)]) (st' := [vI (kI 1), vI s0, vR s1]) rfl ?_
  refine j_goto hx (off := 4) (by decide +kernel) (tgt := 184) (by decide) ?_
  exact whd_hasSegments_184 h l1 l2 l3 l4 l6 l8 l10 l12 (kI 1) s0 s1 W
theorem whd_hasSegments_134 {x : jCx} {en : (fhd_hasSegments_S ⊕ (Int32 × jW)) → Option (Outcome × jW)} {t : Nat} (h : hhd_hasSegments x en t) (l1 : Int32) (l2 : Int32) (l3 : Int32) (l4 : Int64) (l6 : Int64) (l8 : Int64) (l10 : Int64) (s0 : Int64) (W : jW) : jJ x 14 134 [(0, vR t), (1, vI l1), (2, vI l2), (3, vI l3), (4, vL l4), (6, vL l6), (8, vL l8), (10, vL l10)] [vL s0] W (fhd_hasSegments_134 t l1 l2 l3 l4 l6 l8 l10 s0 W) en := by
  have h0 := h
  obtain ⟨hx, hm, hr, he, k2⟩ := h0
  unfold fhd_hasSegments_134
  refine j_runA hx 6 (tb := [(134, .lstore 12), (136, .aload_n 0), (137, .iload_n 2), (138, .i2l), (139, .iconst 4), (140, .lconst 1)]) (jtb_ok (by decide +kernel)) (pc' := 141) (lv' := [(12, vL s0), (0, vR t), (1, vI l1), (2, vI l2), (3, vI l3), (4, vL l4), (6, vL l6), (8, vL l8), (10, vL l10)]) (st' := [vL (kJ 1), vI (kI 4), vL l2.toInt64, vR t]) rfl ?_
  refine j_gd (fun h15 => ?_)
  refine j_WI (j_callV (av := [vL l2.toInt64, vI (kI 4), vL (kJ 1)]) (st := []) hx hr (Or.inl q2832) q2834 qs125 rfl md_fhd_has np_fhd_has (chd_has t l2.toInt64 (kI 4) (kJ 1) W) (by decide) (Nat.le_of_ble_eq_true rfl) h15 (by decide) (by decide +kernel)) (fun q16 _ => ?_)
  refine j_if_eq hx (off := 100) (tgt := 244) (by decide +kernel) (by decide) (fun _ => ?_) (fun _ => ?_)
  · refine j_lv (lv' := [(0, vR t)]) ⟨rfl, trivial⟩ ?_
    exact whd_hasSegments_244 h q16.2
  refine j_runA hx 3 (tb := [(147, .aload_n 0), (148, .iload_n 3), (149, .iconst 4)]) (jtb_ok (by decide +kernel)) (pc' := 150) (lv' := [(12, vL s0), (0, vR t), (1, vI l1), (2, vI l2), (3, vI l3), (4, vL l4), (6, vL l6), (8, vL l8), (10, vL l10)]) (st' := [vI (kI 4), vI l3, vR t]) rfl ?_
  refine j_icmp_lt hx (off := 41) (tgt := 191) (by decide +kernel) (by decide) (fun _ => ?_) (fun _ => ?_)
  · refine j_lv (lv' := [(0, vR t), (1, vI l1), (2, vI l2), (3, vI l3), (4, vL l4), (6, vL l6), (8, vL l8), (10, vL l10), (12, vL s0)]) ⟨rfl, rfl, rfl, rfl, rfl, rfl, rfl, rfl, rfl, trivial⟩ ?_
    exact whd_hasSegments_191 h l1 l2 l3 l4 l6 l8 l10 s0 t q16.2
  refine j_runA hx 2 (tb := [(153, .iload_n 3), (154, .bipush 6)]) (jtb_ok (by decide +kernel)) (pc' := 156) (lv' := [(12, vL s0), (0, vR t), (1, vI l1), (2, vI l2), (3, vI l3), (4, vL l4), (6, vL l6), (8, vL l8), (10, vL l10)]) (st' := [vI (kI 6), vI l3, vR t]) rfl ?_
  refine j_icmp_gt hx (off := 35) (tgt := 191) (by decide +kernel) (by decide) (fun _ => ?_) (fun _ => ?_)
  · refine j_lv (lv' := [(0, vR t), (1, vI l1), (2, vI l2), (3, vI l3), (4, vL l4), (6, vL l6), (8, vL l8), (10, vL l10), (12, vL s0)]) ⟨rfl, rfl, rfl, rfl, rfl, rfl, rfl, rfl, rfl, trivial⟩ ?_
    exact whd_hasSegments_191 h l1 l2 l3 l4 l6 l8 l10 s0 t q16.2
  refine j_runA hx 2 (tb := [(159, .iload_n 3), (160, .iconst 5)]) (jtb_ok (by decide +kernel)) (pc' := 161) (lv' := [(12, vL s0), (0, vR t), (1, vI l1), (2, vI l2), (3, vI l3), (4, vL l4), (6, vL l6), (8, vL l8), (10, vL l10)]) (st' := [vI (kI 5), vI l3, vR t]) rfl ?_
  refine j_icmp_ne hx (off := 7) (tgt := 168) (by decide +kernel) (by decide) (fun _ => ?_) (fun _ => ?_)
  · refine j_runA hx 1 (tb := [(168, .iconst 0)]) (jtb_ok (by decide +kernel)) (pc' := 169) (lv' := [(12, vL s0), (0, vR t), (1, vI l1), (2, vI l2), (3, vI l3), (4, vL l4), (6, vL l6), (8, vL l8), (10, vL l10)]) (st' := [vI (kI 0), vR t]) rfl ?_
    refine j_lv (lv' := [(0, vR t), (1, vI l1), (2, vI l2), (3, vI l3), (4, vL l4), (6, vL l6), (8, vL l8), (10, vL l10), (12, vL s0)]) ⟨rfl, rfl, rfl, rfl, rfl, rfl, rfl, rfl, rfl, trivial⟩ ?_
    exact whd_hasSegments_169 h l1 l2 l3 l4 l6 l8 l10 s0 (kI 0) t q16.2
  refine j_runA hx 1 (tb := [(164, .iconst 1)]) (jtb_ok (by decide +kernel)) (pc' := 165) (lv' := [(12, vL s0), (0, vR t), (1, vI l1), (2, vI l2), (3, vI l3), (4, vL l4), (6, vL l6), (8, vL l8), (10, vL l10)]) (st' := [vI (kI 1), vR t]) rfl ?_
  refine j_goto hx (off := 4) (by decide +kernel) (tgt := 169) (by decide) ?_
  refine j_lv (lv' := [(0, vR t), (1, vI l1), (2, vI l2), (3, vI l3), (4, vL l4), (6, vL l6), (8, vL l8), (10, vL l10), (12, vL s0)]) ⟨rfl, rfl, rfl, rfl, rfl, rfl, rfl, rfl, rfl, trivial⟩ ?_
  exact whd_hasSegments_169 h l1 l2 l3 l4 l6 l8 l10 s0 (kI 1) t q16.2
theorem whd_hasSegments_104 {x : jCx} {en : (fhd_hasSegments_S ⊕ (Int32 × jW)) → Option (Outcome × jW)} {t : Nat} (h : hhd_hasSegments x en t) (l1 : Int32) (l2 : Int32) (l3 : Int32) (l4 : Int64) (l6 : Int64) (l8 : Int64) (s0 : Int64) (W : jW) : jJ x 14 104 [(0, vR t), (1, vI l1), (2, vI l2), (3, vI l3), (4, vL l4), (6, vL l6), (8, vL l8)] [vL s0] W (fhd_hasSegments_104 t l1 l2 l3 l4 l6 l8 s0 W) en := by
  have h0 := h
  obtain ⟨hx, hm, hr, he, k2⟩ := h0
  unfold fhd_hasSegments_104
  refine j_runA hx 2 (tb := [(104, .lstore 10), (106, .iload_n 1)]) (jtb_ok (by decide +kernel)) (pc' := 107) (lv' := [(10, vL s0), (0, vR t), (1, vI l1), (2, vI l2), (3, vI l3), (4, vL l4), (6, vL l6), (8, vL l8)]) (st' := [vI l1]) rfl ?_
  refine j_if_ne hx (off := 9) (tgt := 116) (by decide +kernel) (by decide) (fun _ => ?_) (fun _ => ?_)
  · refine j_runA hx 1 (tb := [(116, .aload_n 0)]) (jtb_ok (by decide +kernel)) (pc' := 117) (lv' := [(10, vL s0), (0, vR t), (1, vI l1), (2, vI l2), (3, vI l3), (4, vL l4), (6, vL l6), (8, vL l8)]) (st' := [vR t]) rfl ?_
    refine j_gd (fun h11 => ?_)
    refine j_getR hx flX9_16 kl1408 h11 (by decide) (by decide +kernel) ?_
    refine j_runA hx 3 (tb := [(120, .iload_n 1), (121, .iconst 1), (122, .isub)]) (jtb_ok (by decide +kernel)) (pc' := 123) (lv' := [(10, vL s0), (0, vR t), (1, vI l1), (2, vI l2), (3, vI l3), (4, vL l4), (6, vL l6), (8, vL l8)]) (st' := [vI (l1 - (kI 1)), vR (jR W 1408 t)]) rfl ?_
    refine j_gd (fun h12 => ?_)
    refine j_lald hx (f := 1408) (o := t) kd1408 rfl (by decide +kernel) h12 ?_
    refine j_runA hx 1 (tb := [(124, .aload_n 0)]) (jtb_ok (by decide +kernel)) (pc' := 125) (lv' := [(10, vL s0), (0, vR t), (1, vI l1), (2, vI l2), (3, vI l3), (4, vL l4), (6, vL l6), (8, vL l8)]) (st' := [vR t, vL (jB W 1408 t (ix (l1 - (kI 1))))]) rfl ?_
    refine j_getR hx flX9_20 kl1409 h11 (by decide) (by decide +kernel) ?_
    refine j_runA hx 3 (tb := [(128, .iload_n 1), (129, .iconst 1), (130, .isub)]) (jtb_ok (by decide +kernel)) (pc' := 131) (lv' := [(10, vL s0), (0, vR t), (1, vI l1), (2, vI l2), (3, vI l3), (4, vL l4), (6, vL l6), (8, vL l8)]) (st' := [vI (l1 - (kI 1)), vR (jR W 1409 t), vL (jB W 1408 t (ix (l1 - (kI 1))))]) rfl ?_
    refine j_gd (fun h13 => ?_)
    refine j_iald hx (f := 1409) (o := t) kd1409 rfl (by decide +kernel) h13 ?_
    refine j_runA hx 2 (tb := [(132, .i2l), (133, .ladd)]) (jtb_ok (by decide +kernel)) (pc' := 134) (lv' := [(10, vL s0), (0, vR t), (1, vI l1), (2, vI l2), (3, vI l3), (4, vL l4), (6, vL l6), (8, vL l8)]) (st' := [vL ((jB W 1408 t (ix (l1 - (kI 1)))) + ((jA W 1409 t (ix (l1 - (kI 1)))).toInt64))]) rfl ?_
    refine j_lv (lv' := [(0, vR t), (1, vI l1), (2, vI l2), (3, vI l3), (4, vL l4), (6, vL l6), (8, vL l8), (10, vL s0)]) ⟨rfl, rfl, rfl, rfl, rfl, rfl, rfl, rfl, trivial⟩ ?_
    exact whd_hasSegments_134 h l1 l2 l3 l4 l6 l8 s0 ((jB W 1408 t (ix (l1 - (kI 1)))) + ((jA W 1409 t (ix (l1 - (kI 1)))).toInt64)) W
  refine j_ldc2 hx (v := (kJ 65536)) (jkd2 q2858 (by decide +kernel)) (by decide +kernel) ?_
  refine j_goto hx (off := 21) (by decide +kernel) (tgt := 134) (by decide) ?_
  refine j_lv (lv' := [(0, vR t), (1, vI l1), (2, vI l2), (3, vI l3), (4, vL l4), (6, vL l6), (8, vL l8), (10, vL s0)]) ⟨rfl, rfl, rfl, rfl, rfl, rfl, rfl, rfl, trivial⟩ ?_
  exact whd_hasSegments_134 h l1 l2 l3 l4 l6 l8 s0 (kJ 65536) W
theorem whd_hasSegments_2 {x : jCx} {en : (fhd_hasSegments_S ⊕ (Int32 × jW)) → Option (Outcome × jW)} {t : Nat} (h : hhd_hasSegments x en t) (l1 : Int32) (W : jW) : jJ x 14 2 [(0, vR t), (1, vI l1)] [] W (fhd_hasSegments_2 t l1 W) en := by
  have h0 := h
  obtain ⟨hx, hm, hr, he, k2⟩ := h0
  unfold fhd_hasSegments_2
  refine j_runA hx 2 (tb := [(2, .iload_n 1), (3, .aload_n 0)]) (jtb_ok (by decide +kernel)) (pc' := 4) (lv' := [(0, vR t), (1, vI l1)]) (st' := [vR t, vI l1]) rfl ?_
  refine j_gd (fun h2 => ?_)
  refine j_getI hx flX9_121 kd1402 h2 (by decide) (by decide +kernel) ?_
  refine j_icmp_ge hx (off := 470) (tgt := 477) (by decide +kernel) (by decide) (fun _ => ?_) (fun _ => ?_)
  · refine j_runA hx 1 (tb := [(477, .iconst 1)]) (jtb_ok (by decide +kernel)) (pc' := 478) (lv' := [(0, vR t), (1, vI l1)]) (st' := [vI (kI 1)]) rfl ?_
    exact j_iret hx hm (by decide +kernel) jz1n (he _)
  refine j_runA hx 6 (tb := [(10, .bipush 64), (12, .bipush 56), (14, .iload_n 1), (15, .imul), (16, .iadd), (17, .istore_n 2)]) (jtb_ok (by decide +kernel)) (pc' := 18) (lv' := [(2, vI ((kI 64) + ((kI 56) * l1))), (0, vR t), (1, vI l1)]) (st' := []) rfl ?_
  refine j_let (v := ((kI 64) + ((kI 56) * l1))) (lv := fun v3 => [(2, vI v3), (0, vR t), (1, vI l1)]) (st := fun _ => []) (fun v3 => ?_)
  refine j_runA hx 6 (tb := [(18, .aload_n 0), (19, .iload_n 2), (20, .iconst 4), (21, .iadd), (22, .i2l), (23, .iconst 4)]) (jtb_ok (by decide +kernel)) (pc' := 24) (lv' := [(2, vI v3), (0, vR t), (1, vI l1)]) (st' := [vI (kI 4), vL ((v3 + (kI 4)).toInt64), vR t]) rfl ?_
  refine j_OL (j_callV (av := [vL ((v3 + (kI 4)).toInt64), vI (kI 4)]) (st := []) hx hr (Or.inl q2822) q2823 q2824 rfl md_fhd_num np_fhd_num (chd_num t ((v3 + (kI 4)).toInt64) (kI 4) W) (by decide) (Nat.le_of_ble_eq_true rfl) h2 (by decide) (by decide +kernel)) (fun q4 _ => ?_)
  refine j_runA hx 8 (tb := [(27, .l2i), (28, .istore_n 3), (29, .aload_n 0), (30, .iload_n 2), (31, .bipush 8), (33, .iadd), (34, .i2l), (35, .bipush 8)]) (jtb_ok (by decide +kernel)) (pc' := 37) (lv' := [(3, vI q4.toInt32), (2, vI v3), (0, vR t), (1, vI l1)]) (st' := [vI (kI 8), vL ((v3 + (kI 8)).toInt64), vR t]) rfl ?_
  refine j_OL (j_callV (av := [vL ((v3 + (kI 8)).toInt64), vI (kI 8)]) (st := []) hx hr (Or.inl q2849) q2850 q2851 rfl md_fhd_big np_fhd_big (chd_big t ((v3 + (kI 8)).toInt64) (kI 8) W) (by decide) (Nat.le_of_ble_eq_true rfl) h2 (by decide) (by decide +kernel)) (fun q5 _ => ?_)
  refine j_runA hx 7 (tb := [(40, .lstore 4), (42, .aload_n 0), (43, .iload_n 2), (44, .bipush 16), (46, .iadd), (47, .i2l), (48, .bipush 8)]) (jtb_ok (by decide +kernel)) (pc' := 50) (lv' := [(4, vL q5), (3, vI q4.toInt32), (2, vI v3), (0, vR t), (1, vI l1)]) (st' := [vI (kI 8), vL ((v3 + (kI 16)).toInt64), vR t]) rfl ?_
  refine j_OL (j_callV (av := [vL ((v3 + (kI 16)).toInt64), vI (kI 8)]) (st := []) hx hr (Or.inl q2849) q2850 q2851 rfl md_fhd_big np_fhd_big (chd_big t ((v3 + (kI 16)).toInt64) (kI 8) W) (by decide) (Nat.le_of_ble_eq_true rfl) h2 (by decide) (by decide +kernel)) (fun q6 _ => ?_)
  refine j_runA hx 7 (tb := [(53, .lstore 6), (55, .aload_n 0), (56, .iload_n 2), (57, .bipush 32), (59, .iadd), (60, .i2l), (61, .bipush 8)]) (jtb_ok (by decide +kernel)) (pc' := 63) (lv' := [(6, vL q6), (4, vL q5), (3, vI q4.toInt32), (2, vI v3), (0, vR t), (1, vI l1)]) (st' := [vI (kI 8), vL ((v3 + (kI 32)).toInt64), vR t]) rfl ?_
  refine j_OL (j_callV (av := [vL ((v3 + (kI 32)).toInt64), vI (kI 8)]) (st := []) hx hr (Or.inl q2849) q2850 q2851 rfl md_fhd_big np_fhd_big (chd_big t ((v3 + (kI 32)).toInt64) (kI 8) W) (by decide) (Nat.le_of_ble_eq_true rfl) h2 (by decide) (by decide +kernel)) (fun q7 _ => ?_)
  refine j_runA hx 2 (tb := [(66, .lstore 8), (68, .iload_n 1)]) (jtb_ok (by decide +kernel)) (pc' := 69) (lv' := [(8, vL q7), (6, vL q6), (4, vL q5), (3, vI q4.toInt32), (2, vI v3), (0, vR t), (1, vI l1)]) (st' := [vI l1]) rfl ?_
  refine j_if_ne hx (off := 17) (tgt := 86) (by decide +kernel) (by decide) (fun _ => ?_) (fun _ => ?_)
  · refine j_runA hx 1 (tb := [(86, .aload_n 0)]) (jtb_ok (by decide +kernel)) (pc' := 87) (lv' := [(8, vL q7), (6, vL q6), (4, vL q5), (3, vI q4.toInt32), (2, vI v3), (0, vR t), (1, vI l1)]) (st' := [vR t]) rfl ?_
    refine j_getR hx flX9_13 kl1407 h2 (by decide) (by decide +kernel) ?_
    refine j_runA hx 3 (tb := [(90, .iload_n 1), (91, .iconst 1), (92, .isub)]) (jtb_ok (by decide +kernel)) (pc' := 93) (lv' := [(8, vL q7), (6, vL q6), (4, vL q5), (3, vI q4.toInt32), (2, vI v3), (0, vR t), (1, vI l1)]) (st' := [vI (l1 - (kI 1)), vR (jR W 1407 t)]) rfl ?_
    refine j_gd (fun h8 => ?_)
    refine j_iald hx (f := 1407) (o := t) kd1407 rfl (by decide +kernel) h8 ?_
    refine j_runA hx 1 (tb := [(94, .aload_n 0)]) (jtb_ok (by decide +kernel)) (pc' := 95) (lv' := [(8, vL q7), (6, vL q6), (4, vL q5), (3, vI q4.toInt32), (2, vI v3), (0, vR t), (1, vI l1)]) (st' := [vR t, vI (jA W 1407 t (ix (l1 - (kI 1))))]) rfl ?_
    refine j_getR hx flX9_20 kl1409 h2 (by decide) (by decide +kernel) ?_
    refine j_runA hx 3 (tb := [(98, .iload_n 1), (99, .iconst 1), (100, .isub)]) (jtb_ok (by decide +kernel)) (pc' := 101) (lv' := [(8, vL q7), (6, vL q6), (4, vL q5), (3, vI q4.toInt32), (2, vI v3), (0, vR t), (1, vI l1)]) (st' := [vI (l1 - (kI 1)), vR (jR W 1409 t), vI (jA W 1407 t (ix (l1 - (kI 1))))]) rfl ?_
    refine j_gd (fun h9 => ?_)
    refine j_iald hx (f := 1409) (o := t) kd1409 rfl (by decide +kernel) h9 ?_
    refine j_runA hx 2 (tb := [(102, .iadd), (103, .i2l)]) (jtb_ok (by decide +kernel)) (pc' := 104) (lv' := [(8, vL q7), (6, vL q6), (4, vL q5), (3, vI q4.toInt32), (2, vI v3), (0, vR t), (1, vI l1)]) (st' := [vL (((jA W 1407 t (ix (l1 - (kI 1)))) + (jA W 1409 t (ix (l1 - (kI 1))))).toInt64)]) rfl ?_
    refine j_lv (lv' := [(0, vR t), (1, vI l1), (2, vI v3), (3, vI q4.toInt32), (4, vL q5), (6, vL q6), (8, vL q7)]) ⟨rfl, rfl, rfl, rfl, rfl, rfl, rfl, trivial⟩ ?_
    exact whd_hasSegments_104 h l1 v3 q4.toInt32 q5 q6 q7 (((jA W 1407 t (ix (l1 - (kI 1)))) + (jA W 1409 t (ix (l1 - (kI 1))))).toInt64) W
  refine j_runA hx 3 (tb := [(72, .bipush 64), (74, .bipush 56), (76, .aload_n 0)]) (jtb_ok (by decide +kernel)) (pc' := 77) (lv' := [(8, vL q7), (6, vL q6), (4, vL q5), (3, vI q4.toInt32), (2, vI v3), (0, vR t), (1, vI l1)]) (st' := [vR t, vI (kI 56), vI (kI 64)]) rfl ?_
  refine j_getI hx flX9_121 kd1402 h2 (by decide) (by decide +kernel) ?_
  refine j_runA hx 3 (tb := [(80, .imul), (81, .iadd), (82, .i2l)]) (jtb_ok (by decide +kernel)) (pc' := 83) (lv' := [(8, vL q7), (6, vL q6), (4, vL q5), (3, vI q4.toInt32), (2, vI v3), (0, vR t), (1, vI l1)]) (st' := [vL (((kI 64) + ((kI 56) * (jI W 1402 t))).toInt64)]) rfl ?_
  refine j_goto hx (off := 21) (by decide +kernel) (tgt := 104) (by decide) ?_
  refine j_lv (lv' := [(0, vR t), (1, vI l1), (2, vI v3), (3, vI q4.toInt32), (4, vL q5), (6, vL q6), (8, vL q7)]) ⟨rfl, rfl, rfl, rfl, rfl, rfl, rfl, trivial⟩ ?_
  exact whd_hasSegments_104 h l1 v3 q4.toInt32 q5 q6 q7 (((kI 64) + ((kI 56) * (jI W 1402 t))).toInt64) W
theorem whd_hasSegments {x : jCx} {en : (fhd_hasSegments_S ⊕ (Int32 × jW)) → Option (Outcome × jW)} {t : Nat} (h : hhd_hasSegments x en t) (W : jW) : jJ x 14 0 [(0, vR t)] [] W (fhd_hasSegments_0 t W) en := by
  have h0 := h
  obtain ⟨hx, hm, hr, he, k2⟩ := h0
  unfold fhd_hasSegments_0
  refine j_runA hx 2 (tb := [(0, .iconst 0), (1, .istore_n 1)]) (jtb_ok (by decide +kernel)) (pc' := 2) (lv' := [(1, vI (kI 0)), (0, vR t)]) (st' := []) rfl ?_
  refine j_lv (lv' := [(0, vR t), (1, vI (kI 0))]) ⟨rfl, rfl, trivial⟩ ?_
  exact k2 (kI 0) W
theorem chd_hasSegments (t : Nat) (W : jW) : jM yX9_hasSegments cX9_hasSegments 14 (Option.some Jvm.ClassFile.FieldType.boolean) [] 2 36 [vR t] W ((fhd_hasSegments t W).bind (fun q => some (.returned (some (.int q.1)), q.2))) := by
  refine jM.of (Nat.le_of_ble_eq_true rfl) (fun x hx hm hr => ?_)
  refine j_begin (P := (fun s => (2, [(0, vR t), (1, vI s.1)], s.2))) (fun en he hk => ?_)
  have h : hhd_hasSegments x en t := ⟨hx, hm, hr, fun q => he _, fun l1 W => hk (l1, W)⟩
  exact ⟨fun s => whd_hasSegments_2 h s.1 s.2, whd_hasSegments h W⟩
