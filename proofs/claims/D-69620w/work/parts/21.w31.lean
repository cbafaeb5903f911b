/-! ===== walks: fhd_hasSections fhd_symbolCount fhd_hasSymbols ===== -/
set_option maxRecDepth 100000
def hhd_hasSections (x : jCx) (en : (fhd_hasSections_S ⊕ (Int32 × jW)) → Option (Outcome × jW)) (t : Nat) : Prop :=
  jOK x RX9 cX9_hasSections 8 ∧
  jMt x "hasSections" (Option.some Jvm.ClassFile.FieldType.boolean) [] ∧
  jRm x 3 55 ∧
  (∀ q : Int32 × jW, en (.inr q) = some (.returned (some (.int q.1)), q.2)) ∧
  (∀ (l1 : Int32) (W : jW), jJ x 8 2 [(0, vR t), (1, vI l1)] [] W (some (.inl (.inl (l1, W)))) en) ∧
  (∀ (l1 : Int32) (l2 : Int32) (l3 : Int32) (W : jW), jJ x 8 59 [(0, vR t), (1, vI l1), (2, vI l2), (3, vI l3)] [] W (some (.inl (.inr (.inl (l1, l2, l3, W))))) en) ∧
  (∀ (l5 : Int32) (W : jW), jJ x 8 315 [(0, vR t), (5, vI l5)] [] W (some (.inl (.inr (.inr (.inl (l5, W)))))) en) ∧
  (∀ (l5 : Int32) (W : jW), jJ x 8 368 [(0, vR t), (5, vI l5)] [] W (some (.inl (.inr (.inr (.inr (.inl (l5, W))))))) en) ∧
  (∀ (l5 : Int32) (W : jW), jJ x 8 460 [(0, vR t), (5, vI l5)] [] W (some (.inl (.inr (.inr (.inr (.inr (.inl (l5, W)))))))) en) ∧
  (∀ (l5 : Int32) (l6 : Int32) (W : jW), jJ x 8 472 [(0, vR t), (5, vI l5), (6, vI l6)] [] W (some (.inl (.inr (.inr (.inr (.inr (.inr (l5, l6, W)))))))) en)
theorem whd_hasSections_111 {x : jCx} {en : (fhd_hasSections_S ⊕ (Int32 × jW)) → Option (Outcome × jW)} {t : Nat} (h : hhd_hasSections x en t) (l1 : Int32) (l2 : Int32) (l3 : Int32) (W : jW) : jJ x 8 111 [(0, vR t), (1, vI l1), (2, vI l2), (3, vI l3)] [] W (fhd_hasSections_111 t l1 l2 l3 W) en := by
  have h0 := h
  obtain ⟨hx, hm, hr, he, k2, k59, k315, k368, k460, k472⟩ := h0
  unfold fhd_hasSections_111
  refine j_runA hx 1 (tb := [(111, .iinc 3 1)]) (jtb_ok (by decide +kernel)) (pc' := 114) (lv' := [(3, vI (l3 + (kI 1))), (0, vR t), (1, vI l1), (2, vI l2)]) (st' := []) rfl ?_
  refine j_let (v := (l3 + (kI 1))) (lv := fun v40 => [(3, vI v40), (0, vR t), (1, vI l1), (2, vI l2)]) (st := fun _ => []) (fun v40 => ?_)
  refine j_goto hx (off := -55) (by decide +kernel) (tgt := 59) (by decide) ?_
  refine j_lv (lv' := [(0, vR t), (1, vI l1), (2, vI l2), (3, vI v40)]) ⟨rfl, rfl, rfl, rfl, trivial⟩ ?_
  exact k59 l1 l2 v40 W
theorem whd_hasSections_94 {x : jCx} {en : (fhd_hasSections_S ⊕ (Int32 × jW)) → Option (Outcome × jW)} {t : Nat} (h : hhd_hasSections x en t) (l1 : Int32) (l2 : Int32) (l3 : Int32) (W : jW) : jJ x 8 94 [(0, vR t), (1, vI l1), (2, vI l2), (3, vI l3)] [] W (fhd_hasSections_94 t l1 l2 l3 W) en := by
  have h0 := h
  obtain ⟨hx, hm, hr, he, k2, k59, k315, k368, k460, k472⟩ := h0
  unfold fhd_hasSections_94
  refine j_runA hx 2 (tb := [(94, .aload_n 0), (95, .iload_n 3)]) (jtb_ok (by decide +kernel)) (pc' := 96) (lv' := [(0, vR t), (1, vI l1), (2, vI l2), (3, vI l3)]) (st' := [vI l3, vR t]) rfl ?_
  refine j_gd (fun h32 => ?_)
  refine j_OI (j_callV (av := [vI l3]) (st := []) hx hr (Or.inl q2877) q2878 q2879 rfl md_fhd_what np_fhd_what (chd_what t l3 W) (by decide) (Nat.le_of_ble_eq_true rfl) h32 (by decide) (by decide +kernel)) (fun q33 _ => ?_)
  refine j_runA hx 1 (tb := [(99, .iconst 2)]) (jtb_ok (by decide +kernel)) (pc' := 100) (lv' := [(0, vR t), (1, vI l1), (2, vI l2), (3, vI l3)]) (st' := [vI (kI 2), vI q33]) rfl ?_
  refine j_icmp_ne hx (off := 11) (tgt := 111) (by decide +kernel) (by decide) (fun _ => ?_) (fun _ => ?_)
  · exact whd_hasSections_111 h l1 l2 l3 W
  refine j_runA hx 1 (tb := [(103, .iinc 2 1)]) (jtb_ok (by decide +kernel)) (pc' := 106) (lv' := [(2, vI (l2 + (kI 1))), (0, vR t), (1, vI l1), (3, vI l3)]) (st' := []) rfl ?_
  refine j_let (v := (l2 + (kI 1))) (lv := fun v34 => [(2, vI v34), (0, vR t), (1, vI l1), (3, vI l3)]) (st := fun _ => []) (fun v34 => ?_)
  refine j_runA hx 2 (tb := [(106, .aload_n 0), (107, .iload_n 3)]) (jtb_ok (by decide +kernel)) (pc' := 108) (lv' := [(2, vI v34), (0, vR t), (1, vI l1), (3, vI l3)]) (st' := [vI l3, vR t]) rfl ?_
  refine j_putI hx fwX9_160 wf1416 kd1416 h32 (by decide) (by decide +kernel) (ni1416 _) (fi1416 _) ?_
  refine j_ltw rfl (fun W35 hc36 => ?_)
  have h37 : jC W35 t = 14 := (congrFun hc36 _).trans h32
  refine j_lv (lv' := [(0, vR t), (1, vI l1), (2, vI v34), (3, vI l3)]) ⟨rfl, rfl, rfl, rfl, trivial⟩ ?_
  exact whd_hasSections_111 h l1 v34 l3 W35
theorem whd_hasSections_310 {x : jCx} {en : (fhd_hasSections_S ⊕ (Int32 × jW)) → Option (Outcome × jW)} {t : Nat} (h : hhd_hasSections x en t) (W : jW) : jJ x 8 310 [(0, vR t)] [] W (fhd_hasSections_310 t W) en := by
  have h0 := h
  obtain ⟨hx, hm, hr, he, k2, k59, k315, k368, k460, k472⟩ := h0
  unfold fhd_hasSections_310
  refine j_runA hx 1 (tb := [(310, .iconst 0)]) (jtb_ok (by decide +kernel)) (pc' := 311) (lv' := [(0, vR t)]) (st' := [vI (kI 0)]) rfl ?_
  exact j_iret hx hm (by decide +kernel) jz0n (he _)
theorem whd_hasSections_359 {x : jCx} {en : (fhd_hasSections_S ⊕ (Int32 × jW)) → Option (Outcome × jW)} {t : Nat} (h : hhd_hasSections x en t) (l5 : Int32) (W : jW) : jJ x 8 359 [(0, vR t), (5, vI l5)] [] W (fhd_hasSections_359 t l5 W) en := by
  have h0 := h
  obtain ⟨hx, hm, hr, he, k2, k59, k315, k368, k460, k472⟩ := h0
  unfold fhd_hasSections_359
  refine j_runA hx 1 (tb := [(359, .iinc 5 1)]) (jtb_ok (by decide +kernel)) (pc' := 362) (lv' := [(5, vI (l5 + (kI 1))), (0, vR t)]) (st' := []) rfl ?_
  refine j_let (v := (l5 + (kI 1))) (lv := fun v78 => [(5, vI v78), (0, vR t)]) (st := fun _ => []) (fun v78 => ?_)
  refine j_goto hx (off := -47) (by decide +kernel) (tgt := 315) (by decide) ?_
  refine j_lv (lv' := [(0, vR t), (5, vI v78)]) ⟨rfl, rfl, trivial⟩ ?_
  exact k315 v78 W
theorem whd_hasSections_451 {x : jCx} {en : (fhd_hasSections_S ⊕ (Int32 × jW)) → Option (Outcome × jW)} {t : Nat} (h : hhd_hasSections x en t) (l5 : Int32) (W : jW) : jJ x 8 451 [(0, vR t), (5, vI l5)] [] W (fhd_hasSections_451 t l5 W) en := by
  have h0 := h
  obtain ⟨hx, hm, hr, he, k2, k59, k315, k368, k460, k472⟩ := h0
  unfold fhd_hasSections_451
  refine j_runA hx 1 (tb := [(451, .iinc 5 1)]) (jtb_ok (by decide +kernel)) (pc' := 454) (lv' := [(5, vI (l5 + (kI 1))), (0, vR t)]) (st' := []) rfl ?_
  refine j_let (v := (l5 + (kI 1))) (lv := fun v92 => [(5, vI v92), (0, vR t)]) (st := fun _ => []) (fun v92 => ?_)
  refine j_goto hx (off := -86) (by decide +kernel) (tgt := 368) (by decide) ?_
  refine j_lv (lv' := [(0, vR t), (5, vI v92)]) ⟨rfl, rfl, trivial⟩ ?_
  exact k368 v92 W
theorem whd_hasSections_433 {x : jCx} {en : (fhd_hasSections_S ⊕ (Int32 × jW)) → Option (Outcome × jW)} {t : Nat} (h : hhd_hasSections x en t) (l5 : Int32) (s0 : Int32) (s1 : Nat) (W : jW) : jJ x 8 433 [(0, vR t), (5, vI l5)] [vI s0, vR s1] W (fhd_hasSections_433 t l5 s0 s1 W) en := by
  have h0 := h
  obtain ⟨hx, hm, hr, he, k2, k59, k315, k368, k460, k472⟩ := h0
  unfold fhd_hasSections_433
  refine j_runA hx 2 (tb := [(433, .aload_n 0), (434, .iload 5)]) (jtb_ok (by decide +kernel)) (pc' := 436) (lv' := [(0, vR t), (5, vI l5)]) (st' := [vI l5, vR t, vI s0, vR s1]) rfl ?_
  refine j_gd (fun h86 => ?_)
  refine j_OI (j_callV (av := [vI l5]) (st := [vI s0, vR s1]) hx hr (Or.inl q2870) q2872 qs129 rfl md_fhd_head np_fhd_head (chd_head t l5 W) (by decide) (Nat.le_of_ble_eq_true rfl) h86 (by decide) (by decide +kernel)) (fun q87 _ => ?_)
  refine j_runA hx 3 (tb := [(439, .bipush 24), (441, .iadd), (442, .i2l)]) (jtb_ok (by decide +kernel)) (pc' := 443) (lv' := [(0, vR t), (5, vI l5)]) (st' := [vL ((q87 + (kI 24)).toInt64), vI s0, vR s1]) rfl ?_
  refine j_gd (fun h88 => ?_)
  refine j_WI (j_callV (av := [vI s0, vL ((q87 + (kI 24)).toInt64)]) (st := []) hx hr (Or.inl q2818) q2820 qs124 rfl md_fhd_is np_fhd_is (chd_is s1 s0 ((q87 + (kI 24)).toInt64) W) (by decide) (Nat.le_of_ble_eq_true rfl) h88 (by decide) (by decide +kernel)) (fun q89 _ => ?_)
  refine j_if_ne hx (off := 5) (tgt := 451) (by decide +kernel) (by decide) (fun _ => ?_) (fun _ => ?_)
  · exact whd_hasSections_451 h l5 q89.2
  refine j_runA hx 1 (tb := [(449, .iconst 0)]) (jtb_ok (by decide +kernel)) (pc' := 450) (lv' := [(0, vR t), (5, vI l5)]) (st' := [vI (kI 0)]) rfl ?_
  exact j_iret hx hm (by decide +kernel) jz0n (he _)
theorem whd_hasSections_560 {x : jCx} {en : (fhd_hasSections_S ⊕ (Int32 × jW)) → Option (Outcome × jW)} {t : Nat} (h : hhd_hasSections x en t) (l5 : Int32) (l6 : Int32) (s0 : Int32) (W : jW) : jJ x 8 560 [(0, vR t), (5, vI l5), (6, vI l6)] [vI s0] W (fhd_hasSections_560 t l5 l6 s0 W) en := by
  have h0 := h
  obtain ⟨hx, hm, hr, he, k2, k59, k315, k368, k460, k472⟩ := h0
  unfold fhd_hasSections_560
  refine j_runA hx 5 (tb := [(560, .istore 7), (562, .aload_n 0), (563, .iload 7), (565, .aload_n 0), (566, .iload 5)]) (jtb_ok (by decide +kernel)) (pc' := 568) (lv' := [(7, vI s0), (0, vR t), (5, vI l5), (6, vI l6)]) (st' := [vI l5, vR t, vI s0, vR t]) rfl ?_
  refine j_gd (fun h110 => ?_)
  refine j_OI (j_callV (av := [vI l5]) (st := [vI s0, vR t]) hx hr (Or.inl q2870) q2872 qs129 rfl md_fhd_head np_fhd_head (chd_head t l5 W) (by decide) (Nat.le_of_ble_eq_true rfl) h110 (by decide) (by decide +kernel)) (fun q111 _ => ?_)
  refine j_runA hx 3 (tb := [(571, .bipush 24), (573, .iadd), (574, .i2l)]) (jtb_ok (by decide +kernel)) (pc' := 575) (lv' := [(7, vI s0), (0, vR t), (5, vI l5), (6, vI l6)]) (st' := [vL ((q111 + (kI 24)).toInt64), vI s0, vR t]) rfl ?_
  refine j_WI (j_callV (av := [vI s0, vL ((q111 + (kI 24)).toInt64)]) (st := []) hx hr (Or.inl q2818) q2820 qs124 rfl md_fhd_is np_fhd_is (chd_is t s0 ((q111 + (kI 24)).toInt64) W) (by decide) (Nat.le_of_ble_eq_true rfl) h110 (by decide) (by decide +kernel)) (fun q112 _ => ?_)
  refine j_if_ne hx (off := 5) (tgt := 583) (by decide +kernel) (by decide) (fun _ => ?_) (fun _ => ?_)
  · refine j_runA hx 1 (tb := [(583, .iinc 6 1)]) (jtb_ok (by decide +kernel)) (pc' := 586) (lv' := [(6, vI (l6 + (kI 1))), (7, vI s0), (0, vR t), (5, vI l5)]) (st' := []) rfl ?_
    refine j_let (v := (l6 + (kI 1))) (lv := fun v114 => [(6, vI v114), (7, vI s0), (0, vR t), (5, vI l5)]) (st := fun _ => []) (fun v114 => ?_)
    refine j_goto hx (off := -114) (by decide +kernel) (tgt := 472) (by decide) ?_
    refine j_lv (lv' := [(0, vR t), (5, vI l5), (6, vI v114)]) ⟨rfl, rfl, rfl, trivial⟩ ?_
    exact k472 l5 v114 q112.2
  refine j_runA hx 1 (tb := [(581, .iconst 0)]) (jtb_ok (by decide +kernel)) (pc' := 582) (lv' := [(7, vI s0), (0, vR t), (5, vI l5), (6, vI l6)]) (st' := [vI (kI 0)]) rfl ?_
  exact j_iret hx hm (by decide +kernel) jz0n (he _)
theorem whd_hasSections_555 {x : jCx} {en : (fhd_hasSections_S ⊕ (Int32 × jW)) → Option (Outcome × jW)} {t : Nat} (h : hhd_hasSections x en t) (l5 : Int32) (l6 : Int32) (W : jW) : jJ x 8 555 [(0, vR t), (5, vI l5), (6, vI l6)] [] W (fhd_hasSections_555 t l5 l6 W) en := by
  have h0 := h
  obtain ⟨hx, hm, hr, he, k2, k59, k315, k368, k460, k472⟩ := h0
  unfold fhd_hasSections_555
  refine j_runA hx 1 (tb := [(555, .iconst 1)]) (jtb_ok (by decide +kernel)) (pc' := 556) (lv' := [(0, vR t), (5, vI l5), (6, vI l6)]) (st' := [vI (kI 1)]) rfl ?_
  refine j_goto hx (off := 4) (by decide +kernel) (tgt := 560) (by decide) ?_
  exact whd_hasSections_560 h l5 l6 (kI 1) W
theorem whd_hasSections_472 {x : jCx} {en : (fhd_hasSections_S ⊕ (Int32 × jW)) → Option (Outcome × jW)} {t : Nat} (h : hhd_hasSections x en t) (l5 : Int32) (l6 : Int32) (W : jW) : jJ x 8 472 [(0, vR t), (5, vI l5), (6, vI l6)] [] W (fhd_hasSections_472 t l5 l6 W) en := by
  have h0 := h
  obtain ⟨hx, hm, hr, he, k2, k59, k315, k368, k460, k472⟩ := h0
  unfold fhd_hasSections_472
  refine j_runA hx 2 (tb := [(472, .iload 6), (474, .iload 5)]) (jtb_ok (by decide +kernel)) (pc' := 476) (lv' := [(0, vR t), (5, vI l5), (6, vI l6)]) (st' := [vI l5, vI l6]) rfl ?_
  refine j_icmp_ge hx (off := 113) (tgt := 589) (by decide +kernel) (by decide) (fun _ => ?_) (fun _ => ?_)
  · refine j_runA hx 1 (tb := [(589, .iinc 5 1)]) (jtb_ok (by decide +kernel)) (pc' := 592) (lv' := [(5, vI (l5 + (kI 1))), (0, vR t), (6, vI l6)]) (st' := []) rfl ?_
    refine j_let (v := (l5 + (kI 1))) (lv := fun v99 => [(5, vI v99), (0, vR t), (6, vI l6)]) (st := fun _ => []) (fun v99 => ?_)
    refine j_goto hx (off := -132) (by decide +kernel) (tgt := 460) (by decide) ?_
    refine j_lv (lv' := [(0, vR t), (5, vI v99)]) ⟨rfl, rfl, trivial⟩ ?_
    exact k460 v99 W
  refine j_runA hx 1 (tb := [(479, .aload_n 0)]) (jtb_ok (by decide +kernel)) (pc' := 480) (lv' := [(0, vR t), (5, vI l5), (6, vI l6)]) (st' := [vR t]) rfl ?_
  refine j_gd (fun h100 => ?_)
  refine j_getR hx flX9_35 kl1414 h100 (by decide) (by decide +kernel) ?_
  refine j_runA hx 1 (tb := [(483, .iload 5)]) (jtb_ok (by decide +kernel)) (pc' := 485) (lv' := [(0, vR t), (5, vI l5), (6, vI l6)]) (st' := [vI l5, vR (jR W 1414 t)]) rfl ?_
  refine j_gd (fun h101 => ?_)
  refine j_lald hx (f := 1414) (o := t) kd1414 rfl (by decide +kernel) h101 ?_
  refine j_runA hx 1 (tb := [(486, .lconst 0)]) (jtb_ok (by decide +kernel)) (pc' := 487) (lv' := [(0, vR t), (5, vI l5), (6, vI l6)]) (st' := [vL (kJ 0), vL (jB W 1414 t (ix l5))]) rfl ?_
  refine j_lcmp_eq hx (off := 67) (tgt := 555) (by decide +kernel) (by decide +kernel) (by decide) (fun _ => ?_) (fun _ => ?_)
  · exact whd_hasSections_555 h l5 l6 W
  refine j_runA hx 1 (tb := [(491, .aload_n 0)]) (jtb_ok (by decide +kernel)) (pc' := 492) (lv' := [(0, vR t), (5, vI l5), (6, vI l6)]) (st' := [vR t]) rfl ?_
  refine j_getR hx flX9_35 kl1414 h100 (by decide) (by decide +kernel) ?_
  refine j_runA hx 1 (tb := [(495, .iload 6)]) (jtb_ok (by decide +kernel)) (pc' := 497) (lv' := [(0, vR t), (5, vI l5), (6, vI l6)]) (st' := [vI l6, vR (jR W 1414 t)]) rfl ?_
  refine j_gd (fun h102 => ?_)
  refine j_lald hx (f := 1414) (o := t) kd1414 rfl (by decide +kernel) h102 ?_
  refine j_runA hx 1 (tb := [(498, .lconst 0)]) (jtb_ok (by decide +kernel)) (pc' := 499) (lv' := [(0, vR t), (5, vI l5), (6, vI l6)]) (st' := [vL (kJ 0), vL (jB W 1414 t (ix l6))]) rfl ?_
  refine j_lcmp_eq hx (off := 55) (tgt := 555) (by decide +kernel) (by decide +kernel) (by decide) (fun _ => ?_) (fun _ => ?_)
  · exact whd_hasSections_555 h l5 l6 W
  refine j_runA hx 1 (tb := [(503, .aload_n 0)]) (jtb_ok (by decide +kernel)) (pc' := 504) (lv' := [(0, vR t), (5, vI l5), (6, vI l6)]) (st' := [vR t]) rfl ?_
  refine j_getR hx flX9_29 kl1412 h100 (by decide) (by decide +kernel) ?_
  refine j_runA hx 1 (tb := [(507, .iload 5)]) (jtb_ok (by decide +kernel)) (pc' := 509) (lv' := [(0, vR t), (5, vI l5), (6, vI l6)]) (st' := [vI l5, vR (jR W 1412 t)]) rfl ?_
  refine j_gd (fun h103 => ?_)
  refine j_lald hx (f := 1412) (o := t) kd1412 rfl (by decide +kernel) h103 ?_
  refine j_runA hx 1 (tb := [(510, .aload_n 0)]) (jtb_ok (by decide +kernel)) (pc' := 511) (lv' := [(0, vR t), (5, vI l5), (6, vI l6)]) (st' := [vR t, vL (jB W 1412 t (ix l5))]) rfl ?_
  refine j_getR hx flX9_29 kl1412 h100 (by decide) (by decide +kernel) ?_
  refine j_runA hx 1 (tb := [(514, .iload 6)]) (jtb_ok (by decide +kernel)) (pc' := 516) (lv' := [(0, vR t), (5, vI l5), (6, vI l6)]) (st' := [vI l6, vR (jR W 1412 t), vL (jB W 1412 t (ix l5))]) rfl ?_
  refine j_gd (fun h104 => ?_)
  refine j_lald hx (f := 1412) (o := t) kd1412 rfl (by decide +kernel) h104 ?_
  refine j_runA hx 1 (tb := [(517, .aload_n 0)]) (jtb_ok (by decide +kernel)) (pc' := 518) (lv' := [(0, vR t), (5, vI l5), (6, vI l6)]) (st' := [vR t, vL (jB W 1412 t (ix l6)), vL (jB W 1412 t (ix l5))]) rfl ?_
  refine j_getR hx flX9_35 kl1414 h100 (by decide) (by decide +kernel) ?_
  refine j_runA hx 1 (tb := [(521, .iload 6)]) (jtb_ok (by decide +kernel)) (pc' := 523) (lv' := [(0, vR t), (5, vI l5), (6, vI l6)]) (st' := [vI l6, vR (jR W 1414 t), vL (jB W 1412 t (ix l6)), vL (jB W 1412 t (ix l5))]) rfl ?_
  refine j_gd (fun h105 => ?_)
  refine j_lald hx (f := 1414) (o := t) kd1414 rfl (by decide +kernel) h105 ?_
  refine j_runA hx 1 (tb := [(524, .ladd)]) (jtb_ok (by decide +kernel)) (pc' := 525) (lv' := [(0, vR t), (5, vI l5), (6, vI l6)]) (st' := [vL ((jB W 1412 t (ix l6)) + (jB W 1414 t (ix l6))), vL (jB W 1412 t (ix l5))]) rfl ?_
  refine j_lcmp_ge hx (off := 29) (tgt := 555) (by decide +kernel) (by decide +kernel) (by decide) (fun _ => ?_) (fun _ => ?_)
  · exact whd_hasSections_555 h l5 l6 W
  refine j_runA hx 1 (tb := [(529, .aload_n 0)]) (jtb_ok (by decide +kernel)) (pc' := 530) (lv' := [(0, vR t), (5, vI l5), (6, vI l6)]) (st' := [vR t]) rfl ?_
  refine j_getR hx flX9_29 kl1412 h100 (by decide) (by decide +kernel) ?_
  refine j_runA hx 1 (tb := [(533, .iload 6)]) (jtb_ok (by decide +kernel)) (pc' := 535) (lv' := [(0, vR t), (5, vI l5), (6, vI l6)]) (st' := [vI l6, vR (jR W 1412 t)]) rfl ?_
  refine j_gd (fun h106 => ?_)
  refine j_lald hx (f := 1412) (o := t) kd1412 rfl (by decide +kernel) h106 ?_
  refine j_runA hx 1 (tb := [(536, .aload_n 0)]) (jtb_ok (by decide +kernel)) (pc' := 537) (lv' := [(0, vR t), (5, vI l5), (6, vI l6)]) (st' := [vR t, vL (jB W 1412 t (ix l6))]) rfl ?_
  refine j_getR hx flX9_29 kl1412 h100 (by decide) (by decide +kernel) ?_
  refine j_runA hx 1 (tb := [(540, .iload 5)]) (jtb_ok (by decide +kernel)) (pc' := 542) (lv' := [(0, vR t), (5, vI l5), (6, vI l6)]) (st' := [vI l5, vR (jR W 1412 t), vL (jB W 1412 t (ix l6))]) rfl ?_
  refine j_gd (fun h107 => ?_)
  refine j_lald hx (f := 1412) (o := t) kd1412 rfl (by decide +kernel) h107 ?_
  refine j_runA hx 1 (tb := [(543, .aload_n 0)]) (jtb_ok (by decide +kernel)) (pc' := 544) (lv' := [(0, vR t), (5, vI l5), (6, vI l6)]) (st' := [vR t, vL (jB W 1412 t (ix l5)), vL (jB W 1412 t (ix l6))]) rfl ?_
  refine j_getR hx flX9_35 kl1414 h100 (by decide) (by decide +kernel) ?_
  refine j_runA hx 1 (tb := [(547, .iload 5)]) (jtb_ok (by decide +kernel)) (pc' := 549) (lv' := [(0, vR t), (5, vI l5), (6, vI l6)]) (st' := [vI l5, vR (jR W 1414 t), vL (jB W 1412 t (ix l5)), vL (jB W 1412 t (ix l6))]) rfl ?_
  refine j_gd (fun h108 => ?_)
  refine j_lald hx (f := 1414) (o := t) kd1414 rfl (by decide +kernel) h108 ?_
  refine j_runA hx 1 (tb := [(550, .ladd)]) (jtb_ok (by decide +kernel)) (pc' := 551) (lv' := [(0, vR t), (5, vI l5), (6, vI l6)]) (st' := [vL ((jB W 1412 t (ix l5)) + (jB W 1414 t (ix l5))), vL (jB W 1412 t (ix l6))]) rfl ?_
  refine j_lcmp_lt hx (off := 7) (tgt := 559) (by decide +kernel) (by decide +kernel) (by decide) (fun _ => ?_) (fun _ => ?_)
  · refine j_runA hx 1 (tb := [(559, .iconst 0)]) (jtb_ok (by decide +kernel)) (pc' := 560) (lv' := [(0, vR t), (5, vI l5), (6, vI l6)]) (st' := [vI (kI 0)]) rfl ?_
    exact whd_hasSections_560 h l5 l6 (kI 0) W
  exact whd_hasSections_555 h l5 l6 W
theorem whd_hasSections_460 {x : jCx} {en : (fhd_hasSections_S ⊕ (Int32 × jW)) → Option (Outcome × jW)} {t : Nat} (h : hhd_hasSections x en t) (l5 : Int32) (W : jW) : jJ x 8 460 [(0, vR t), (5, vI l5)] [] W (fhd_hasSections_460 t l5 W) en := by
  have h0 := h
  obtain ⟨hx, hm, hr, he, k2, k59, k315, k368, k460, k472⟩ := h0
  unfold fhd_hasSections_460
  refine j_runA hx 2 (tb := [(460, .iload 5), (462, .aload_n 0)]) (jtb_ok (by decide +kernel)) (pc' := 463) (lv' := [(0, vR t), (5, vI l5)]) (st' := [vR t, vI l5]) rfl ?_
  refine j_gd (fun h94 => ?_)
  refine j_getI hx flX9_126 kd1403 h94 (by decide) (by decide +kernel) ?_
  refine j_icmp_ge hx (off := 129) (tgt := 595) (by decide +kernel) (by decide) (fun _ => ?_) (fun _ => ?_)
  · refine j_runA hx 1 (tb := [(595, .aload_n 0)]) (jtb_ok (by decide +kernel)) (pc' := 596) (lv' := [(0, vR t), (5, vI l5)]) (st' := [vR t]) rfl ?_
    refine j_WI (j_callV (av := []) (st := []) hx hr (Or.inl q2885) q2887 qs131 rfl md_fhd_hasLinks np_fhd_hasLinks (chd_hasLinks t W) (by decide) (Nat.le_of_ble_eq_true rfl) h94 (by decide) (by decide +kernel)) (fun q95 _ => ?_)
    refine j_gd (fun h97 => ?_)
    exact j_iret hx hm (by decide +kernel) (jzn h97) (he _)
  refine j_runA hx 2 (tb := [(469, .iconst 1), (470, .istore 6)]) (jtb_ok (by decide +kernel)) (pc' := 472) (lv' := [(6, vI (kI 1)), (0, vR t), (5, vI l5)]) (st' := []) rfl ?_
  refine j_lv (lv' := [(0, vR t), (5, vI l5), (6, vI (kI 1))]) ⟨rfl, rfl, rfl, trivial⟩ ?_
  exact k472 l5 (kI 1) W
theorem whd_hasSections_368 {x : jCx} {en : (fhd_hasSections_S ⊕ (Int32 × jW)) → Option (Outcome × jW)} {t : Nat} (h : hhd_hasSections x en t) (l5 : Int32) (W : jW) : jJ x 8 368 [(0, vR t), (5, vI l5)] [] W (fhd_hasSections_368 t l5 W) en := by
  have h0 := h
  obtain ⟨hx, hm, hr, he, k2, k59, k315, k368, k460, k472⟩ := h0
  unfold fhd_hasSections_368
  refine j_runA hx 2 (tb := [(368, .iload 5), (370, .aload_n 0)]) (jtb_ok (by decide +kernel)) (pc' := 371) (lv' := [(0, vR t), (5, vI l5)]) (st' := [vR t, vI l5]) rfl ?_
  refine j_gd (fun h80 => ?_)
  refine j_getI hx flX9_126 kd1403 h80 (by decide) (by decide +kernel) ?_
  refine j_icmp_ge hx (off := 83) (tgt := 457) (by decide +kernel) (by decide) (fun _ => ?_) (fun _ => ?_)
  · refine j_runA hx 2 (tb := [(457, .iconst 2), (458, .istore 5)]) (jtb_ok (by decide +kernel)) (pc' := 460) (lv' := [(5, vI (kI 2)), (0, vR t)]) (st' := []) rfl ?_
    refine j_lv (lv' := [(0, vR t), (5, vI (kI 2))]) ⟨rfl, rfl, trivial⟩ ?_
    exact k460 (kI 2) W
  refine j_runA hx 2 (tb := [(377, .aload_n 0), (378, .iload 5)]) (jtb_ok (by decide +kernel)) (pc' := 380) (lv' := [(0, vR t), (5, vI l5)]) (st' := [vI l5, vR t]) rfl ?_
  refine j_OI (j_callV (av := [vI l5]) (st := []) hx hr (Or.inl q2877) q2878 q2879 rfl md_fhd_what np_fhd_what (chd_what t l5 W) (by decide) (Nat.le_of_ble_eq_true rfl) h80 (by decide) (by decide +kernel)) (fun q81 _ => ?_)
  refine j_runA hx 3 (tb := [(383, .istore 6), (385, .iload 6), (387, .iconst 1)]) (jtb_ok (by decide +kernel)) (pc' := 388) (lv' := [(6, vI q81), (0, vR t), (5, vI l5)]) (st' := [vI (kI 1), vI q81]) rfl ?_
  refine j_icmp_eq hx (off := 63) (tgt := 451) (by decide +kernel) (by decide) (fun _ => ?_) (fun _ => ?_)
  · refine j_lv (lv' := [(0, vR t), (5, vI l5)]) ⟨rfl, rfl, trivial⟩ ?_
    exact whd_hasSections_451 h l5 W
  refine j_runA hx 2 (tb := [(391, .iload 6), (393, .iconst 5)]) (jtb_ok (by decide +kernel)) (pc' := 394) (lv' := [(6, vI q81), (0, vR t), (5, vI l5)]) (st' := [vI (kI 5), vI q81]) rfl ?_
  refine j_icmp_eq hx (off := 57) (tgt := 451) (by decide +kernel) (by decide) (fun _ => ?_) (fun _ => ?_)
  · refine j_lv (lv' := [(0, vR t), (5, vI l5)]) ⟨rfl, rfl, trivial⟩ ?_
    exact whd_hasSections_451 h l5 W
  refine j_runA hx 2 (tb := [(397, .aload_n 0), (398, .aload_n 0)]) (jtb_ok (by decide +kernel)) (pc' := 399) (lv' := [(6, vI q81), (0, vR t), (5, vI l5)]) (st' := [vR t, vR t]) rfl ?_
  refine j_getR hx flX9_29 kl1412 h80 (by decide) (by decide +kernel) ?_
  refine j_runA hx 1 (tb := [(402, .iload 5)]) (jtb_ok (by decide +kernel)) (pc' := 404) (lv' := [(6, vI q81), (0, vR t), (5, vI l5)]) (st' := [vI l5, vR (jR W 1412 t), vR t]) rfl ?_
  refine j_gd (fun h82 => ?_)
  refine j_lald hx (f := 1412) (o := t) kd1412 rfl (by decide +kernel) h82 ?_
  refine j_runA hx 1 (tb := [(405, .aload_n 0)]) (jtb_ok (by decide +kernel)) (pc' := 406) (lv' := [(6, vI q81), (0, vR t), (5, vI l5)]) (st' := [vR t, vL (jB W 1412 t (ix l5)), vR t]) rfl ?_
  refine j_getR hx flX9_29 kl1412 h80 (by decide) (by decide +kernel) ?_
  refine j_runA hx 1 (tb := [(409, .aload_n 0)]) (jtb_ok (by decide +kernel)) (pc' := 410) (lv' := [(6, vI q81), (0, vR t), (5, vI l5)]) (st' := [vR t, vR (jR W 1412 t), vL (jB W 1412 t (ix l5)), vR t]) rfl ?_
  refine j_getI hx flX9_80 kd1415 h80 (by decide) (by decide +kernel) ?_
  refine j_gd (fun h83 => ?_)
  refine j_lald hx (f := 1412) (o := t) kd1412 rfl (by decide +kernel) h83 ?_
  refine j_runA hx 1 (tb := [(414, .aload_n 0)]) (jtb_ok (by decide +kernel)) (pc' := 415) (lv' := [(6, vI q81), (0, vR t), (5, vI l5)]) (st' := [vR t, vL (jB W 1412 t (ix (jI W 1415 t))), vL (jB W 1412 t (ix l5)), vR t]) rfl ?_
  refine j_getR hx flX9_35 kl1414 h80 (by decide) (by decide +kernel) ?_
  refine j_runA hx 1 (tb := [(418, .aload_n 0)]) (jtb_ok (by decide +kernel)) (pc' := 419) (lv' := [(6, vI q81), (0, vR t), (5, vI l5)]) (st' := [vR t, vR (jR W 1414 t), vL (jB W 1412 t (ix (jI W 1415 t))), vL (jB W 1412 t (ix l5)), vR t]) rfl ?_
  refine j_getI hx flX9_80 kd1415 h80 (by decide) (by decide +kernel) ?_
  refine j_gd (fun h84 => ?_)
  refine j_lald hx (f := 1414) (o := t) kd1414 rfl (by decide +kernel) h84 ?_
  refine j_runA hx 1 (tb := [(423, .ladd)]) (jtb_ok (by decide +kernel)) (pc' := 424) (lv' := [(6, vI q81), (0, vR t), (5, vI l5)]) (st' := [vL ((jB W 1412 t (ix (jI W 1415 t))) + (jB W 1414 t (ix (jI W 1415 t)))), vL (jB W 1412 t (ix l5)), vR t]) rfl ?_
  refine j_lcmp_lt hx (off := 7) (tgt := 432) (by decide +kernel) (by decide +kernel) (by decide) (fun _ => ?_) (fun _ => ?_)
  · refine j_runA hx 1 (tb := [(432, .iconst 0)]) (jtb_ok (by decide +kernel)) (pc' := 433) (lv' := [(6, vI q81), (0, vR t), (5, vI l5)]) (st' := [vI (kI 0), vR t]) rfl ?_
    refine j_lv (lv' := [(0, vR t), (5, vI l5)]) ⟨rfl, rfl, trivial⟩ ?_
    exact whd_hasSections_433 h l5 (kI 0) t W
  refine j_runA hx 1 (tb := [(428, .iconst 1)]) (jtb_ok (by decide +kernel)) (pc' := 429) (lv' := [(6, vI q81), (0, vR t), (5, vI l5)]) (st' := [vI (kI 1), vR t]) rfl ?_
  refine j_goto hx (off := 4) (by decide +kernel) (tgt := 433) (by decide) ?_
  refine j_lv (lv' := [(0, vR t), (5, vI l5)]) ⟨rfl, rfl, trivial⟩ ?_
  exact whd_hasSections_433 h l5 (kI 1) t W
theorem whd_hasSections_315 {x : jCx} {en : (fhd_hasSections_S ⊕ (Int32 × jW)) → Option (Outcome × jW)} {t : Nat} (h : hhd_hasSections x en t) (l5 : Int32) (W : jW) : jJ x 8 315 [(0, vR t), (5, vI l5)] [] W (fhd_hasSections_315 t l5 W) en := by
  have h0 := h
  obtain ⟨hx, hm, hr, he, k2, k59, k315, k368, k460, k472⟩ := h0
  unfold fhd_hasSections_315
  refine j_runA hx 2 (tb := [(315, .iload 5), (317, .aload_n 0)]) (jtb_ok (by decide +kernel)) (pc' := 318) (lv' := [(0, vR t), (5, vI l5)]) (st' := [vR t, vI l5]) rfl ?_
  refine j_gd (fun h71 => ?_)
  refine j_getI hx flX9_126 kd1403 h71 (by decide) (by decide +kernel) ?_
  refine j_icmp_ge hx (off := 44) (tgt := 365) (by decide +kernel) (by decide) (fun _ => ?_) (fun _ => ?_)
  · refine j_runA hx 2 (tb := [(365, .iconst 1), (366, .istore 5)]) (jtb_ok (by decide +kernel)) (pc' := 368) (lv' := [(5, vI (kI 1)), (0, vR t)]) (st' := []) rfl ?_
    refine j_lv (lv' := [(0, vR t), (5, vI (kI 1))]) ⟨rfl, rfl, trivial⟩ ?_
    exact k368 (kI 1) W
  refine j_runA hx 2 (tb := [(324, .aload_n 0), (325, .iload 5)]) (jtb_ok (by decide +kernel)) (pc' := 327) (lv' := [(0, vR t), (5, vI l5)]) (st' := [vI l5, vR t]) rfl ?_
  refine j_OI (j_callV (av := [vI l5]) (st := []) hx hr (Or.inl q2877) q2878 q2879 rfl md_fhd_what np_fhd_what (chd_what t l5 W) (by decide) (Nat.le_of_ble_eq_true rfl) h71 (by decide) (by decide +kernel)) (fun q72 _ => ?_)
  refine j_runA hx 1 (tb := [(330, .iconst 5)]) (jtb_ok (by decide +kernel)) (pc' := 331) (lv' := [(0, vR t), (5, vI l5)]) (st' := [vI (kI 5), vI q72]) rfl ?_
  refine j_icmp_ne hx (off := 28) (tgt := 359) (by decide +kernel) (by decide) (fun _ => ?_) (fun _ => ?_)
  · exact whd_hasSections_359 h l5 W
  refine j_runA hx 3 (tb := [(334, .aload_n 0), (335, .aload_n 0), (336, .iload 5)]) (jtb_ok (by decide +kernel)) (pc' := 338) (lv' := [(0, vR t), (5, vI l5)]) (st' := [vI l5, vR t, vR t]) rfl ?_
  refine j_OI (j_callV (av := [vI l5]) (st := [vR t]) hx hr (Or.inl q2881) q2883 qs130 rfl md_fhd_isInSegment np_fhd_isInSegment (chd_isInSegment t l5 W) (by decide) (Nat.le_of_ble_eq_true rfl) h71 (by decide) (by decide +kernel)) (fun q73 _ => ?_)
  refine j_runA hx 2 (tb := [(341, .aload_n 0), (342, .iload 5)]) (jtb_ok (by decide +kernel)) (pc' := 344) (lv' := [(0, vR t), (5, vI l5)]) (st' := [vI l5, vR t, vI q73, vR t]) rfl ?_
  refine j_OI (j_callV (av := [vI l5]) (st := [vI q73, vR t]) hx hr (Or.inl q2870) q2872 qs129 rfl md_fhd_head np_fhd_head (chd_head t l5 W) (by decide) (Nat.le_of_ble_eq_true rfl) h71 (by decide) (by decide +kernel)) (fun q74 _ => ?_)
  refine j_runA hx 3 (tb := [(347, .bipush 16), (349, .iadd), (350, .i2l)]) (jtb_ok (by decide +kernel)) (pc' := 351) (lv' := [(0, vR t), (5, vI l5)]) (st' := [vL ((q74 + (kI 16)).toInt64), vI q73, vR t]) rfl ?_
  refine j_WI (j_callV (av := [vI q73, vL ((q74 + (kI 16)).toInt64)]) (st := []) hx hr (Or.inl q2818) q2820 qs124 rfl md_fhd_is np_fhd_is (chd_is t q73 ((q74 + (kI 16)).toInt64) W) (by decide) (Nat.le_of_ble_eq_true rfl) h71 (by decide) (by decide +kernel)) (fun q75 _ => ?_)
  refine j_if_ne hx (off := 5) (tgt := 359) (by decide +kernel) (by decide) (fun _ => ?_) (fun _ => ?_)
  · exact whd_hasSections_359 h l5 q75.2
  refine j_runA hx 1 (tb := [(357, .iconst 0)]) (jtb_ok (by decide +kernel)) (pc' := 358) (lv' := [(0, vR t), (5, vI l5)]) (st' := [vI (kI 0)]) rfl ?_
  exact j_iret hx hm (by decide +kernel) jz0n (he _)
theorem whd_hasSections_298 {x : jCx} {en : (fhd_hasSections_S ⊕ (Int32 × jW)) → Option (Outcome × jW)} {t : Nat} (h : hhd_hasSections x en t) (l4 : Int32) (s0 : Int32) (s1 : Nat) (W : jW) : jJ x 8 298 [(0, vR t), (4, vI l4)] [vI s0, vR s1] W (fhd_hasSections_298 t l4 s0 s1 W) en := by
  have h0 := h
  obtain ⟨hx, hm, hr, he, k2, k59, k315, k368, k460, k472⟩ := h0
  unfold fhd_hasSections_298
  refine j_runA hx 4 (tb := [(298, .iload 4), (300, .bipush 32), (302, .iadd), (303, .i2l)]) (jtb_ok (by decide +kernel)) (pc' := 304) (lv' := [(0, vR t), (4, vI l4)]) (st' := [vL ((l4 + (kI 32)).toInt64), vI s0, vR s1]) rfl ?_
  refine j_gd (fun h67 => ?_)
  refine j_WI (j_callV (av := [vI s0, vL ((l4 + (kI 32)).toInt64)]) (st := []) hx hr (Or.inl q2818) q2820 qs124 rfl md_fhd_is np_fhd_is (chd_is s1 s0 ((l4 + (kI 32)).toInt64) W) (by decide) (Nat.le_of_ble_eq_true rfl) h67 (by decide) (by decide +kernel)) (fun q68 _ => ?_)
  refine j_if_ne hx (off := 5) (tgt := 312) (by decide +kernel) (by decide) (fun _ => ?_) (fun _ => ?_)
  · refine j_runA hx 2 (tb := [(312, .iconst 1), (313, .istore 5)]) (jtb_ok (by decide +kernel)) (pc' := 315) (lv' := [(5, vI (kI 1)), (0, vR t), (4, vI l4)]) (st' := []) rfl ?_
    refine j_lv (lv' := [(0, vR t), (5, vI (kI 1))]) ⟨rfl, rfl, trivial⟩ ?_
    exact k315 (kI 1) q68.2
  refine j_lv (lv' := [(0, vR t)]) ⟨rfl, trivial⟩ ?_
  exact whd_hasSections_310 h q68.2
theorem whd_hasSections_297 {x : jCx} {en : (fhd_hasSections_S ⊕ (Int32 × jW)) → Option (Outcome × jW)} {t : Nat} (h : hhd_hasSections x en t) (l4 : Int32) (s0 : Nat) (W : jW) : jJ x 8 297 [(0, vR t), (4, vI l4)] [vR s0] W (fhd_hasSections_297 t l4 s0 W) en := by
  have h0 := h
  obtain ⟨hx, hm, hr, he, k2, k59, k315, k368, k460, k472⟩ := h0
  unfold fhd_hasSections_297
  refine j_runA hx 1 (tb := [(297, .iconst 0)]) (jtb_ok (by decide +kernel)) (pc' := 298) (lv' := [(0, vR t), (4, vI l4)]) (st' := [vI (kI 0), vR s0]) rfl ?_
  exact whd_hasSections_298 h l4 (kI 0) s0 W
theorem whd_hasSections_242 {x : jCx} {en : (fhd_hasSections_S ⊕ (Int32 × jW)) → Option (Outcome × jW)} {t : Nat} (h : hhd_hasSections x en t) (l3 : Int32) (l4 : Int32) (s0 : Int32) (s1 : Nat) (W : jW) : jJ x 8 242 [(0, vR t), (3, vI l3), (4, vI l4)] [vI s0, vR s1] W (fhd_hasSections_242 t l3 l4 s0 s1 W) en := by
  have h0 := h
  obtain ⟨hx, hm, hr, he, k2, k59, k315, k368, k460, k472⟩ := h0
  unfold fhd_hasSections_242
  refine j_runA hx 4 (tb := [(242, .iload 4), (244, .bipush 24), (246, .iadd), (247, .i2l)]) (jtb_ok (by decide +kernel)) (pc' := 248) (lv' := [(0, vR t), (3, vI l3), (4, vI l4)]) (st' := [vL ((l4 + (kI 24)).toInt64), vI s0, vR s1]) rfl ?_
  refine j_gd (fun h59 => ?_)
  refine j_WI (j_callV (av := [vI s0, vL ((l4 + (kI 24)).toInt64)]) (st := []) hx hr (Or.inl q2818) q2820 qs124 rfl md_fhd_is np_fhd_is (chd_is s1 s0 ((l4 + (kI 24)).toInt64) W) (by decide) (Nat.le_of_ble_eq_true rfl) h59 (by decide) (by decide +kernel)) (fun q60 _ => ?_)
  refine j_if_eq hx (off := 59) (tgt := 310) (by decide +kernel) (by decide) (fun _ => ?_) (fun _ => ?_)
  · refine j_lv (lv' := [(0, vR t)]) ⟨rfl, trivial⟩ ?_
    exact whd_hasSections_310 h q60.2
  refine j_runA hx 2 (tb := [(254, .aload_n 0), (255, .aload_n 0)]) (jtb_ok (by decide +kernel)) (pc' := 256) (lv' := [(0, vR t), (3, vI l3), (4, vI l4)]) (st' := [vR t, vR t]) rfl ?_
  refine j_gd (fun h62 => ?_)
  refine j_getR hx flX9_35 kl1414 h62 (by decide) (by decide +kernel) ?_
  refine j_runA hx 1 (tb := [(259, .aload_n 0)]) (jtb_ok (by decide +kernel)) (pc' := 260) (lv' := [(0, vR t), (3, vI l3), (4, vI l4)]) (st' := [vR t, vR (jR q60.2 1414 t), vR t]) rfl ?_
  refine j_getI hx flX9_80 kd1415 h62 (by decide) (by decide +kernel) ?_
  refine j_gd (fun h63 => ?_)
  refine j_lald hx (f := 1414) (o := t) kd1414 rfl (by decide +kernel) h63 ?_
  refine j_runA hx 1 (tb := [(264, .aload_n 0)]) (jtb_ok (by decide +kernel)) (pc' := 265) (lv' := [(0, vR t), (3, vI l3), (4, vI l4)]) (st' := [vR t, vL (jB q60.2 1414 t (ix (jI q60.2 1415 t))), vR t]) rfl ?_
  refine j_getR hx flX9_20 kl1409 h62 (by decide) (by decide +kernel) ?_
  refine j_runA hx 1 (tb := [(268, .iload_n 3)]) (jtb_ok (by decide +kernel)) (pc' := 269) (lv' := [(0, vR t), (3, vI l3), (4, vI l4)]) (st' := [vI l3, vR (jR q60.2 1409 t), vL (jB q60.2 1414 t (ix (jI q60.2 1415 t))), vR t]) rfl ?_
  refine j_gd (fun h64 => ?_)
  refine j_iald hx (f := 1409) (o := t) kd1409 rfl (by decide +kernel) h64 ?_
  refine j_runA hx 1 (tb := [(270, .i2l)]) (jtb_ok (by decide +kernel)) (pc' := 271) (lv' := [(0, vR t), (3, vI l3), (4, vI l4)]) (st' := [vL ((jA q60.2 1409 t (ix l3)).toInt64), vL (jB q60.2 1414 t (ix (jI q60.2 1415 t))), vR t]) rfl ?_
  refine j_lcmp_ne hx (off := 25) (tgt := 297) (by decide +kernel) (by decide +kernel) (by decide) (fun _ => ?_) (fun _ => ?_)
  · refine j_lv (lv' := [(0, vR t), (4, vI l4)]) ⟨rfl, rfl, trivial⟩ ?_
    exact whd_hasSections_297 h l4 t q60.2
  refine j_runA hx 1 (tb := [(275, .aload_n 0)]) (jtb_ok (by decide +kernel)) (pc' := 276) (lv' := [(0, vR t), (3, vI l3), (4, vI l4)]) (st' := [vR t, vR t]) rfl ?_
  refine j_getR hx flX9_35 kl1414 h62 (by decide) (by decide +kernel) ?_
  refine j_runA hx 1 (tb := [(279, .aload_n 0)]) (jtb_ok (by decide +kernel)) (pc' := 280) (lv' := [(0, vR t), (3, vI l3), (4, vI l4)]) (st' := [vR t, vR (jR q60.2 1414 t), vR t]) rfl ?_
  refine j_getI hx flX9_80 kd1415 h62 (by decide) (by decide +kernel) ?_
  refine j_gd (fun h65 => ?_)
  refine j_lald hx (f := 1414) (o := t) kd1414 rfl (by decide +kernel) h65 ?_
  refine j_ldc2 hx (v := (kJ 4)) (jkd2 q2827 (by decide +kernel)) (by decide +kernel) ?_
  refine j_lrem hx (by decide +kernel) (by decide +kernel) ?_
  refine j_runA hx 1 (tb := [(288, .lconst 0)]) (jtb_ok (by decide +kernel)) (pc' := 289) (lv' := [(0, vR t), (3, vI l3), (4, vI l4)]) (st' := [vL (kJ 0), vL (lrm (jB q60.2 1414 t (ix (jI q60.2 1415 t))) (kJ 4)), vR t]) rfl ?_
  refine j_lcmp_ne hx (off := 7) (tgt := 297) (by decide +kernel) (by decide +kernel) (by decide) (fun _ => ?_) (fun _ => ?_)
  · refine j_lv (lv' := [(0, vR t), (4, vI l4)]) ⟨rfl, rfl, trivial⟩ ?_
    exact whd_hasSections_297 h l4 t q60.2
  refine j_runA hx 1 (tb := [(293, .iconst 1)]) (jtb_ok (by decide +kernel)) (pc' := 294) (lv' := [(0, vR t), (3, vI l3), (4, vI l4)]) (st' := [vI (kI 1), vR t]) rfl ?_
  refine j_goto hx (off := 4) (by decide +kernel) (tgt := 298) (by decide) ?_
  refine j_lv (lv' := [(0, vR t), (4, vI l4)]) ⟨rfl, rfl, trivial⟩ ?_
  exact whd_hasSections_298 h l4 (kI 1) t q60.2
theorem whd_hasSections_204 {x : jCx} {en : (fhd_hasSections_S ⊕ (Int32 × jW)) → Option (Outcome × jW)} {t : Nat} (h : hhd_hasSections x en t) (l3 : Int32) (l4 : Int32) (s0 : Int32) (s1 : Nat) (W : jW) : jJ x 8 204 [(0, vR t), (3, vI l3), (4, vI l4)] [vI s0, vR s1] W (fhd_hasSections_204 t l3 l4 s0 s1 W) en := by
  have h0 := h
  obtain ⟨hx, hm, hr, he, k2, k59, k315, k368, k460, k472⟩ := h0
  unfold fhd_hasSections_204
  refine j_runA hx 4 (tb := [(204, .iload 4), (206, .bipush 16), (208, .iadd), (209, .i2l)]) (jtb_ok (by decide +kernel)) (pc' := 210) (lv' := [(0, vR t), (3, vI l3), (4, vI l4)]) (st' := [vL ((l4 + (kI 16)).toInt64), vI s0, vR s1]) rfl ?_
  refine j_gd (fun h52 => ?_)
  refine j_WI (j_callV (av := [vI s0, vL ((l4 + (kI 16)).toInt64)]) (st := []) hx hr (Or.inl q2818) q2820 qs124 rfl md_fhd_is np_fhd_is (chd_is s1 s0 ((l4 + (kI 16)).toInt64) W) (by decide) (Nat.le_of_ble_eq_true rfl) h52 (by decide) (by decide +kernel)) (fun q53 _ => ?_)
  refine j_if_eq hx (off := 97) (tgt := 310) (by decide +kernel) (by decide) (fun _ => ?_) (fun _ => ?_)
  · refine j_lv (lv' := [(0, vR t)]) ⟨rfl, trivial⟩ ?_
    exact whd_hasSections_310 h q53.2
  refine j_runA hx 2 (tb := [(216, .aload_n 0), (217, .aload_n 0)]) (jtb_ok (by decide +kernel)) (pc' := 218) (lv' := [(0, vR t), (3, vI l3), (4, vI l4)]) (st' := [vR t, vR t]) rfl ?_
  refine j_gd (fun h55 => ?_)
  refine j_getR hx flX9_29 kl1412 h55 (by decide) (by decide +kernel) ?_
  refine j_runA hx 1 (tb := [(221, .aload_n 0)]) (jtb_ok (by decide +kernel)) (pc' := 222) (lv' := [(0, vR t), (3, vI l3), (4, vI l4)]) (st' := [vR t, vR (jR q53.2 1412 t), vR t]) rfl ?_
  refine j_getI hx flX9_80 kd1415 h55 (by decide) (by decide +kernel) ?_
  refine j_gd (fun h56 => ?_)
  refine j_lald hx (f := 1412) (o := t) kd1412 rfl (by decide +kernel) h56 ?_
  refine j_runA hx 1 (tb := [(226, .aload_n 0)]) (jtb_ok (by decide +kernel)) (pc' := 227) (lv' := [(0, vR t), (3, vI l3), (4, vI l4)]) (st' := [vR t, vL (jB q53.2 1412 t (ix (jI q53.2 1415 t))), vR t]) rfl ?_
  refine j_getR hx flX9_13 kl1407 h55 (by decide) (by decide +kernel) ?_
  refine j_runA hx 1 (tb := [(230, .iload_n 3)]) (jtb_ok (by decide +kernel)) (pc' := 231) (lv' := [(0, vR t), (3, vI l3), (4, vI l4)]) (st' := [vI l3, vR (jR q53.2 1407 t), vL (jB q53.2 1412 t (ix (jI q53.2 1415 t))), vR t]) rfl ?_
  refine j_gd (fun h57 => ?_)
  refine j_iald hx (f := 1407) (o := t) kd1407 rfl (by decide +kernel) h57 ?_
  refine j_runA hx 1 (tb := [(232, .i2l)]) (jtb_ok (by decide +kernel)) (pc' := 233) (lv' := [(0, vR t), (3, vI l3), (4, vI l4)]) (st' := [vL ((jA q53.2 1407 t (ix l3)).toInt64), vL (jB q53.2 1412 t (ix (jI q53.2 1415 t))), vR t]) rfl ?_
  refine j_lcmp_ne hx (off := 7) (tgt := 241) (by decide +kernel) (by decide +kernel) (by decide) (fun _ => ?_) (fun _ => ?_)
  · refine j_runA hx 1 (tb := [(241, .iconst 0)]) (jtb_ok (by decide +kernel)) (pc' := 242) (lv' := [(0, vR t), (3, vI l3), (4, vI l4)]) (st' := [vI (kI 0), vR t]) rfl ?_
    exact whd_hasSections_242 h l3 l4 (kI 0) t q53.2
  refine j_runA hx 1 (tb := [(237, .iconst 1)]) (jtb_ok (by decide +kernel)) (pc' := 238) (lv' := [(0, vR t), (3, vI l3), (4, vI l4)]) (st' := [vI (kI 1), vR t]) rfl ?_
  refine j_goto hx (off := 4) (by decide +kernel) (tgt := 242) (by decide) ?_
  exact whd_hasSections_242 h l3 l4 (kI 1) t q53.2
theorem whd_hasSections_203 {x : jCx} {en : (fhd_hasSections_S ⊕ (Int32 × jW)) → Option (Outcome × jW)} {t : Nat} (h : hhd_hasSections x en t) (l3 : Int32) (l4 : Int32) (s0 : Nat) (W : jW) : jJ x 8 203 [(0, vR t), (3, vI l3), (4, vI l4)] [vR s0] W (fhd_hasSections_203 t l3 l4 s0 W) en := by
  have h0 := h
  obtain ⟨hx, hm, hr, he, k2, k59, k315, k368, k460, k472⟩ := h0
  unfold fhd_hasSections_203
  refine j_runA hx 1 (tb := [(203, .iconst 0)]) (jtb_ok (by decide +kernel)) (pc' := 204) (lv' := [(0, vR t), (3, vI l3), (4, vI l4)]) (st' := [vI (kI 0), vR s0]) rfl ?_
  exact whd_hasSections_204 h l3 l4 (kI 0) s0 W
theorem whd_hasSections_133 {x : jCx} {en : (fhd_hasSections_S ⊕ (Int32 × jW)) → Option (Outcome × jW)} {t : Nat} (h : hhd_hasSections x en t) (s0 : Int32) (s1 : Nat) (W : jW) : jJ x 8 133 [(0, vR t)] [vI s0, vR s1] W (fhd_hasSections_133 t s0 s1 W) en := by
  have h0 := h
  obtain ⟨hx, hm, hr, he, k2, k59, k315, k368, k460, k472⟩ := h0
  unfold fhd_hasSections_133
  refine j_ldc2 hx (v := (kJ 60)) (jkd2 q2845 (by decide +kernel)) (by decide +kernel) ?_
  refine j_gd (fun h42 => ?_)
  refine j_WI (j_callV (av := [vI s0, vL (kJ 60)]) (st := []) hx hr (Or.inl q2818) q2820 qs124 rfl md_fhd_is np_fhd_is (chd_is s1 s0 (kJ 60) W) (by decide) (Nat.le_of_ble_eq_true rfl) h42 (by decide) (by decide +kernel)) (fun q43 _ => ?_)
  refine j_if_ne hx (off := 5) (tgt := 144) (by decide +kernel) (by decide) (fun _ => ?_) (fun _ => ?_)
  · refine j_runA hx 1 (tb := [(144, .aload_n 0)]) (jtb_ok (by decide +kernel)) (pc' := 145) (lv' := [(0, vR t)]) (st' := [vR t]) rfl ?_
    refine j_gd (fun h45 => ?_)
    refine j_getI hx flX9_121 kd1402 h45 (by decide) (by decide +kernel) ?_
    refine j_runA hx 3 (tb := [(148, .iconst 1), (149, .isub), (150, .istore_n 3)]) (jtb_ok (by decide +kernel)) (pc' := 151) (lv' := [(3, vI ((jI q43.2 1402 t) - (kI 1))), (0, vR t)]) (st' := []) rfl ?_
    refine j_let (v := ((jI q43.2 1402 t) - (kI 1))) (lv := fun v46 => [(3, vI v46), (0, vR t)]) (st := fun _ => []) (fun v46 => ?_)
    refine j_runA hx 2 (tb := [(151, .aload_n 0), (152, .aload_n 0)]) (jtb_ok (by decide +kernel)) (pc' := 153) (lv' := [(3, vI v46), (0, vR t)]) (st' := [vR t, vR t]) rfl ?_
    refine j_getI hx flX9_80 kd1415 h45 (by decide) (by decide +kernel) ?_
    refine j_OI (j_callV (av := [vI (jI q43.2 1415 t)]) (st := []) hx hr (Or.inl q2870) q2872 qs129 rfl md_fhd_head np_fhd_head (chd_head t (jI q43.2 1415 t) q43.2) (by decide) (Nat.le_of_ble_eq_true rfl) h45 (by decide) (by decide +kernel)) (fun q47 _ => ?_)
    refine j_runA hx 3 (tb := [(159, .istore 4), (161, .aload_n 0), (162, .aload_n 0)]) (jtb_ok (by decide +kernel)) (pc' := 163) (lv' := [(4, vI q47), (3, vI v46), (0, vR t)]) (st' := [vR t, vR t]) rfl ?_
    refine j_getR hx flX9_32 kl1413 h45 (by decide) (by decide +kernel) ?_
    refine j_runA hx 1 (tb := [(166, .aload_n 0)]) (jtb_ok (by decide +kernel)) (pc' := 167) (lv' := [(4, vI q47), (3, vI v46), (0, vR t)]) (st' := [vR t, vR (jR q43.2 1413 t), vR t]) rfl ?_
    refine j_getI hx flX9_80 kd1415 h45 (by decide) (by decide +kernel) ?_
    refine j_gd (fun h48 => ?_)
    refine j_lald hx (f := 1413) (o := t) kd1413 rfl (by decide +kernel) h48 ?_
    refine j_runA hx 1 (tb := [(171, .aload_n 0)]) (jtb_ok (by decide +kernel)) (pc' := 172) (lv' := [(4, vI q47), (3, vI v46), (0, vR t)]) (st' := [vR t, vL (jB q43.2 1413 t (ix (jI q43.2 1415 t))), vR t]) rfl ?_
    refine j_getR hx flX9_16 kl1408 h45 (by decide) (by decide +kernel) ?_
    refine j_runA hx 1 (tb := [(175, .iload_n 3)]) (jtb_ok (by decide +kernel)) (pc' := 176) (lv' := [(4, vI q47), (3, vI v46), (0, vR t)]) (st' := [vI v46, vR (jR q43.2 1408 t), vL (jB q43.2 1413 t (ix (jI q43.2 1415 t))), vR t]) rfl ?_
    refine j_gd (fun h49 => ?_)
    refine j_lald hx (f := 1408) (o := t) kd1408 rfl (by decide +kernel) h49 ?_
    refine j_lcmp_ne hx (off := 25) (tgt := 203) (by decide +kernel) (by decide +kernel) (by decide) (fun _ => ?_) (fun _ => ?_)
    · refine j_lv (lv' := [(0, vR t), (3, vI v46), (4, vI q47)]) ⟨rfl, rfl, rfl, trivial⟩ ?_
      exact whd_hasSections_203 h v46 q47 t q43.2
    refine j_runA hx 1 (tb := [(181, .aload_n 0)]) (jtb_ok (by decide +kernel)) (pc' := 182) (lv' := [(4, vI q47), (3, vI v46), (0, vR t)]) (st' := [vR t, vR t]) rfl ?_
    refine j_getR hx flX9_32 kl1413 h45 (by decide) (by decide +kernel) ?_
    refine j_runA hx 1 (tb := [(185, .aload_n 0)]) (jtb_ok (by decide +kernel)) (pc' := 186) (lv' := [(4, vI q47), (3, vI v46), (0, vR t)]) (st' := [vR t, vR (jR q43.2 1413 t), vR t]) rfl ?_
    refine j_getI hx flX9_80 kd1415 h45 (by decide) (by decide +kernel) ?_
    refine j_gd (fun h50 => ?_)
    refine j_lald hx (f := 1413) (o := t) kd1413 rfl (by decide +kernel) h50 ?_
    refine j_ldc2 hx (v := (kJ 4)) (jkd2 q2827 (by decide +kernel)) (by decide +kernel) ?_
    refine j_lrem hx (by decide +kernel) (by decide +kernel) ?_
    refine j_runA hx 1 (tb := [(194, .lconst 0)]) (jtb_ok (by decide +kernel)) (pc' := 195) (lv' := [(4, vI q47), (3, vI v46), (0, vR t)]) (st' := [vL (kJ 0), vL (lrm (jB q43.2 1413 t (ix (jI q43.2 1415 t))) (kJ 4)), vR t]) rfl ?_
    refine j_lcmp_ne hx (off := 7) (tgt := 203) (by decide +kernel) (by decide +kernel) (by decide) (fun _ => ?_) (fun _ => ?_)
    · refine j_lv (lv' := [(0, vR t), (3, vI v46), (4, vI q47)]) ⟨rfl, rfl, rfl, trivial⟩ ?_
      exact whd_hasSections_203 h v46 q47 t q43.2
    refine j_runA hx 1 (tb := [(199, .iconst 1)]) (jtb_ok (by decide +kernel)) (pc' := 200) (lv' := [(4, vI q47), (3, vI v46), (0, vR t)]) (st' := [vI (kI 1), vR t]) rfl ?_
    refine j_goto hx (off := 4) (by decide +kernel) (tgt := 204) (by decide) ?_
    refine j_lv (lv' := [(0, vR t), (3, vI v46), (4, vI q47)]) ⟨rfl, rfl, rfl, trivial⟩ ?_
    exact whd_hasSections_204 h v46 q47 (kI 1) t q43.2
  refine j_runA hx 1 (tb := [(142, .iconst 0)]) (jtb_ok (by decide +kernel)) (pc' := 143) (lv' := [(0, vR t)]) (st' := [vI (kI 0)]) rfl ?_
  exact j_iret hx hm (by decide +kernel) jz0n (he _)
theorem whd_hasSections_132 {x : jCx} {en : (fhd_hasSections_S ⊕ (Int32 × jW)) → Option (Outcome × jW)} {t : Nat} (h : hhd_hasSections x en t) (s0 : Nat) (W : jW) : jJ x 8 132 [(0, vR t)] [vR s0] W (fhd_hasSections_132 t s0 W) en := by
  have h0 := h
  obtain ⟨hx, hm, hr, he, k2, k59, k315, k368, k460, k472⟩ := h0
  unfold fhd_hasSections_132
  refine j_runA hx 1 (tb := [(132, .iconst 0)]) (jtb_ok (by decide +kernel)) (pc' := 133) (lv' := [(0, vR t)]) (st' := [vI (kI 0), vR s0]) rfl ?_
  exact whd_hasSections_133 h (kI 0) s0 W
theorem whd_hasSections_59 {x : jCx} {en : (fhd_hasSections_S ⊕ (Int32 × jW)) → Option (Outcome × jW)} {t : Nat} (h : hhd_hasSections x en t) (l1 : Int32) (l2 : Int32) (l3 : Int32) (W : jW) : jJ x 8 59 [(0, vR t), (1, vI l1), (2, vI l2), (3, vI l3)] [] W (fhd_hasSections_59 t l1 l2 l3 W) en := by
  have h0 := h
  obtain ⟨hx, hm, hr, he, k2, k59, k315, k368, k460, k472⟩ := h0
  unfold fhd_hasSections_59
  refine j_runA hx 2 (tb := [(59, .iload_n 3), (60, .aload_n 0)]) (jtb_ok (by decide +kernel)) (pc' := 61) (lv' := [(0, vR t), (1, vI l1), (2, vI l2), (3, vI l3)]) (st' := [vR t, vI l3]) rfl ?_
  refine j_gd (fun h21 => ?_)
  refine j_getI hx flX9_126 kd1403 h21 (by decide) (by decide +kernel) ?_
  refine j_icmp_ge hx (off := 53) (tgt := 117) (by decide +kernel) (by decide) (fun _ => ?_) (fun _ => ?_)
  · refine j_runA hx 3 (tb := [(117, .aload_n 0), (118, .iload_n 1), (119, .iconst 1)]) (jtb_ok (by decide +kernel)) (pc' := 120) (lv' := [(0, vR t), (1, vI l1), (2, vI l2), (3, vI l3)]) (st' := [vI (kI 1), vI l1, vR t]) rfl ?_
    refine j_icmp_ne hx (off := 12) (tgt := 132) (by decide +kernel) (by decide) (fun _ => ?_) (fun _ => ?_)
    · refine j_lv (lv' := [(0, vR t)]) ⟨rfl, trivial⟩ ?_
      exact whd_hasSections_132 h t W
    refine j_runA hx 2 (tb := [(123, .iload_n 2), (124, .iconst 1)]) (jtb_ok (by decide +kernel)) (pc' := 125) (lv' := [(0, vR t), (1, vI l1), (2, vI l2), (3, vI l3)]) (st' := [vI (kI 1), vI l2, vR t]) rfl ?_
    refine j_icmp_ne hx (off := 7) (tgt := 132) (by decide +kernel) (by decide) (fun _ => ?_) (fun _ => ?_)
    · refine j_lv (lv' := [(0, vR t)]) ⟨rfl, trivial⟩ ?_
      exact whd_hasSections_132 h t W
    refine j_runA hx 1 (tb := [(128, .iconst 1)]) (jtb_ok (by decide +kernel)) (pc' := 129) (lv' := [(0, vR t), (1, vI l1), (2, vI l2), (3, vI l3)]) (st' := [vI (kI 1), vR t]) rfl ?_
    refine j_goto hx (off := 4) (by decide +kernel) (tgt := 133) (by decide) ?_
    refine j_lv (lv' := [(0, vR t)]) ⟨rfl, trivial⟩ ?_
    exact whd_hasSections_133 h (kI 1) t W
  refine j_runA hx 2 (tb := [(67, .aload_n 0), (68, .iload_n 3)]) (jtb_ok (by decide +kernel)) (pc' := 69) (lv' := [(0, vR t), (1, vI l1), (2, vI l2), (3, vI l3)]) (st' := [vI l3, vR t]) rfl ?_
  refine j_WI (j_callV (av := [vI l3]) (st := []) hx hr (Or.inl q2866) q2868 qs128 rfl md_fhd_isSection np_fhd_isSection (chd_isSection t l3 W) (by decide) (Nat.le_of_ble_eq_true rfl) h21 (by decide) (by decide +kernel)) (fun q22 _ => ?_)
  refine j_if_ne hx (off := 5) (tgt := 77) (by decide +kernel) (by decide) (fun _ => ?_) (fun _ => ?_)
  · refine j_runA hx 2 (tb := [(77, .aload_n 0), (78, .iload_n 3)]) (jtb_ok (by decide +kernel)) (pc' := 79) (lv' := [(0, vR t), (1, vI l1), (2, vI l2), (3, vI l3)]) (st' := [vI l3, vR t]) rfl ?_
    refine j_gd (fun h24 => ?_)
    refine j_OI (j_callV (av := [vI l3]) (st := []) hx hr (Or.inl q2877) q2878 q2879 rfl md_fhd_what np_fhd_what (chd_what t l3 q22.2) (by decide) (Nat.le_of_ble_eq_true rfl) h24 (by decide) (by decide +kernel)) (fun q25 _ => ?_)
    refine j_runA hx 1 (tb := [(82, .iconst 1)]) (jtb_ok (by decide +kernel)) (pc' := 83) (lv' := [(0, vR t), (1, vI l1), (2, vI l2), (3, vI l3)]) (st' := [vI (kI 1), vI q25]) rfl ?_
    refine j_icmp_ne hx (off := 11) (tgt := 94) (by decide +kernel) (by decide) (fun _ => ?_) (fun _ => ?_)
    · exact whd_hasSections_94 h l1 l2 l3 q22.2
    refine j_runA hx 1 (tb := [(86, .iinc 1 1)]) (jtb_ok (by decide +kernel)) (pc' := 89) (lv' := [(1, vI (l1 + (kI 1))), (0, vR t), (2, vI l2), (3, vI l3)]) (st' := []) rfl ?_
    refine j_let (v := (l1 + (kI 1))) (lv := fun v26 => [(1, vI v26), (0, vR t), (2, vI l2), (3, vI l3)]) (st := fun _ => []) (fun v26 => ?_)
    refine j_runA hx 2 (tb := [(89, .aload_n 0), (90, .iload_n 3)]) (jtb_ok (by decide +kernel)) (pc' := 91) (lv' := [(1, vI v26), (0, vR t), (2, vI l2), (3, vI l3)]) (st' := [vI l3, vR t]) rfl ?_
    refine j_putI hx fwX9_80 wf1415 kd1415 h24 (by decide) (by decide +kernel) (ni1415 _) (fi1415 _) ?_
    refine j_ltw rfl (fun W27 hc28 => ?_)
    have h29 : jC W27 t = 14 := (congrFun hc28 _).trans h24
    refine j_lv (lv' := [(0, vR t), (1, vI v26), (2, vI l2), (3, vI l3)]) ⟨rfl, rfl, rfl, rfl, trivial⟩ ?_
    exact whd_hasSections_94 h v26 l2 l3 W27
  refine j_runA hx 1 (tb := [(75, .iconst 0)]) (jtb_ok (by decide +kernel)) (pc' := 76) (lv' := [(0, vR t), (1, vI l1), (2, vI l2), (3, vI l3)]) (st' := [vI (kI 0)]) rfl ?_
  exact j_iret hx hm (by decide +kernel) jz0n (he _)
theorem whd_hasSections_2 {x : jCx} {en : (fhd_hasSections_S ⊕ (Int32 × jW)) → Option (Outcome × jW)} {t : Nat} (h : hhd_hasSections x en t) (l1 : Int32) (W : jW) : jJ x 8 2 [(0, vR t), (1, vI l1)] [] W (fhd_hasSections_2 t l1 W) en := by
  have h0 := h
  obtain ⟨hx, hm, hr, he, k2, k59, k315, k368, k460, k472⟩ := h0
  unfold fhd_hasSections_2
  refine j_runA hx 2 (tb := [(2, .iload_n 1), (3, .bipush 64)]) (jtb_ok (by decide +kernel)) (pc' := 5) (lv' := [(0, vR t), (1, vI l1)]) (st' := [vI (kI 64), vI l1]) rfl ?_
  refine j_icmp_ge hx (off := 34) (tgt := 39) (by decide +kernel) (by decide) (fun _ => ?_) (fun _ => ?_)
  · refine j_runA hx 1 (tb := [(39, .aload_n 0)]) (jtb_ok (by decide +kernel)) (pc' := 40) (lv' := [(0, vR t), (1, vI l1)]) (st' := [vR t]) rfl ?_
    refine j_gd (fun h2 => ?_)
    refine j_getR hx flX9_23 kl1410 h2 (by decide) (by decide +kernel) ?_
    refine j_runA hx 2 (tb := [(43, .iconst 0), (44, .iconst 0)]) (jtb_ok (by decide +kernel)) (pc' := 45) (lv' := [(0, vR t), (1, vI l1)]) (st' := [vI (kI 0), vI (kI 0), vR (jR W 1410 t)]) rfl ?_
    refine j_gd (fun h3 => ?_)
    refine j_iast hx (f := 1410) (o := t) kd1410 rfl (by decide +kernel) h3 ?_
    refine j_ltw rfl (fun W4 hc5 => ?_)
    have h6 : jC W4 t = 14 := (congrFun hc5 _).trans h2
    refine j_runA hx 1 (tb := [(46, .aload_n 0)]) (jtb_ok (by decide +kernel)) (pc' := 47) (lv' := [(0, vR t), (1, vI l1)]) (st' := [vR t]) rfl ?_
    refine j_getR hx flX9_35 kl1414 h6 (by decide) (by decide +kernel) ?_
    refine j_runA hx 2 (tb := [(50, .iconst 0), (51, .lconst 0)]) (jtb_ok (by decide +kernel)) (pc' := 52) (lv' := [(0, vR t), (1, vI l1)]) (st' := [vL (kJ 0), vI (kI 0), vR (jR W4 1414 t)]) rfl ?_
    refine j_gd (fun h8 => ?_)
    refine j_last hx (f := 1414) (o := t) kd1414 rfl (by decide +kernel) h8 ?_
    refine j_ltw rfl (fun W9 hc10 => ?_)
    have h11 : jC W9 t = 14 := (congrFun hc10 _).trans h6
    refine j_runA hx 6 (tb := [(53, .iconst 0), (54, .istore_n 1), (55, .iconst 0), (56, .istore_n 2), (57, .iconst 1), (58, .istore_n 3)]) (jtb_ok (by decide +kernel)) (pc' := 59) (lv' := [(3, vI (kI 1)), (2, vI (kI 0)), (1, vI (kI 0)), (0, vR t)]) (st' := []) rfl ?_
    refine j_lv (lv' := [(0, vR t), (1, vI (kI 0)), (2, vI (kI 0)), (3, vI (kI 1))]) ⟨rfl, rfl, rfl, rfl, trivial⟩ ?_
    exact k59 (kI 0) (kI 0) (kI 1) W9
  refine j_runA hx 1 (tb := [(8, .aload_n 0)]) (jtb_ok (by decide +kernel)) (pc' := 9) (lv' := [(0, vR t), (1, vI l1)]) (st' := [vR t]) rfl ?_
  refine j_gd (fun h13 => ?_)
  refine j_getR hx flX9_38 kl1400 h13 (by decide) (by decide +kernel) ?_
  refine j_runA hx 1 (tb := [(12, .aload_n 0)]) (jtb_ok (by decide +kernel)) (pc' := 13) (lv' := [(0, vR t), (1, vI l1)]) (st' := [vR t, vR (jR W 1400 t)]) rfl ?_
  refine j_getL hx flX9_141 kd1405 h13 (by decide) (by decide +kernel) ?_
  refine j_runA hx 3 (tb := [(16, .l2i), (17, .iload_n 1), (18, .iadd)]) (jtb_ok (by decide +kernel)) (pc' := 19) (lv' := [(0, vR t), (1, vI l1)]) (st' := [vI (((jL W 1405 t).toInt32) + l1), vR (jR W 1400 t)]) rfl ?_
  refine j_gd (fun h14 => ?_)
  refine j_gd (fun h15 => ?_)
  refine j_bald hx (f := 9004) (o := (jR W 1400 t)) kd9004 h14 (by decide +kernel) h15 ?_
  refine j_if_eq hx (off := 13) (tgt := 33) (by decide +kernel) (by decide) (fun _ => ?_) (fun _ => ?_)
  · refine j_runA hx 1 (tb := [(33, .iinc 1 1)]) (jtb_ok (by decide +kernel)) (pc' := 36) (lv' := [(1, vI (l1 + (kI 1))), (0, vR t)]) (st' := []) rfl ?_
    refine j_let (v := (l1 + (kI 1))) (lv := fun v16 => [(1, vI v16), (0, vR t)]) (st := fun _ => []) (fun v16 => ?_)
    refine j_goto hx (off := -34) (by decide +kernel) (tgt := 2) (by decide) ?_
    refine j_lv (lv' := [(0, vR t), (1, vI v16)]) ⟨rfl, rfl, trivial⟩ ?_
    exact k2 v16 W
  refine j_runA hx 3 (tb := [(23, .aload_n 0), (24, .iconst 0), (25, .aload_n 0)]) (jtb_ok (by decide +kernel)) (pc' := 26) (lv' := [(0, vR t), (1, vI l1)]) (st' := [vR t, vI (kI 0), vR t]) rfl ?_
  refine j_getL hx flX9_141 kd1405 h13 (by decide) (by decide +kernel) ?_
  refine j_WI (j_callV (av := [vI (kI 0), vL (jL W 1405 t)]) (st := []) hx hr (Or.inl q2818) q2820 qs124 rfl md_fhd_is np_fhd_is (chd_is t (kI 0) (jL W 1405 t) W) (by decide) (Nat.le_of_ble_eq_true rfl) h13 (by decide) (by decide +kernel)) (fun q17 _ => ?_)
  refine j_gd (fun h19 => ?_)
  exact j_iret hx hm (by decide +kernel) (jzn h19) (he _)
theorem whd_hasSections {x : jCx} {en : (fhd_hasSections_S ⊕ (Int32 × jW)) → Option (Outcome × jW)} {t : Nat} (h : hhd_hasSections x en t) (W : jW) : jJ x 8 0 [(0, vR t)] [] W (fhd_hasSections_0 t W) en := by
  have h0 := h
  obtain ⟨hx, hm, hr, he, k2, k59, k315, k368, k460, k472⟩ := h0
  unfold fhd_hasSections_0
  refine j_runA hx 2 (tb := [(0, .iconst 0), (1, .istore_n 1)]) (jtb_ok (by decide +kernel)) (pc' := 2) (lv' := [(1, vI (kI 0)), (0, vR t)]) (st' := []) rfl ?_
  refine j_lv (lv' := [(0, vR t), (1, vI (kI 0))]) ⟨rfl, rfl, trivial⟩ ?_
  exact k2 (kI 0) W
theorem chd_hasSections (t : Nat) (W : jW) : jM yX9_hasSections cX9_hasSections 8 (Option.some Jvm.ClassFile.FieldType.boolean) [] 3 55 [vR t] W ((fhd_hasSections t W).bind (fun q => some (.returned (some (.int q.1)), q.2))) := by
  refine jM.of (Nat.le_of_ble_eq_true rfl) (fun x hx hm hr => ?_)
  refine j_begin (P := (Sum.elim (fun s => (2, [(0, vR t), (1, vI s.1)], s.2)) (Sum.elim (fun s => (59, [(0, vR t), (1, vI s.1), (2, vI s.2.1), (3, vI s.2.2.1)], s.2.2.2)) (Sum.elim (fun s => (315, [(0, vR t), (5, vI s.1)], s.2)) (Sum.elim (fun s => (368, [(0, vR t), (5, vI s.1)], s.2)) (Sum.elim (fun s => (460, [(0, vR t), (5, vI s.1)], s.2)) (fun s => (472, [(0, vR t), (5, vI s.1), (6, vI s.2.1)], s.2.2)))))))) (fun en he hk => ?_)
  have h : hhd_hasSections x en t := ⟨hx, hm, hr, fun q => he _, fun l1 W => hk (.inl (l1, W)), fun l1 l2 l3 W => hk (.inr (.inl (l1, l2, l3, W))), fun l5 W => hk (.inr (.inr (.inl (l5, W)))), fun l5 W => hk (.inr (.inr (.inr (.inl (l5, W))))), fun l5 W => hk (.inr (.inr (.inr (.inr (.inl (l5, W)))))), fun l5 l6 W => hk (.inr (.inr (.inr (.inr (.inr (l5, l6, W))))))⟩
  refine ⟨fun s => ?_, whd_hasSections h W⟩
  rcases s with s | s | s | s | s | s
  · exact whd_hasSections_2 h s.1 s.2
  · exact whd_hasSections_59 h s.1 s.2.1 s.2.2.1 s.2.2.2
  · exact whd_hasSections_315 h s.1 s.2
  · exact whd_hasSections_368 h s.1 s.2
  · exact whd_hasSections_460 h s.1 s.2
  · exact whd_hasSections_472 h s.1 s.2.1 s.2.2
def hhd_symbolCount (x : jCx) (en : (Int32) → Option (Outcome × jW)) (t : Nat) (W : jW) : Prop :=
  jOK x RX9 cX9_symbolCount 1 ∧
  jMt x "symbolCount" (Option.some Jvm.ClassFile.FieldType.int) [] ∧
  jRm x 0 0 ∧
  (∀ q : Int32, en q = some (.returned (some (.int q)), W))
theorem whd_symbolCount {x : jCx} {en : (Int32) → Option (Outcome × jW)} {W : jW} {t : Nat} (h : hhd_symbolCount x en t W) : jJ x 1 0 [(0, vR t)] [] W (fhd_symbolCount t W) en := by
  have h0 := h
  obtain ⟨hx, hm, hr, he⟩ := h0
  unfold fhd_symbolCount
  refine j_runA hx 1 (tb := [(0, .aload_n 0)]) (jtb_ok (by decide +kernel)) (pc' := 1) (lv' := [(0, vR t)]) (st' := [vR t]) rfl ?_
  refine j_gd (fun h1 => ?_)
  refine j_getR hx flX9_35 kl1414 h1 (by decide) (by decide +kernel) ?_
  refine j_runA hx 1 (tb := [(4, .aload_n 0)]) (jtb_ok (by decide +kernel)) (pc' := 5) (lv' := [(0, vR t)]) (st' := [vR t, vR (jR W 1414 t)]) rfl ?_
  refine j_getI hx flX9_160 kd1416 h1 (by decide) (by decide +kernel) ?_
  refine j_gd (fun h2 => ?_)
  refine j_lald hx (f := 1414) (o := t) kd1414 rfl (by decide +kernel) h2 ?_
  refine j_runA hx 2 (tb := [(9, .l2i), (10, .bipush 24)]) (jtb_ok (by decide +kernel)) (pc' := 12) (lv' := [(0, vR t)]) (st' := [vI (kI 24), vI ((jB W 1414 t (ix (jI W 1416 t))).toInt32)]) rfl ?_
  refine j_idiv hx (by decide +kernel) (by decide +kernel) ?_
  exact j_iret hx hm (by decide +kernel) rfl (he _)
theorem chd_symbolCount (t : Nat) (W : jW) : jM yX9_symbolCount cX9_symbolCount 1 (Option.some Jvm.ClassFile.FieldType.int) [] 0 0 [vR t] W ((fhd_symbolCount t W).bind (fun q => some (.returned (some (.int q)), W))) := 
  jM.of (Nat.le_of_ble_eq_true rfl) (fun x hx hm hr => whd_symbolCount ⟨hx, hm, hr, fun _ => rfl⟩)
def hhd_hasSymbols (x : jCx) (en : (fhd_hasSymbols_S ⊕ (Int32 × jW)) → Option (Outcome × jW)) (t : Nat) : Prop :=
  jOK x RX9 cX9_hasSymbols 11 ∧
  jMt x "hasSymbols" (Option.some Jvm.ClassFile.FieldType.boolean) [] ∧
  jRm x 1 19 ∧
  (∀ q : Int32 × jW, en (.inr q) = some (.returned (some (.int q.1)), q.2)) ∧
  (∀ (l1 : Int32) (W : jW), jJ x 11 2 [(0, vR t), (1, vI l1)] [] W (some (.inl (.inl (l1, W)))) en) ∧
  (∀ (l1 : Int64) (l3 : Int32) (W : jW), jJ x 11 75 [(0, vR t), (1, vL l1), (3, vI l3)] [] W (some (.inl (.inr (l1, l3, W)))) en)
theorem whd_hasSymbols_200 {x : jCx} {en : (fhd_hasSymbols_S ⊕ (Int32 × jW)) → Option (Outcome × jW)} {t : Nat} (h : hhd_hasSymbols x en t) (W : jW) : jJ x 11 200 [(0, vR t)] [] W (fhd_hasSymbols_200 t W) en := by
  have h0 := h
  obtain ⟨hx, hm, hr, he, k2, k75⟩ := h0
  unfold fhd_hasSymbols_200
  refine j_runA hx 1 (tb := [(200, .iconst 0)]) (jtb_ok (by decide +kernel)) (pc' := 201) (lv' := [(0, vR t)]) (st' := [vI (kI 0)]) rfl ?_
  exact j_iret hx hm (by decide +kernel) jz0n (he _)
theorem whd_hasSymbols_298 {x : jCx} {en : (fhd_hasSymbols_S ⊕ (Int32 × jW)) → Option (Outcome × jW)} {t : Nat} (h : hhd_hasSymbols x en t) (l1 : Int64) (l3 : Int32) (W : jW) : jJ x 11 298 [(0, vR t), (1, vL l1), (3, vI l3)] [] W (fhd_hasSymbols_298 t l1 l3 W) en := by
  have h0 := h
  obtain ⟨hx, hm, hr, he, k2, k75⟩ := h0
  unfold fhd_hasSymbols_298
  refine j_runA hx 1 (tb := [(298, .iinc 3 1)]) (jtb_ok (by decide +kernel)) (pc' := 301) (lv' := [(3, vI (l3 + (kI 1))), (0, vR t), (1, vL l1)]) (st' := []) rfl ?_
  refine j_let (v := (l3 + (kI 1))) (lv := fun v45 => [(3, vI v45), (0, vR t), (1, vL l1)]) (st := fun _ => []) (fun v45 => ?_)
  refine j_goto hx (off := -226) (by decide +kernel) (tgt := 75) (by decide) ?_
  refine j_lv (lv' := [(0, vR t), (1, vL l1), (3, vI v45)]) ⟨rfl, rfl, rfl, trivial⟩ ?_
  exact k75 l1 v45 W
theorem whd_hasSymbols_284 {x : jCx} {en : (fhd_hasSymbols_S ⊕ (Int32 × jW)) → Option (Outcome × jW)} {t : Nat} (h : hhd_hasSymbols x en t) (l1 : Int64) (l3 : Int32) (l4 : Int64) (s0 : Int32) (s1 : Nat) (W : jW) : jJ x 11 284 [(0, vR t), (1, vL l1), (3, vI l3), (4, vL l4)] [vI s0, vR s1] W (fhd_hasSymbols_284 t l1 l3 l4 s0 s1 W) en := by
  have h0 := h
  obtain ⟨hx, hm, hr, he, k2, k75⟩ := h0
  unfold fhd_hasSymbols_284
  refine j_runA hx 1 (tb := [(284, .lload 4)]) (jtb_ok (by decide +kernel)) (pc' := 286) (lv' := [(0, vR t), (1, vL l1), (3, vI l3), (4, vL l4)]) (st' := [vL l4, vI s0, vR s1]) rfl ?_
  refine j_ldc2 hx (v := (kJ 8)) (jkd2 q2829 (by decide +kernel)) (by decide +kernel) ?_
  refine j_runA hx 1 (tb := [(289, .ladd)]) (jtb_ok (by decide +kernel)) (pc' := 290) (lv' := [(0, vR t), (1, vL l1), (3, vI l3), (4, vL l4)]) (st' := [vL (l4 + (kJ 8)), vI s0, vR s1]) rfl ?_
  refine j_gd (fun h40 => ?_)
  refine j_WI (j_callV (av := [vI s0, vL (l4 + (kJ 8))]) (st := []) hx hr (Or.inl q2818) q2820 qs124 rfl md_fhd_is np_fhd_is (chd_is s1 s0 (l4 + (kJ 8)) W) (by decide) (Nat.le_of_ble_eq_true rfl) h40 (by decide) (by decide +kernel)) (fun q41 _ => ?_)
  refine j_if_ne hx (off := 5) (tgt := 298) (by decide +kernel) (by decide) (fun _ => ?_) (fun _ => ?_)
  · refine j_lv (lv' := [(0, vR t), (1, vL l1), (3, vI l3)]) ⟨rfl, rfl, rfl, trivial⟩ ?_
    exact whd_hasSymbols_298 h l1 l3 q41.2
  refine j_runA hx 1 (tb := [(296, .iconst 0)]) (jtb_ok (by decide +kernel)) (pc' := 297) (lv' := [(0, vR t), (1, vL l1), (3, vI l3), (4, vL l4)]) (st' := [vI (kI 0)]) rfl ?_
  exact j_iret hx hm (by decide +kernel) jz0n (he _)
theorem whd_hasSymbols_283 {x : jCx} {en : (fhd_hasSymbols_S ⊕ (Int32 × jW)) → Option (Outcome × jW)} {t : Nat} (h : hhd_hasSymbols x en t) (l1 : Int64) (l3 : Int32) (l4 : Int64) (s0 : Nat) (W : jW) : jJ x 11 283 [(0, vR t), (1, vL l1), (3, vI l3), (4, vL l4)] [vR s0] W (fhd_hasSymbols_283 t l1 l3 l4 s0 W) en := by
  have h0 := h
  obtain ⟨hx, hm, hr, he, k2, k75⟩ := h0
  unfold fhd_hasSymbols_283
  refine j_runA hx 1 (tb := [(283, .iconst 0)]) (jtb_ok (by decide +kernel)) (pc' := 284) (lv' := [(0, vR t), (1, vL l1), (3, vI l3), (4, vL l4)]) (st' := [vI (kI 0), vR s0]) rfl ?_
  exact whd_hasSymbols_284 h l1 l3 l4 (kI 0) s0 W
theorem whd_hasSymbols_177 {x : jCx} {en : (fhd_hasSymbols_S ⊕ (Int32 × jW)) → Option (Outcome × jW)} {t : Nat} (h : hhd_hasSymbols x en t) (l1 : Int64) (l3 : Int32) (l4 : Int64) (l6 : Int64) (l8 : Int32) (s0 : Int32) (s1 : Nat) (W : jW) : jJ x 11 177 [(0, vR t), (1, vL l1), (3, vI l3), (4, vL l4), (6, vL l6), (8, vI l8)] [vI s0, vR s1] W (fhd_hasSymbols_177 t l1 l3 l4 l6 l8 s0 s1 W) en := by
  have h0 := h
  obtain ⟨hx, hm, hr, he, k2, k75⟩ := h0
  unfold fhd_hasSymbols_177
  refine j_runA hx 1 (tb := [(177, .lload 4)]) (jtb_ok (by decide +kernel)) (pc' := 179) (lv' := [(0, vR t), (1, vL l1), (3, vI l3), (4, vL l4), (6, vL l6), (8, vI l8)]) (st' := [vL l4, vI s0, vR s1]) rfl ?_
  refine j_gd (fun h28 => ?_)
  refine j_WI (j_callV (av := [vI s0, vL l4]) (st := []) hx hr (Or.inl q2818) q2820 qs124 rfl md_fhd_is np_fhd_is (chd_is s1 s0 l4 W) (by decide) (Nat.le_of_ble_eq_true rfl) h28 (by decide) (by decide +kernel)) (fun q29 _ => ?_)
  refine j_if_eq hx (off := 18) (tgt := 200) (by decide +kernel) (by decide) (fun _ => ?_) (fun _ => ?_)
  · refine j_lv (lv' := [(0, vR t)]) ⟨rfl, trivial⟩ ?_
    exact whd_hasSymbols_200 h q29.2
  refine j_runA hx 3 (tb := [(185, .aload_n 0), (186, .iload 8), (188, .lload 4)]) (jtb_ok (by decide +kernel)) (pc' := 190) (lv' := [(0, vR t), (1, vL l1), (3, vI l3), (4, vL l4), (6, vL l6), (8, vI l8)]) (st' := [vL l4, vI l8, vR t]) rfl ?_
  refine j_ldc2 hx (v := (kJ 6)) (jkd2 q2874 (by decide +kernel)) (by decide +kernel) ?_
  refine j_runA hx 1 (tb := [(193, .ladd)]) (jtb_ok (by decide +kernel)) (pc' := 194) (lv' := [(0, vR t), (1, vL l1), (3, vI l3), (4, vL l4), (6, vL l6), (8, vI l8)]) (st' := [vL (l4 + (kJ 6)), vI l8, vR t]) rfl ?_
  refine j_gd (fun h31 => ?_)
  refine j_WI (j_callV (av := [vI l8, vL (l4 + (kJ 6))]) (st := []) hx hr (Or.inl q2818) q2820 qs124 rfl md_fhd_is np_fhd_is (chd_is t l8 (l4 + (kJ 6)) q29.2) (by decide) (Nat.le_of_ble_eq_true rfl) h31 (by decide) (by decide +kernel)) (fun q32 _ => ?_)
  refine j_if_ne hx (off := 5) (tgt := 202) (by decide +kernel) (by decide) (fun _ => ?_) (fun _ => ?_)
  · refine j_runA hx 2 (tb := [(202, .aload_n 0), (203, .lload 4)]) (jtb_ok (by decide +kernel)) (pc' := 205) (lv' := [(0, vR t), (1, vL l1), (3, vI l3), (4, vL l4), (6, vL l6), (8, vI l8)]) (st' := [vL l4, vR t]) rfl ?_
    refine j_ldc2 hx (v := (kJ 8)) (jkd2 q2829 (by decide +kernel)) (by decide +kernel) ?_
    refine j_runA hx 2 (tb := [(208, .ladd), (209, .bipush 8)]) (jtb_ok (by decide +kernel)) (pc' := 211) (lv' := [(0, vR t), (1, vL l1), (3, vI l3), (4, vL l4), (6, vL l6), (8, vI l8)]) (st' := [vI (kI 8), vL (l4 + (kJ 8)), vR t]) rfl ?_
    refine j_gd (fun h34 => ?_)
    refine j_OL (j_callV (av := [vL (l4 + (kJ 8)), vI (kI 8)]) (st := []) hx hr (Or.inl q2822) q2823 q2824 rfl md_fhd_num np_fhd_num (chd_num t (l4 + (kJ 8)) (kI 8) q32.2) (by decide) (Nat.le_of_ble_eq_true rfl) h34 (by decide) (by decide +kernel)) (fun q35 _ => ?_)
    refine j_runA hx 3 (tb := [(214, .lstore 9), (216, .lload 6), (218, .aload_n 0)]) (jtb_ok (by decide +kernel)) (pc' := 219) (lv' := [(9, vL q35), (0, vR t), (1, vL l1), (3, vI l3), (4, vL l4), (6, vL l6), (8, vI l8)]) (st' := [vR t, vL l6]) rfl ?_
    refine j_getI hx flX9_80 kd1415 h34 (by decide) (by decide +kernel) ?_
    refine j_runA hx 1 (tb := [(222, .i2l)]) (jtb_ok (by decide +kernel)) (pc' := 223) (lv' := [(9, vL q35), (0, vR t), (1, vL l1), (3, vI l3), (4, vL l4), (6, vL l6), (8, vI l8)]) (st' := [vL ((jI q32.2 1415 t).toInt64), vL l6]) rfl ?_
    refine j_lcmp_ne hx (off := 74) (tgt := 298) (by decide +kernel) (by decide +kernel) (by decide) (fun _ => ?_) (fun _ => ?_)
    · refine j_lv (lv' := [(0, vR t), (1, vL l1), (3, vI l3)]) ⟨rfl, rfl, rfl, trivial⟩ ?_
      exact whd_hasSymbols_298 h l1 l3 q32.2
    refine j_runA hx 2 (tb := [(227, .aload_n 0), (228, .lload 9)]) (jtb_ok (by decide +kernel)) (pc' := 230) (lv' := [(9, vL q35), (0, vR t), (1, vL l1), (3, vI l3), (4, vL l4), (6, vL l6), (8, vI l8)]) (st' := [vL q35, vR t]) rfl ?_
    refine j_ldc2 hx (v := (kJ 4)) (jkd2 q2827 (by decide +kernel)) (by decide +kernel) ?_
    refine j_lrem hx (by decide +kernel) (by decide +kernel) ?_
    refine j_runA hx 1 (tb := [(234, .lconst 0)]) (jtb_ok (by decide +kernel)) (pc' := 235) (lv' := [(9, vL q35), (0, vR t), (1, vL l1), (3, vI l3), (4, vL l4), (6, vL l6), (8, vI l8)]) (st' := [vL (kJ 0), vL (lrm q35 (kJ 4)), vR t]) rfl ?_
    refine j_lcmp_ne hx (off := 47) (tgt := 283) (by decide +kernel) (by decide +kernel) (by decide) (fun _ => ?_) (fun _ => ?_)
    · refine j_lv (lv' := [(0, vR t), (1, vL l1), (3, vI l3), (4, vL l4)]) ⟨rfl, rfl, rfl, rfl, trivial⟩ ?_
      exact whd_hasSymbols_283 h l1 l3 l4 t q32.2
    refine j_runA hx 2 (tb := [(239, .lload 9), (241, .aload_n 0)]) (jtb_ok (by decide +kernel)) (pc' := 242) (lv' := [(9, vL q35), (0, vR t), (1, vL l1), (3, vI l3), (4, vL l4), (6, vL l6), (8, vI l8)]) (st' := [vR t, vL q35, vR t]) rfl ?_
    refine j_getR hx flX9_32 kl1413 h34 (by decide) (by decide +kernel) ?_
    refine j_runA hx 1 (tb := [(245, .aload_n 0)]) (jtb_ok (by decide +kernel)) (pc' := 246) (lv' := [(9, vL q35), (0, vR t), (1, vL l1), (3, vI l3), (4, vL l4), (6, vL l6), (8, vI l8)]) (st' := [vR t, vR (jR q32.2 1413 t), vL q35, vR t]) rfl ?_
    refine j_getI hx flX9_80 kd1415 h34 (by decide) (by decide +kernel) ?_
    refine j_gd (fun h36 => ?_)
    refine j_lald hx (f := 1413) (o := t) kd1413 rfl (by decide +kernel) h36 ?_
    refine j_lcmp_lt hx (off := 32) (tgt := 283) (by decide +kernel) (by decide +kernel) (by decide) (fun _ => ?_) (fun _ => ?_)
    · refine j_lv (lv' := [(0, vR t), (1, vL l1), (3, vI l3), (4, vL l4)]) ⟨rfl, rfl, rfl, rfl, trivial⟩ ?_
      exact whd_hasSymbols_283 h l1 l3 l4 t q32.2
    refine j_runA hx 2 (tb := [(254, .lload 9), (256, .aload_n 0)]) (jtb_ok (by decide +kernel)) (pc' := 257) (lv' := [(9, vL q35), (0, vR t), (1, vL l1), (3, vI l3), (4, vL l4), (6, vL l6), (8, vI l8)]) (st' := [vR t, vL q35, vR t]) rfl ?_
    refine j_getR hx flX9_32 kl1413 h34 (by decide) (by decide +kernel) ?_
    refine j_runA hx 1 (tb := [(260, .aload_n 0)]) (jtb_ok (by decide +kernel)) (pc' := 261) (lv' := [(9, vL q35), (0, vR t), (1, vL l1), (3, vI l3), (4, vL l4), (6, vL l6), (8, vI l8)]) (st' := [vR t, vR (jR q32.2 1413 t), vL q35, vR t]) rfl ?_
    refine j_getI hx flX9_80 kd1415 h34 (by decide) (by decide +kernel) ?_
    refine j_gd (fun h37 => ?_)
    refine j_lald hx (f := 1413) (o := t) kd1413 rfl (by decide +kernel) h37 ?_
    refine j_runA hx 1 (tb := [(265, .aload_n 0)]) (jtb_ok (by decide +kernel)) (pc' := 266) (lv' := [(9, vL q35), (0, vR t), (1, vL l1), (3, vI l3), (4, vL l4), (6, vL l6), (8, vI l8)]) (st' := [vR t, vL (jB q32.2 1413 t (ix (jI q32.2 1415 t))), vL q35, vR t]) rfl ?_
    refine j_getR hx flX9_35 kl1414 h34 (by decide) (by decide +kernel) ?_
    refine j_runA hx 1 (tb := [(269, .aload_n 0)]) (jtb_ok (by decide +kernel)) (pc' := 270) (lv' := [(9, vL q35), (0, vR t), (1, vL l1), (3, vI l3), (4, vL l4), (6, vL l6), (8, vI l8)]) (st' := [vR t, vR (jR q32.2 1414 t), vL (jB q32.2 1413 t (ix (jI q32.2 1415 t))), vL q35, vR t]) rfl ?_
    refine j_getI hx flX9_80 kd1415 h34 (by decide) (by decide +kernel) ?_
    refine j_gd (fun h38 => ?_)
    refine j_lald hx (f := 1414) (o := t) kd1414 rfl (by decide +kernel) h38 ?_
    refine j_runA hx 1 (tb := [(274, .ladd)]) (jtb_ok (by decide +kernel)) (pc' := 275) (lv' := [(9, vL q35), (0, vR t), (1, vL l1), (3, vI l3), (4, vL l4), (6, vL l6), (8, vI l8)]) (st' := [vL ((jB q32.2 1413 t (ix (jI q32.2 1415 t))) + (jB q32.2 1414 t (ix (jI q32.2 1415 t)))), vL q35, vR t]) rfl ?_
    refine j_lcmp_gt hx (off := 7) (tgt := 283) (by decide +kernel) (by decide +kernel) (by decide) (fun _ => ?_) (fun _ => ?_)
    · refine j_lv (lv' := [(0, vR t), (1, vL l1), (3, vI l3), (4, vL l4)]) ⟨rfl, rfl, rfl, rfl, trivial⟩ ?_
      exact whd_hasSymbols_283 h l1 l3 l4 t q32.2
    refine j_runA hx 1 (tb := [(279, .iconst 1)]) (jtb_ok (by decide +kernel)) (pc' := 280) (lv' := [(9, vL q35), (0, vR t), (1, vL l1), (3, vI l3), (4, vL l4), (6, vL l6), (8, vI l8)]) (st' := [vI (kI 1), vR t]) rfl ?_
    refine j_goto hx (off := 4) (by decide +kernel) (tgt := 284) (by decide) ?_
    refine j_lv (lv' := [(0, vR t), (1, vL l1), (3, vI l3), (4, vL l4)]) ⟨rfl, rfl, rfl, rfl, trivial⟩ ?_
    exact whd_hasSymbols_284 h l1 l3 l4 (kI 1) t q32.2
  refine j_lv (lv' := [(0, vR t)]) ⟨rfl, trivial⟩ ?_
  exact whd_hasSymbols_200 h q32.2
theorem whd_hasSymbols_157 {x : jCx} {en : (fhd_hasSymbols_S ⊕ (Int32 × jW)) → Option (Outcome × jW)} {t : Nat} (h : hhd_hasSymbols x en t) (l1 : Int64) (l3 : Int32) (l4 : Int64) (l6 : Int64) (s0 : Int32) (W : jW) : jJ x 11 157 [(0, vR t), (1, vL l1), (3, vI l3), (4, vL l4), (6, vL l6)] [vI s0] W (fhd_hasSymbols_157 t l1 l3 l4 l6 s0 W) en := by
  have h0 := h
  obtain ⟨hx, hm, hr, he, k2, k75⟩ := h0
  unfold fhd_hasSymbols_157
  refine j_runA hx 5 (tb := [(157, .istore 8), (159, .aload_n 0), (160, .aload_n 0), (161, .lload 4), (163, .iconst 4)]) (jtb_ok (by decide +kernel)) (pc' := 164) (lv' := [(8, vI s0), (0, vR t), (1, vL l1), (3, vI l3), (4, vL l4), (6, vL l6)]) (st' := [vI (kI 4), vL l4, vR t, vR t]) rfl ?_
  refine j_gd (fun h25 => ?_)
  refine j_OL (j_callV (av := [vL l4, vI (kI 4)]) (st := [vR t]) hx hr (Or.inl q2822) q2823 q2824 rfl md_fhd_num np_fhd_num (chd_num t l4 (kI 4) W) (by decide) (Nat.le_of_ble_eq_true rfl) h25 (by decide) (by decide +kernel)) (fun q26 _ => ?_)
  refine j_runA hx 1 (tb := [(167, .lload_n 1)]) (jtb_ok (by decide +kernel)) (pc' := 168) (lv' := [(8, vI s0), (0, vR t), (1, vL l1), (3, vI l3), (4, vL l4), (6, vL l6)]) (st' := [vL l1, vL q26, vR t]) rfl ?_
  refine j_lcmp_ge hx (off := 7) (tgt := 176) (by decide +kernel) (by decide +kernel) (by decide) (fun _ => ?_) (fun _ => ?_)
  · refine j_runA hx 1 (tb := [(176, .iconst 0)]) (jtb_ok (by decide +kernel)) (pc' := 177) (lv' := [(8, vI s0), (0, vR t), (1, vL l1), (3, vI l3), (4, vL l4), (6, vL l6)]) (st' := [vI (kI 0), vR t]) rfl ?_
    refine j_lv (lv' := [(0, vR t), (1, vL l1), (3, vI l3), (4, vL l4), (6, vL l6), (8, vI s0)]) ⟨rfl, rfl, rfl, rfl, rfl, rfl, trivial⟩ ?_
    exact whd_hasSymbols_177 h l1 l3 l4 l6 s0 (kI 0) t W
  refine j_runA hx 1 (tb := [(172, .iconst 1)]) (jtb_ok (by decide +kernel)) (pc' := 173) (lv' := [(8, vI s0), (0, vR t), (1, vL l1), (3, vI l3), (4, vL l4), (6, vL l6)]) (st' := [vI (kI 1), vR t]) rfl ?_
  refine j_goto hx (off := 4) (by decide +kernel) (tgt := 177) (by decide) ?_
  refine j_lv (lv' := [(0, vR t), (1, vL l1), (3, vI l3), (4, vL l4), (6, vL l6), (8, vI s0)]) ⟨rfl, rfl, rfl, rfl, rfl, rfl, trivial⟩ ?_
  exact whd_hasSymbols_177 h l1 l3 l4 l6 s0 (kI 1) t W
theorem whd_hasSymbols_152 {x : jCx} {en : (fhd_hasSymbols_S ⊕ (Int32 × jW)) → Option (Outcome × jW)} {t : Nat} (h : hhd_hasSymbols x en t) (l1 : Int64) (l3 : Int32) (l4 : Int64) (l6 : Int64) (W : jW) : jJ x 11 152 [(0, vR t), (1, vL l1), (3, vI l3), (4, vL l4), (6, vL l6)] [] W (fhd_hasSymbols_152 t l1 l3 l4 l6 W) en := by
  have h0 := h
  obtain ⟨hx, hm, hr, he, k2, k75⟩ := h0
  unfold fhd_hasSymbols_152
  refine j_runA hx 1 (tb := [(152, .iconst 1)]) (jtb_ok (by decide +kernel)) (pc' := 153) (lv' := [(0, vR t), (1, vL l1), (3, vI l3), (4, vL l4), (6, vL l6)]) (st' := [vI (kI 1)]) rfl ?_
  refine j_goto hx (off := 4) (by decide +kernel) (tgt := 157) (by decide) ?_
  exact whd_hasSymbols_157 h l1 l3 l4 l6 (kI 1) W
theorem whd_hasSymbols_156 {x : jCx} {en : (fhd_hasSymbols_S ⊕ (Int32 × jW)) → Option (Outcome × jW)} {t : Nat} (h : hhd_hasSymbols x en t) (l1 : Int64) (l3 : Int32) (l4 : Int64) (l6 : Int64) (W : jW) : jJ x 11 156 [(0, vR t), (1, vL l1), (3, vI l3), (4, vL l4), (6, vL l6)] [] W (fhd_hasSymbols_156 t l1 l3 l4 l6 W) en := by
  have h0 := h
  obtain ⟨hx, hm, hr, he, k2, k75⟩ := h0
  unfold fhd_hasSymbols_156
  refine j_runA hx 1 (tb := [(156, .iconst 0)]) (jtb_ok (by decide +kernel)) (pc' := 157) (lv' := [(0, vR t), (1, vL l1), (3, vI l3), (4, vL l4), (6, vL l6)]) (st' := [vI (kI 0)]) rfl ?_
  exact whd_hasSymbols_157 h l1 l3 l4 l6 (kI 0) W
theorem whd_hasSymbols_75 {x : jCx} {en : (fhd_hasSymbols_S ⊕ (Int32 × jW)) → Option (Outcome × jW)} {t : Nat} (h : hhd_hasSymbols x en t) (l1 : Int64) (l3 : Int32) (W : jW) : jJ x 11 75 [(0, vR t), (1, vL l1), (3, vI l3)] [] W (fhd_hasSymbols_75 t l1 l3 W) en := by
  have h0 := h
  obtain ⟨hx, hm, hr, he, k2, k75⟩ := h0
  unfold fhd_hasSymbols_75
  refine j_runA hx 2 (tb := [(75, .iload_n 3), (76, .aload_n 0)]) (jtb_ok (by decide +kernel)) (pc' := 77) (lv' := [(0, vR t), (1, vL l1), (3, vI l3)]) (st' := [vR t, vI l3]) rfl ?_
  refine j_gd (fun h17 => ?_)
  refine j_OI (j_callV (av := []) (st := [vI l3]) hx hr (Or.inl q2893) q2894 q2895 rfl md_fhd_symbolCount np_fhd_symbolCount (chd_symbolCount t W) (by decide) (Nat.le_of_ble_eq_true rfl) h17 (by decide) (by decide +kernel)) (fun q18 _ => ?_)
  refine j_icmp_ge hx (off := 224) (tgt := 304) (by decide +kernel) (by decide) (fun _ => ?_) (fun _ => ?_)
  · refine j_runA hx 1 (tb := [(304, .iconst 1)]) (jtb_ok (by decide +kernel)) (pc' := 305) (lv' := [(0, vR t), (1, vL l1), (3, vI l3)]) (st' := [vI (kI 1)]) rfl ?_
    exact j_iret hx hm (by decide +kernel) jz1n (he _)
  refine j_runA hx 2 (tb := [(83, .aload_n 0), (84, .iload_n 3)]) (jtb_ok (by decide +kernel)) (pc' := 85) (lv' := [(0, vR t), (1, vL l1), (3, vI l3)]) (st' := [vI l3, vR t]) rfl ?_
  refine j_OL (j_callV (av := [vI l3]) (st := []) hx hr (Or.inl q2897) q2898 q2899 rfl md_fhd_symbol np_fhd_symbol (chd_symbol t l3 W) (by decide) (Nat.le_of_ble_eq_true rfl) h17 (by decide) (by decide +kernel)) (fun q19 _ => ?_)
  refine j_runA hx 3 (tb := [(88, .lstore 4), (90, .aload_n 0), (91, .lload 4)]) (jtb_ok (by decide +kernel)) (pc' := 93) (lv' := [(4, vL q19), (0, vR t), (1, vL l1), (3, vI l3)]) (st' := [vL q19, vR t]) rfl ?_
  refine j_ldc2 hx (v := (kJ 6)) (jkd2 q2874 (by decide +kernel)) (by decide +kernel) ?_
  refine j_runA hx 2 (tb := [(96, .ladd), (97, .iconst 2)]) (jtb_ok (by decide +kernel)) (pc' := 98) (lv' := [(4, vL q19), (0, vR t), (1, vL l1), (3, vI l3)]) (st' := [vI (kI 2), vL (q19 + (kJ 6)), vR t]) rfl ?_
  refine j_OL (j_callV (av := [vL (q19 + (kJ 6)), vI (kI 2)]) (st := []) hx hr (Or.inl q2822) q2823 q2824 rfl md_fhd_num np_fhd_num (chd_num t (q19 + (kJ 6)) (kI 2) W) (by decide) (Nat.le_of_ble_eq_true rfl) h17 (by decide) (by decide +kernel)) (fun q20 _ => ?_)
  refine j_runA hx 3 (tb := [(101, .lstore 6), (103, .lload 6), (105, .lconst 0)]) (jtb_ok (by decide +kernel)) (pc' := 106) (lv' := [(6, vL q20), (4, vL q19), (0, vR t), (1, vL l1), (3, vI l3)]) (st' := [vL (kJ 0), vL q20]) rfl ?_
  refine j_lcmp_eq hx (off := 45) (tgt := 152) (by decide +kernel) (by decide +kernel) (by decide) (fun _ => ?_) (fun _ => ?_)
  · refine j_lv (lv' := [(0, vR t), (1, vL l1), (3, vI l3), (4, vL q19), (6, vL q20)]) ⟨rfl, rfl, rfl, rfl, rfl, trivial⟩ ?_
    exact whd_hasSymbols_152 h l1 l3 q19 q20 W
  refine j_runA hx 1 (tb := [(110, .lload 6)]) (jtb_ok (by decide +kernel)) (pc' := 112) (lv' := [(6, vL q20), (4, vL q19), (0, vR t), (1, vL l1), (3, vI l3)]) (st' := [vL q20]) rfl ?_
  refine j_ldc2 hx (v := (kJ 65521)) (jkd2 q2901 (by decide +kernel)) (by decide +kernel) ?_
  refine j_lcmp_eq hx (off := 36) (tgt := 152) (by decide +kernel) (by decide +kernel) (by decide) (fun _ => ?_) (fun _ => ?_)
  · refine j_lv (lv' := [(0, vR t), (1, vL l1), (3, vI l3), (4, vL q19), (6, vL q20)]) ⟨rfl, rfl, rfl, rfl, rfl, trivial⟩ ?_
    exact whd_hasSymbols_152 h l1 l3 q19 q20 W
  refine j_runA hx 2 (tb := [(119, .lload 6), (121, .aload_n 0)]) (jtb_ok (by decide +kernel)) (pc' := 122) (lv' := [(6, vL q20), (4, vL q19), (0, vR t), (1, vL l1), (3, vI l3)]) (st' := [vR t, vL q20]) rfl ?_
  refine j_getI hx flX9_126 kd1403 h17 (by decide) (by decide +kernel) ?_
  refine j_runA hx 1 (tb := [(125, .i2l)]) (jtb_ok (by decide +kernel)) (pc' := 126) (lv' := [(6, vL q20), (4, vL q19), (0, vR t), (1, vL l1), (3, vI l3)]) (st' := [vL ((jI W 1403 t).toInt64), vL q20]) rfl ?_
  refine j_lcmp_ge hx (off := 29) (tgt := 156) (by decide +kernel) (by decide +kernel) (by decide) (fun _ => ?_) (fun _ => ?_)
  · refine j_lv (lv' := [(0, vR t), (1, vL l1), (3, vI l3), (4, vL q19), (6, vL q20)]) ⟨rfl, rfl, rfl, rfl, rfl, trivial⟩ ?_
    exact whd_hasSymbols_156 h l1 l3 q19 q20 W
  refine j_runA hx 3 (tb := [(130, .aload_n 0), (131, .lload 6), (133, .l2i)]) (jtb_ok (by decide +kernel)) (pc' := 134) (lv' := [(6, vL q20), (4, vL q19), (0, vR t), (1, vL l1), (3, vI l3)]) (st' := [vI q20.toInt32, vR t]) rfl ?_
  refine j_OI (j_callV (av := [vI q20.toInt32]) (st := []) hx hr (Or.inl q2877) q2878 q2879 rfl md_fhd_what np_fhd_what (chd_what t q20.toInt32 W) (by decide) (Nat.le_of_ble_eq_true rfl) h17 (by decide) (by decide +kernel)) (fun q21 _ => ?_)
  refine j_runA hx 1 (tb := [(137, .iconst 1)]) (jtb_ok (by decide +kernel)) (pc' := 138) (lv' := [(6, vL q20), (4, vL q19), (0, vR t), (1, vL l1), (3, vI l3)]) (st' := [vI (kI 1), vI q21]) rfl ?_
  refine j_icmp_eq hx (off := 14) (tgt := 152) (by decide +kernel) (by decide) (fun _ => ?_) (fun _ => ?_)
  · refine j_lv (lv' := [(0, vR t), (1, vL l1), (3, vI l3), (4, vL q19), (6, vL q20)]) ⟨rfl, rfl, rfl, rfl, rfl, trivial⟩ ?_
    exact whd_hasSymbols_152 h l1 l3 q19 q20 W
  refine j_runA hx 3 (tb := [(141, .aload_n 0), (142, .lload 6), (144, .l2i)]) (jtb_ok (by decide +kernel)) (pc' := 145) (lv' := [(6, vL q20), (4, vL q19), (0, vR t), (1, vL l1), (3, vI l3)]) (st' := [vI q20.toInt32, vR t]) rfl ?_
  refine j_OI (j_callV (av := [vI q20.toInt32]) (st := []) hx hr (Or.inl q2877) q2878 q2879 rfl md_fhd_what np_fhd_what (chd_what t q20.toInt32 W) (by decide) (Nat.le_of_ble_eq_true rfl) h17 (by decide) (by decide +kernel)) (fun q22 _ => ?_)
  refine j_runA hx 1 (tb := [(148, .iconst 5)]) (jtb_ok (by decide +kernel)) (pc' := 149) (lv' := [(6, vL q20), (4, vL q19), (0, vR t), (1, vL l1), (3, vI l3)]) (st' := [vI (kI 5), vI q22]) rfl ?_
  refine j_icmp_ne hx (off := 7) (tgt := 156) (by decide +kernel) (by decide) (fun _ => ?_) (fun _ => ?_)
  · refine j_lv (lv' := [(0, vR t), (1, vL l1), (3, vI l3), (4, vL q19), (6, vL q20)]) ⟨rfl, rfl, rfl, rfl, rfl, trivial⟩ ?_
    exact whd_hasSymbols_156 h l1 l3 q19 q20 W
  refine j_lv (lv' := [(0, vR t), (1, vL l1), (3, vI l3), (4, vL q19), (6, vL q20)]) ⟨rfl, rfl, rfl, rfl, rfl, trivial⟩ ?_
  exact whd_hasSymbols_152 h l1 l3 q19 q20 W
theorem whd_hasSymbols_2 {x : jCx} {en : (fhd_hasSymbols_S ⊕ (Int32 × jW)) → Option (Outcome × jW)} {t : Nat} (h : hhd_hasSymbols x en t) (l1 : Int32) (W : jW) : jJ x 11 2 [(0, vR t), (1, vI l1)] [] W (fhd_hasSymbols_2 t l1 W) en := by
  have h0 := h
  obtain ⟨hx, hm, hr, he, k2, k75⟩ := h0
  unfold fhd_hasSymbols_2
  refine j_runA hx 2 (tb := [(2, .iload_n 1), (3, .bipush 24)]) (jtb_ok (by decide +kernel)) (pc' := 5) (lv' := [(0, vR t), (1, vI l1)]) (st' := [vI (kI 24), vI l1]) rfl ?_
  refine j_icmp_ge hx (off := 44) (tgt := 49) (by decide +kernel) (by decide) (fun _ => ?_) (fun _ => ?_)
  · refine j_runA hx 1 (tb := [(49, .aload_n 0)]) (jtb_ok (by decide +kernel)) (pc' := 50) (lv' := [(0, vR t), (1, vI l1)]) (st' := [vR t]) rfl ?_
    refine j_gd (fun h2 => ?_)
    refine j_getR hx flX9_35 kl1414 h2 (by decide) (by decide +kernel) ?_
    refine j_runA hx 3 (tb := [(53, .aload_n 0), (54, .aload_n 0), (55, .aload_n 0)]) (jtb_ok (by decide +kernel)) (pc' := 56) (lv' := [(0, vR t), (1, vI l1)]) (st' := [vR t, vR t, vR t, vR (jR W 1414 t)]) rfl ?_
    refine j_getI hx flX9_160 kd1416 h2 (by decide) (by decide +kernel) ?_
    refine j_OI (j_callV (av := [vI (jI W 1416 t)]) (st := [vR t, vR (jR W 1414 t)]) hx hr (Or.inl q2870) q2872 qs129 rfl md_fhd_head np_fhd_head (chd_head t (jI W 1416 t) W) (by decide) (Nat.le_of_ble_eq_true rfl) h2 (by decide) (by decide +kernel)) (fun q3 _ => ?_)
    refine j_runA hx 4 (tb := [(62, .bipush 40), (64, .iadd), (65, .i2l), (66, .iconst 4)]) (jtb_ok (by decide +kernel)) (pc' := 67) (lv' := [(0, vR t), (1, vI l1)]) (st' := [vI (kI 4), vL ((q3 + (kI 40)).toInt64), vR t, vR (jR W 1414 t)]) rfl ?_
    refine j_OL (j_callV (av := [vL ((q3 + (kI 40)).toInt64), vI (kI 4)]) (st := [vR (jR W 1414 t)]) hx hr (Or.inl q2822) q2823 q2824 rfl md_fhd_num np_fhd_num (chd_num t ((q3 + (kI 40)).toInt64) (kI 4) W) (by decide) (Nat.le_of_ble_eq_true rfl) h2 (by decide) (by decide +kernel)) (fun q4 _ => ?_)
    refine j_runA hx 1 (tb := [(70, .l2i)]) (jtb_ok (by decide +kernel)) (pc' := 71) (lv' := [(0, vR t), (1, vI l1)]) (st' := [vI q4.toInt32, vR (jR W 1414 t)]) rfl ?_
    refine j_gd (fun h5 => ?_)
    refine j_lald hx (f := 1414) (o := t) kd1414 rfl (by decide +kernel) h5 ?_
    refine j_runA hx 1 (tb := [(72, .lstore_n 1)]) (jtb_ok (by decide +kernel)) (pc' := 73) (lv' := [(1, vL (jB W 1414 t (ix q4.toInt32))), (0, vR t)]) (st' := []) rfl ?_
    refine j_let (v := (jB W 1414 t (ix q4.toInt32))) (lv := fun v6 => [(1, vL v6), (0, vR t)]) (st := fun _ => []) (fun v6 => ?_)
    refine j_runA hx 2 (tb := [(73, .iconst 1), (74, .istore_n 3)]) (jtb_ok (by decide +kernel)) (pc' := 75) (lv' := [(3, vI (kI 1)), (1, vL v6), (0, vR t)]) (st' := []) rfl ?_
    refine j_lv (lv' := [(0, vR t), (1, vL v6), (3, vI (kI 1))]) ⟨rfl, rfl, rfl, trivial⟩ ?_
    exact k75 v6 (kI 1) W
  refine j_runA hx 1 (tb := [(8, .aload_n 0)]) (jtb_ok (by decide +kernel)) (pc' := 9) (lv' := [(0, vR t), (1, vI l1)]) (st' := [vR t]) rfl ?_
  refine j_gd (fun h7 => ?_)
  refine j_getR hx flX9_38 kl1400 h7 (by decide) (by decide +kernel) ?_
  refine j_runA hx 1 (tb := [(12, .aload_n 0)]) (jtb_ok (by decide +kernel)) (pc' := 13) (lv' := [(0, vR t), (1, vI l1)]) (st' := [vR t, vR (jR W 1400 t)]) rfl ?_
  refine j_getR hx flX9_29 kl1412 h7 (by decide) (by decide +kernel) ?_
  refine j_runA hx 1 (tb := [(16, .aload_n 0)]) (jtb_ok (by decide +kernel)) (pc' := 17) (lv' := [(0, vR t), (1, vI l1)]) (st' := [vR t, vR (jR W 1412 t), vR (jR W 1400 t)]) rfl ?_
  refine j_getI hx flX9_160 kd1416 h7 (by decide) (by decide +kernel) ?_
  refine j_gd (fun h8 => ?_)
  refine j_lald hx (f := 1412) (o := t) kd1412 rfl (by decide +kernel) h8 ?_
  refine j_runA hx 3 (tb := [(21, .l2i), (22, .iload_n 1), (23, .iadd)]) (jtb_ok (by decide +kernel)) (pc' := 24) (lv' := [(0, vR t), (1, vI l1)]) (st' := [vI (((jB W 1412 t (ix (jI W 1416 t))).toInt32) + l1), vR (jR W 1400 t)]) rfl ?_
  refine j_gd (fun h9 => ?_)
  refine j_gd (fun h10 => ?_)
  refine j_bald hx (f := 9004) (o := (jR W 1400 t)) kd9004 h9 (by decide +kernel) h10 ?_
  refine j_if_eq hx (off := 18) (tgt := 43) (by decide +kernel) (by decide) (fun _ => ?_) (fun _ => ?_)
  · refine j_runA hx 1 (tb := [(43, .iinc 1 1)]) (jtb_ok (by decide +kernel)) (pc' := 46) (lv' := [(1, vI (l1 + (kI 1))), (0, vR t)]) (st' := []) rfl ?_
    refine j_let (v := (l1 + (kI 1))) (lv := fun v11 => [(1, vI v11), (0, vR t)]) (st := fun _ => []) (fun v11 => ?_)
    refine j_goto hx (off := -44) (by decide +kernel) (tgt := 2) (by decide) ?_
    refine j_lv (lv' := [(0, vR t), (1, vI v11)]) ⟨rfl, rfl, trivial⟩ ?_
    exact k2 v11 W
  refine j_runA hx 3 (tb := [(28, .aload_n 0), (29, .iconst 0), (30, .aload_n 0)]) (jtb_ok (by decide +kernel)) (pc' := 31) (lv' := [(0, vR t), (1, vI l1)]) (st' := [vR t, vI (kI 0), vR t]) rfl ?_
  refine j_getR hx flX9_29 kl1412 h7 (by decide) (by decide +kernel) ?_
  refine j_runA hx 1 (tb := [(34, .aload_n 0)]) (jtb_ok (by decide +kernel)) (pc' := 35) (lv' := [(0, vR t), (1, vI l1)]) (st' := [vR t, vR (jR W 1412 t), vI (kI 0), vR t]) rfl ?_
  refine j_getI hx flX9_160 kd1416 h7 (by decide) (by decide +kernel) ?_
  refine j_gd (fun h12 => ?_)
  refine j_lald hx (f := 1412) (o := t) kd1412 rfl (by decide +kernel) h12 ?_
  refine j_WI (j_callV (av := [vI (kI 0), vL (jB W 1412 t (ix (jI W 1416 t)))]) (st := []) hx hr (Or.inl q2818) q2820 qs124 rfl md_fhd_is np_fhd_is (chd_is t (kI 0) (jB W 1412 t (ix (jI W 1416 t))) W) (by decide) (Nat.le_of_ble_eq_true rfl) h7 (by decide) (by decide +kernel)) (fun q13 _ => ?_)
  refine j_gd (fun h15 => ?_)
  exact j_iret hx hm (by decide +kernel) (jzn h15) (he _)
theorem whd_hasSymbols {x : jCx} {en : (fhd_hasSymbols_S ⊕ (Int32 × jW)) → Option (Outcome × jW)} {t : Nat} (h : hhd_hasSymbols x en t) (W : jW) : jJ x 11 0 [(0, vR t)] [] W (fhd_hasSymbols_0 t W) en := by
  have h0 := h
  obtain ⟨hx, hm, hr, he, k2, k75⟩ := h0
  unfold fhd_hasSymbols_0
  refine j_runA hx 2 (tb := [(0, .iconst 0), (1, .istore_n 1)]) (jtb_ok (by decide +kernel)) (pc' := 2) (lv' := [(1, vI (kI 0)), (0, vR t)]) (st' := []) rfl ?_
  refine j_lv (lv' := [(0, vR t), (1, vI (kI 0))]) ⟨rfl, rfl, trivial⟩ ?_
  exact k2 (kI 0) W
theorem chd_hasSymbols (t : Nat) (W : jW) : jM yX9_hasSymbols cX9_hasSymbols 11 (Option.some Jvm.ClassFile.FieldType.boolean) [] 1 19 [vR t] W ((fhd_hasSymbols t W).bind (fun q => some (.returned (some (.int q.1)), q.2))) := by
  refine jM.of (Nat.le_of_ble_eq_true rfl) (fun x hx hm hr => ?_)
  refine j_begin (P := (Sum.elim (fun s => (2, [(0, vR t), (1, vI s.1)], s.2)) (fun s => (75, [(0, vR t), (1, vL s.1), (3, vI s.2.1)], s.2.2)))) (fun en he hk => ?_)
  have h : hhd_hasSymbols x en t := ⟨hx, hm, hr, fun q => he _, fun l1 W => hk (.inl (l1, W)), fun l1 l3 W => hk (.inr (l1, l3, W))⟩
  refine ⟨fun s => ?_, whd_hasSymbols h W⟩
  rcases s with s | s
  · exact whd_hasSymbols_2 h s.1 s.2
  · exact whd_hasSymbols_75 h s.1 s.2.1 s.2.2
