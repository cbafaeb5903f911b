/-! ===== walks: frn_prepare frn_textWords frn_inText fmo_blockUnder fmo_blockAtNew fmo_newWordAt frn_make frn_isCodeOrStack frn_below frn_sum ===== -/
set_option maxRecDepth 100000
def hrn_prepare (x : jCx) (en : (frn_prepare_S ⊕ (jW)) → Option (Outcome × jW)) (t : Nat) : Prop :=
  jOK x RX11 cX11_prepare 6 ∧
  jMt x "prepare" (Option.none : Option Jvm.ClassFile.FieldType) [] ∧
  jRm x 2 38 ∧
  (∀ q : jW, en (.inr q) = some (.returned none, q)) ∧
  (∀ (l1 : Int32) (W : jW), jJ x 6 2 [(0, vR t), (1, vI l1)] [] W (some (.inl (.inl (l1, W)))) en) ∧
  (∀ (l1 : Int32) (l2 : Int32) (l3 : Int64) (W : jW), jJ x 6 83 [(0, vR t), (1, vI l1), (2, vI l2), (3, vL l3)] [] W (some (.inl (.inr (l1, l2, l3, W)))) en)
theorem wrn_prepare_281 {x : jCx} {en : (frn_prepare_S ⊕ (jW)) → Option (Outcome × jW)} {t : Nat} (h : hrn_prepare x en t) (l1 : Int32) (W : jW) : jJ x 6 281 [(0, vR t), (1, vI l1)] [] W (frn_prepare_281 t l1 W) en := by
  have h0 := h
  obtain ⟨hx, hm, hr, he, k2, k83⟩ := h0
  unfold frn_prepare_281
  refine j_runA hx 1 (tb := [(281, .iinc 1 1)]) (jtb_ok (by decide +kernel)) (pc' := 284) (lv' := [(1, vI (l1 + (kI 1))), (0, vR t)]) (st' := []) rfl ?_
  refine j_let (v := (l1 + (kI 1))) (lv := fun v48 => [(1, vI v48), (0, vR t)]) (st := fun _ => []) (fun v48 => ?_)
  refine j_goto hx (off := -282) (by decide +kernel) (tgt := 2) (by decide) ?_
  refine j_lv (lv' := [(0, vR t), (1, vI v48)]) ⟨rfl, rfl, trivial⟩ ?_
  exact k2 v48 W
theorem wrn_prepare_272 {x : jCx} {en : (frn_prepare_S ⊕ (jW)) → Option (Outcome × jW)} {t : Nat} (h : hrn_prepare x en t) (l1 : Int32) (l2 : Int32) (l3 : Int64) (W : jW) : jJ x 6 272 [(0, vR t), (1, vI l1), (2, vI l2), (3, vL l3)] [] W (frn_prepare_272 t l1 l2 l3 W) en := by
  have h0 := h
  obtain ⟨hx, hm, hr, he, k2, k83⟩ := h0
  unfold frn_prepare_272
  refine j_runA hx 1 (tb := [(272, .lload_n 3)]) (jtb_ok (by decide +kernel)) (pc' := 273) (lv' := [(0, vR t), (1, vI l1), (2, vI l2), (3, vL l3)]) (st' := [vL l3]) rfl ?_
  refine j_ldc2 hx (v := (kJ 24)) (jkd2 q3356 (by decide +kernel)) (by decide +kernel) ?_
  refine j_runA hx 2 (tb := [(276, .ladd), (277, .lstore_n 3)]) (jtb_ok (by decide +kernel)) (pc' := 278) (lv' := [(3, vL (l3 + (kJ 24))), (0, vR t), (1, vI l1), (2, vI l2)]) (st' := []) rfl ?_
  refine j_let (v := (l3 + (kJ 24))) (lv := fun v46 => [(3, vL v46), (0, vR t), (1, vI l1), (2, vI l2)]) (st := fun _ => []) (fun v46 => ?_)
  refine j_goto hx (off := -195) (by decide +kernel) (tgt := 83) (by decide) ?_
  refine j_lv (lv' := [(0, vR t), (1, vI l1), (2, vI l2), (3, vL v46)]) ⟨rfl, rfl, rfl, rfl, trivial⟩ ?_
  exact k83 l1 l2 v46 W
theorem wrn_prepare_83 {x : jCx} {en : (frn_prepare_S ⊕ (jW)) → Option (Outcome × jW)} {t : Nat} (h : hrn_prepare x en t) (l1 : Int32) (l2 : Int32) (l3 : Int64) (W : jW) : jJ x 6 83 [(0, vR t), (1, vI l1), (2, vI l2), (3, vL l3)] [] W (frn_prepare_83 t l1 l2 l3 W) en := by
  have h0 := h
  obtain ⟨hx, hm, hr, he, k2, k83⟩ := h0
  unfold frn_prepare_83
  refine j_runA hx 2 (tb := [(83, .lload_n 3), (84, .aload_n 0)]) (jtb_ok (by decide +kernel)) (pc' := 85) (lv' := [(0, vR t), (1, vI l1), (2, vI l2), (3, vL l3)]) (st' := [vR t, vL l3]) rfl ?_
  refine j_gd (fun h11 => ?_)
  refine j_getR hx flX11_42 kl1600 h11 (by decide) (by decide +kernel) ?_
  refine j_gd (fun h12 => ?_)
  refine j_getR hx flX11_95 kl1305 h12 (by decide) (by decide +kernel) ?_
  refine j_gd (fun h13 => ?_)
  refine j_getR hx flX11_133 kl1412 h13 (by decide) (by decide +kernel) ?_
  refine j_runA hx 1 (tb := [(94, .iload_n 1)]) (jtb_ok (by decide +kernel)) (pc' := 95) (lv' := [(0, vR t), (1, vI l1), (2, vI l2), (3, vL l3)]) (st' := [vI l1, vR (jR W 1412 (jR W 1305 (jR W 1600 t))), vL l3]) rfl ?_
  refine j_gd (fun h14 => ?_)
  refine j_lald hx (f := 1412) (o := (jR W 1305 (jR W 1600 t))) kd1412 rfl (by decide +kernel) h14 ?_
  refine j_runA hx 1 (tb := [(96, .aload_n 0)]) (jtb_ok (by decide +kernel)) (pc' := 97) (lv' := [(0, vR t), (1, vI l1), (2, vI l2), (3, vL l3)]) (st' := [vR t, vL (jB W 1412 (jR W 1305 (jR W 1600 t)) (ix l1)), vL l3]) rfl ?_
  refine j_getR hx flX11_42 kl1600 h11 (by decide) (by decide +kernel) ?_
  refine j_getR hx flX11_95 kl1305 h12 (by decide) (by decide +kernel) ?_
  refine j_getR hx flX11_136 kl1414 h13 (by decide) (by decide +kernel) ?_
  refine j_runA hx 1 (tb := [(106, .iload_n 1)]) (jtb_ok (by decide +kernel)) (pc' := 107) (lv' := [(0, vR t), (1, vI l1), (2, vI l2), (3, vL l3)]) (st' := [vI l1, vR (jR W 1414 (jR W 1305 (jR W 1600 t))), vL (jB W 1412 (jR W 1305 (jR W 1600 t)) (ix l1)), vL l3]) rfl ?_
  refine j_gd (fun h15 => ?_)
  refine j_lald hx (f := 1414) (o := (jR W 1305 (jR W 1600 t))) kd1414 rfl (by decide +kernel) h15 ?_
  refine j_runA hx 1 (tb := [(108, .ladd)]) (jtb_ok (by decide +kernel)) (pc' := 109) (lv' := [(0, vR t), (1, vI l1), (2, vI l2), (3, vL l3)]) (st' := [vL ((jB W 1412 (jR W 1305 (jR W 1600 t)) (ix l1)) + (jB W 1414 (jR W 1305 (jR W 1600 t)) (ix l1))), vL l3]) rfl ?_
  refine j_lcmp_ge hx (off := 171) (tgt := 281) (by decide +kernel) (by decide +kernel) (by decide) (fun _ => ?_) (fun _ => ?_)
  · refine j_lv (lv' := [(0, vR t), (1, vI l1)]) ⟨rfl, rfl, trivial⟩ ?_
    exact wrn_prepare_281 h l1 W
  refine j_runA hx 1 (tb := [(113, .aload_n 0)]) (jtb_ok (by decide +kernel)) (pc' := 114) (lv' := [(0, vR t), (1, vI l1), (2, vI l2), (3, vL l3)]) (st' := [vR t]) rfl ?_
  refine j_getR hx flX11_42 kl1600 h11 (by decide) (by decide +kernel) ?_
  refine j_runA hx 1 (tb := [(117, .lload_n 3)]) (jtb_ok (by decide +kernel)) (pc' := 118) (lv' := [(0, vR t), (1, vI l1), (2, vI l2), (3, vL l3)]) (st' := [vL l3, vR (jR W 1600 t)]) rfl ?_
  refine j_OI (j_callV (av := [vL l3]) (st := []) hx hr (Or.inr ⟨_, q3347⟩) q3012 qs139 rfl md_fmo_fixType np_fmo_fixType (cmo_fixType (jR W 1600 t) l3 W) (by decide) (Nat.le_of_ble_eq_true rfl) h12 (by decide) (by decide +kernel)) (fun q16 _ => ?_)
  refine j_if_eq hx (off := 151) (tgt := 272) (by decide +kernel) (by decide) (fun _ => ?_) (fun _ => ?_)
  · exact wrn_prepare_272 h l1 l2 l3 W
  refine j_runA hx 1 (tb := [(124, .aload_n 0)]) (jtb_ok (by decide +kernel)) (pc' := 125) (lv' := [(0, vR t), (1, vI l1), (2, vI l2), (3, vL l3)]) (st' := [vR t]) rfl ?_
  refine j_getR hx flX11_42 kl1600 h11 (by decide) (by decide +kernel) ?_
  refine j_getR hx flX11_95 kl1305 h12 (by decide) (by decide +kernel) ?_
  refine j_runA hx 1 (tb := [(131, .aload_n 0)]) (jtb_ok (by decide +kernel)) (pc' := 132) (lv' := [(0, vR t), (1, vI l1), (2, vI l2), (3, vL l3)]) (st' := [vR t, vR (jR W 1305 (jR W 1600 t))]) rfl ?_
  refine j_getR hx flX11_42 kl1600 h11 (by decide) (by decide +kernel) ?_
  refine j_runA hx 1 (tb := [(135, .lload_n 3)]) (jtb_ok (by decide +kernel)) (pc' := 136) (lv' := [(0, vR t), (1, vI l1), (2, vI l2), (3, vL l3)]) (st' := [vL l3, vR (jR W 1600 t), vR (jR W 1305 (jR W 1600 t))]) rfl ?_
  refine j_OL (j_callV (av := [vL l3]) (st := [vR (jR W 1305 (jR W 1600 t))]) hx hr (Or.inr ⟨_, q3348⟩) q3016 qs140 rfl md_fmo_target np_fmo_target (cmo_target (jR W 1600 t) l3 W) (by decide) (Nat.le_of_ble_eq_true rfl) h12 (by decide) (by decide +kernel)) (fun q17 _ => ?_)
  refine j_OI (j_callV (av := [vL q17]) (st := []) hx hr (Or.inl q3349) q2924 q2925 rfl md_fhd_isIn np_fhd_isIn (chd_isIn (jR W 1305 (jR W 1600 t)) q17 W) (by decide) (Nat.le_of_ble_eq_true rfl) h13 (by decide) (by decide +kernel)) (fun q18 _ => ?_)
  refine j_if_ne hx (off := 6) (tgt := 148) (by decide +kernel) (by decide) (fun _ => ?_) (fun _ => ?_)
  · refine j_runA hx 1 (tb := [(148, .aload_n 0)]) (jtb_ok (by decide +kernel)) (pc' := 149) (lv' := [(0, vR t), (1, vI l1), (2, vI l2), (3, vL l3)]) (st' := [vR t]) rfl ?_
    refine j_getR hx flX11_42 kl1600 h11 (by decide) (by decide +kernel) ?_
    refine j_getR hx flX11_95 kl1305 h12 (by decide) (by decide +kernel) ?_
    refine j_getR hx flX11_133 kl1412 h13 (by decide) (by decide +kernel) ?_
    refine j_runA hx 1 (tb := [(158, .iload_n 2)]) (jtb_ok (by decide +kernel)) (pc' := 159) (lv' := [(0, vR t), (1, vI l1), (2, vI l2), (3, vL l3)]) (st' := [vI l2, vR (jR W 1412 (jR W 1305 (jR W 1600 t)))]) rfl ?_
    refine j_gd (fun h19 => ?_)
    refine j_lald hx (f := 1412) (o := (jR W 1305 (jR W 1600 t))) kd1412 rfl (by decide +kernel) h19 ?_
    refine j_runA hx 1 (tb := [(160, .aload_n 0)]) (jtb_ok (by decide +kernel)) (pc' := 161) (lv' := [(0, vR t), (1, vI l1), (2, vI l2), (3, vL l3)]) (st' := [vR t, vL (jB W 1412 (jR W 1305 (jR W 1600 t)) (ix l2))]) rfl ?_
    refine j_getR hx flX11_42 kl1600 h11 (by decide) (by decide +kernel) ?_
    refine j_getR hx flX11_95 kl1305 h12 (by decide) (by decide +kernel) ?_
    refine j_runA hx 2 (tb := [(167, .lload_n 3), (168, .bipush 8)]) (jtb_ok (by decide +kernel)) (pc' := 170) (lv' := [(0, vR t), (1, vI l1), (2, vI l2), (3, vL l3)]) (st' := [vI (kI 8), vL l3, vR (jR W 1305 (jR W 1600 t)), vL (jB W 1412 (jR W 1305 (jR W 1600 t)) (ix l2))]) rfl ?_
    refine j_OL (j_callV (av := [vL l3, vI (kI 8)]) (st := [vL (jB W 1412 (jR W 1305 (jR W 1600 t)) (ix l2))]) hx hr (Or.inl q3350) q2823 q2824 rfl md_fhd_num np_fhd_num (chd_num (jR W 1305 (jR W 1600 t)) l3 (kI 8) W) (by decide) (Nat.le_of_ble_eq_true rfl) h13 (by decide) (by decide +kernel)) (fun q20 _ => ?_)
    refine j_runA hx 2 (tb := [(173, .ladd), (174, .aload_n 0)]) (jtb_ok (by decide +kernel)) (pc' := 175) (lv' := [(0, vR t), (1, vI l1), (2, vI l2), (3, vL l3)]) (st' := [vR t, vL ((jB W 1412 (jR W 1305 (jR W 1600 t)) (ix l2)) + q20)]) rfl ?_
    refine j_getR hx flX11_42 kl1600 h11 (by decide) (by decide +kernel) ?_
    refine j_getR hx flX11_95 kl1305 h12 (by decide) (by decide +kernel) ?_
    refine j_getR hx flX11_149 kl1413 h13 (by decide) (by decide +kernel) ?_
    refine j_runA hx 1 (tb := [(184, .iload_n 2)]) (jtb_ok (by decide +kernel)) (pc' := 185) (lv' := [(0, vR t), (1, vI l1), (2, vI l2), (3, vL l3)]) (st' := [vI l2, vR (jR W 1413 (jR W 1305 (jR W 1600 t))), vL ((jB W 1412 (jR W 1305 (jR W 1600 t)) (ix l2)) + q20)]) rfl ?_
    refine j_gd (fun h21 => ?_)
    refine j_lald hx (f := 1413) (o := (jR W 1305 (jR W 1600 t))) kd1413 rfl (by decide +kernel) h21 ?_
    refine j_runA hx 3 (tb := [(186, .lsub), (187, .l2i), (188, .istore 5)]) (jtb_ok (by decide +kernel)) (pc' := 190) (lv' := [(5, vI ((((jB W 1412 (jR W 1305 (jR W 1600 t)) (ix l2)) + q20) - (jB W 1413 (jR W 1305 (jR W 1600 t)) (ix l2))).toInt32)), (0, vR t), (1, vI l1), (2, vI l2), (3, vL l3)]) (st' := []) rfl ?_
    refine j_let (v := (((jB W 1412 (jR W 1305 (jR W 1600 t)) (ix l2)) + q20) - (jB W 1413 (jR W 1305 (jR W 1600 t)) (ix l2))).toInt32) (lv := fun v22 => [(5, vI v22), (0, vR t), (1, vI l1), (2, vI l2), (3, vL l3)]) (st := fun _ => []) (fun v22 => ?_)
    refine j_runA hx 1 (tb := [(190, .aload_n 0)]) (jtb_ok (by decide +kernel)) (pc' := 191) (lv' := [(5, vI v22), (0, vR t), (1, vI l1), (2, vI l2), (3, vL l3)]) (st' := [vR t]) rfl ?_
    refine j_getI hx flX11_46 kd1601 h11 (by decide) (by decide +kernel) ?_
    refine j_runA hx 1 (tb := [(194, .iconst 2)]) (jtb_ok (by decide +kernel)) (pc' := 195) (lv' := [(5, vI v22), (0, vR t), (1, vI l1), (2, vI l2), (3, vL l3)]) (st' := [vI (kI 2), vI (jI W 1601 t)]) rfl ?_
    refine j_icmp_ne hx (off := 29) (tgt := 224) (by decide +kernel) (by decide) (fun _ => ?_) (fun _ => ?_)
    · refine j_runA hx 1 (tb := [(224, .aload_n 0)]) (jtb_ok (by decide +kernel)) (pc' := 225) (lv' := [(5, vI v22), (0, vR t), (1, vI l1), (2, vI l2), (3, vL l3)]) (st' := [vR t]) rfl ?_
      refine j_getR hx flX11_27 kl1611 h11 (by decide) (by decide +kernel) ?_
      refine j_runA hx 2 (tb := [(228, .iload 5), (230, .bipush 8)]) (jtb_ok (by decide +kernel)) (pc' := 232) (lv' := [(5, vI v22), (0, vR t), (1, vI l1), (2, vI l2), (3, vL l3)]) (st' := [vI (kI 8), vI v22, vR (jR W 1611 t)]) rfl ?_
      refine j_idiv hx (by decide +kernel) (by decide +kernel) ?_
      refine j_runA hx 1 (tb := [(233, .iconst 1)]) (jtb_ok (by decide +kernel)) (pc' := 234) (lv' := [(5, vI v22), (0, vR t), (1, vI l1), (2, vI l2), (3, vL l3)]) (st' := [vI (kI 1), vI (v22 / (kI 8)), vR (jR W 1611 t)]) rfl ?_
      refine j_gd (fun h23 => ?_)
      refine j_bast hx (f := 1611) (o := t) kd1611 rfl (by decide +kernel) h23 ?_
      refine j_ltw rfl (fun W24 hc25 => ?_)
      have h26 : jC W24 t = 16 := (congrFun hc25 _).trans h11
      have h27 : jC W24 (jR W 1600 t) = 13 := (congrFun hc25 _).trans h12
      have h28 : jC W24 (jR W 1305 (jR W 1600 t)) = 14 := (congrFun hc25 _).trans h13
      refine j_runA hx 1 (tb := [(235, .aload_n 0)]) (jtb_ok (by decide +kernel)) (pc' := 236) (lv' := [(5, vI v22), (0, vR t), (1, vI l1), (2, vI l2), (3, vL l3)]) (st' := [vR t]) rfl ?_
      refine j_getR hx flX11_30 kl1612 h26 (by decide) (by decide +kernel) ?_
      refine j_runA hx 2 (tb := [(239, .iload 5), (241, .bipush 8)]) (jtb_ok (by decide +kernel)) (pc' := 243) (lv' := [(5, vI v22), (0, vR t), (1, vI l1), (2, vI l2), (3, vL l3)]) (st' := [vI (kI 8), vI v22, vR (jR W24 1612 t)]) rfl ?_
      refine j_idiv hx (by decide +kernel) (by decide +kernel) ?_
      refine j_runA hx 1 (tb := [(244, .aload_n 0)]) (jtb_ok (by decide +kernel)) (pc' := 245) (lv' := [(5, vI v22), (0, vR t), (1, vI l1), (2, vI l2), (3, vL l3)]) (st' := [vR t, vI (v22 / (kI 8)), vR (jR W24 1612 t)]) rfl ?_
      refine j_getR hx flX11_42 kl1600 h26 (by decide) (by decide +kernel) ?_
      refine j_gd (fun h30 => ?_)
      refine j_getR hx flX11_156 kl1317 h30 (by decide) (by decide +kernel) ?_
      refine j_runA hx 1 (tb := [(251, .aload_n 0)]) (jtb_ok (by decide +kernel)) (pc' := 252) (lv' := [(5, vI v22), (0, vR t), (1, vI l1), (2, vI l2), (3, vL l3)]) (st' := [vR t, vR (jR W24 1317 (jR W24 1600 t)), vI (v22 / (kI 8)), vR (jR W24 1612 t)]) rfl ?_
      refine j_getR hx flX11_42 kl1600 h26 (by decide) (by decide +kernel) ?_
      refine j_runA hx 1 (tb := [(255, .lload_n 3)]) (jtb_ok (by decide +kernel)) (pc' := 256) (lv' := [(5, vI v22), (0, vR t), (1, vI l1), (2, vI l2), (3, vL l3)]) (st' := [vL l3, vR (jR W24 1600 t), vR (jR W24 1317 (jR W24 1600 t)), vI (v22 / (kI 8)), vR (jR W24 1612 t)]) rfl ?_
      refine j_OL (j_callV (av := [vL l3]) (st := [vR (jR W24 1317 (jR W24 1600 t)), vI (v22 / (kI 8)), vR (jR W24 1612 t)]) hx hr (Or.inr ⟨_, q3348⟩) q3016 qs140 rfl md_fmo_target np_fmo_target (cmo_target (jR W24 1600 t) l3 W24) (by decide) (Nat.le_of_ble_eq_true rfl) h30 (by decide) (by decide +kernel)) (fun q31 _ => ?_)
      refine j_runA hx 1 (tb := [(259, .aload_n 0)]) (jtb_ok (by decide +kernel)) (pc' := 260) (lv' := [(5, vI v22), (0, vR t), (1, vI l1), (2, vI l2), (3, vL l3)]) (st' := [vR t, vL q31, vR (jR W24 1317 (jR W24 1600 t)), vI (v22 / (kI 8)), vR (jR W24 1612 t)]) rfl ?_
      refine j_getR hx flX11_42 kl1600 h26 (by decide) (by decide +kernel) ?_
      refine j_getL hx flX11_159 kd1313 h30 (by decide) (by decide +kernel) ?_
      refine j_runA hx 3 (tb := [(266, .lsub), (267, .l2i), (268, .iconst 4)]) (jtb_ok (by decide +kernel)) (pc' := 269) (lv' := [(5, vI v22), (0, vR t), (1, vI l1), (2, vI l2), (3, vL l3)]) (st' := [vI (kI 4), vI ((q31 - (jL W24 1313 (jR W24 1600 t))).toInt32), vR (jR W24 1317 (jR W24 1600 t)), vI (v22 / (kI 8)), vR (jR W24 1612 t)]) rfl ?_
      refine j_idiv hx (by decide +kernel) (by decide +kernel) ?_
      refine j_gd (fun h32 => ?_)
      refine j_iald hx (f := 1317) (o := (jR W24 1600 t)) kd1317 rfl (by decide +kernel) h32 ?_
      refine j_gd (fun h33 => ?_)
      refine j_iast hx (f := 1612) (o := t) kd1612 rfl (by decide +kernel) h33 ?_
      refine j_ltw rfl (fun W34 hc35 => ?_)
      have h36 : jC W34 t = 16 := (congrFun hc35 _).trans h26
      have h37 : jC W34 (jR W 1600 t) = 13 := (congrFun hc35 _).trans h27
      have h38 : jC W34 (jR W 1305 (jR W 1600 t)) = 14 := (congrFun hc35 _).trans h28
      have h39 : jC W34 (jR W24 1600 t) = 13 := (congrFun hc35 _).trans h30
      refine j_lv (lv' := [(0, vR t), (1, vI l1), (2, vI l2), (3, vL l3)]) ⟨rfl, rfl, rfl, rfl, trivial⟩ ?_
      exact wrn_prepare_272 h l1 l2 l3 W34
    refine j_runA hx 4 (tb := [(198, .aload_n 0), (199, .iload 5), (201, .bipush 8), (203, .aload_n 0)]) (jtb_ok (by decide +kernel)) (pc' := 204) (lv' := [(5, vI v22), (0, vR t), (1, vI l1), (2, vI l2), (3, vL l3)]) (st' := [vR t, vI (kI 8), vI v22, vR t]) rfl ?_
    refine j_getR hx flX11_42 kl1600 h11 (by decide) (by decide +kernel) ?_
    refine j_runA hx 1 (tb := [(207, .aload_n 0)]) (jtb_ok (by decide +kernel)) (pc' := 208) (lv' := [(5, vI v22), (0, vR t), (1, vI l1), (2, vI l2), (3, vL l3)]) (st' := [vR t, vR (jR W 1600 t), vI (kI 8), vI v22, vR t]) rfl ?_
    refine j_getR hx flX11_42 kl1600 h11 (by decide) (by decide +kernel) ?_
    refine j_runA hx 1 (tb := [(211, .lload_n 3)]) (jtb_ok (by decide +kernel)) (pc' := 212) (lv' := [(5, vI v22), (0, vR t), (1, vI l1), (2, vI l2), (3, vL l3)]) (st' := [vL l3, vR (jR W 1600 t), vR (jR W 1600 t), vI (kI 8), vI v22, vR t]) rfl ?_
    refine j_OL (j_callV (av := [vL l3]) (st := [vR (jR W 1600 t), vI (kI 8), vI v22, vR t]) hx hr (Or.inr ⟨_, q3348⟩) q3016 qs140 rfl md_fmo_target np_fmo_target (cmo_target (jR W 1600 t) l3 W) (by decide) (Nat.le_of_ble_eq_true rfl) h12 (by decide) (by decide +kernel)) (fun q41 _ => ?_)
    refine j_OL (j_callV (av := [vL q41]) (st := [vI (kI 8), vI v22, vR t]) hx hr (Or.inr ⟨_, q3351⟩) q3274 qs175 rfl md_fmo_newAddress np_fmo_newAddress (cmo_newAddress (jR W 1600 t) q41 W) (by decide) (Nat.le_of_ble_eq_true rfl) h12 (by decide) (by decide +kernel)) (fun q42 _ => ?_)
    refine j_WV (j_callV (av := [vI v22, vI (kI 8), vL q42]) (st := []) hx hr (Or.inl q3352) q3354 qs181 rfl md_frn_put np_frn_put (crn_put t v22 (kI 8) q42 W) (by decide) (Nat.le_of_ble_eq_true rfl) h11 (by decide) (by decide +kernel)) (fun q43 _ => ?_)
    refine j_goto hx (off := 51) (by decide +kernel) (tgt := 272) (by decide) ?_
    refine j_lv (lv' := [(0, vR t), (1, vI l1), (2, vI l2), (3, vL l3)]) ⟨rfl, rfl, rfl, rfl, trivial⟩ ?_
    exact wrn_prepare_272 h l1 l2 l3 q43
  refine j_goto hx (off := 127) (by decide +kernel) (tgt := 272) (by decide) ?_
  exact wrn_prepare_272 h l1 l2 l3 W
theorem wrn_prepare_2 {x : jCx} {en : (frn_prepare_S ⊕ (jW)) → Option (Outcome × jW)} {t : Nat} (h : hrn_prepare x en t) (l1 : Int32) (W : jW) : jJ x 6 2 [(0, vR t), (1, vI l1)] [] W (frn_prepare_2 t l1 W) en := by
  have h0 := h
  obtain ⟨hx, hm, hr, he, k2, k83⟩ := h0
  unfold frn_prepare_2
  refine j_runA hx 2 (tb := [(2, .iload_n 1), (3, .aload_n 0)]) (jtb_ok (by decide +kernel)) (pc' := 4) (lv' := [(0, vR t), (1, vI l1)]) (st' := [vR t, vI l1]) rfl ?_
  refine j_gd (fun h2 => ?_)
  refine j_getR hx flX11_42 kl1600 h2 (by decide) (by decide +kernel) ?_
  refine j_gd (fun h3 => ?_)
  refine j_getR hx flX11_95 kl1305 h3 (by decide) (by decide +kernel) ?_
  refine j_gd (fun h4 => ?_)
  refine j_getI hx flX11_121 kd1403 h4 (by decide) (by decide +kernel) ?_
  refine j_icmp_ge hx (off := 274) (tgt := 287) (by decide +kernel) (by decide) (fun _ => ?_) (fun _ => ?_)
  · exact j_vret hx hm (by decide +kernel) (he _)
  refine j_runA hx 1 (tb := [(16, .aload_n 0)]) (jtb_ok (by decide +kernel)) (pc' := 17) (lv' := [(0, vR t), (1, vI l1)]) (st' := [vR t]) rfl ?_
  refine j_getR hx flX11_42 kl1600 h2 (by decide) (by decide +kernel) ?_
  refine j_getR hx flX11_95 kl1305 h3 (by decide) (by decide +kernel) ?_
  refine j_runA hx 1 (tb := [(23, .iload_n 1)]) (jtb_ok (by decide +kernel)) (pc' := 24) (lv' := [(0, vR t), (1, vI l1)]) (st' := [vI l1, vR (jR W 1305 (jR W 1600 t))]) rfl ?_
  refine j_OI (j_callV (av := [vI l1]) (st := []) hx hr (Or.inl q3345) q2878 q2879 rfl md_fhd_what np_fhd_what (chd_what (jR W 1305 (jR W 1600 t)) l1 W) (by decide) (Nat.le_of_ble_eq_true rfl) h4 (by decide) (by decide +kernel)) (fun q5 _ => ?_)
  refine j_runA hx 1 (tb := [(27, .iconst 4)]) (jtb_ok (by decide +kernel)) (pc' := 28) (lv' := [(0, vR t), (1, vI l1)]) (st' := [vI (kI 4), vI q5]) rfl ?_
  refine j_icmp_ne hx (off := 253) (tgt := 281) (by decide +kernel) (by decide) (fun _ => ?_) (fun _ => ?_)
  · exact wrn_prepare_281 h l1 W
  refine j_runA hx 1 (tb := [(31, .aload_n 0)]) (jtb_ok (by decide +kernel)) (pc' := 32) (lv' := [(0, vR t), (1, vI l1)]) (st' := [vR t]) rfl ?_
  refine j_getR hx flX11_42 kl1600 h2 (by decide) (by decide +kernel) ?_
  refine j_getR hx flX11_95 kl1305 h3 (by decide) (by decide +kernel) ?_
  refine j_runA hx 1 (tb := [(38, .iload_n 1)]) (jtb_ok (by decide +kernel)) (pc' := 39) (lv' := [(0, vR t), (1, vI l1)]) (st' := [vI l1, vR (jR W 1305 (jR W 1600 t))]) rfl ?_
  refine j_OI (j_callV (av := [vI l1]) (st := []) hx hr (Or.inl q3346) q2911 q2912 rfl md_fhd_aim np_fhd_aim (chd_aim (jR W 1305 (jR W 1600 t)) l1 W) (by decide) (Nat.le_of_ble_eq_true rfl) h4 (by decide) (by decide +kernel)) (fun q6 _ => ?_)
  refine j_runA hx 1 (tb := [(42, .aload_n 0)]) (jtb_ok (by decide +kernel)) (pc' := 43) (lv' := [(0, vR t), (1, vI l1)]) (st' := [vR t, vI q6]) rfl ?_
  refine j_getR hx flX11_42 kl1600 h2 (by decide) (by decide +kernel) ?_
  refine j_getR hx flX11_95 kl1305 h3 (by decide) (by decide +kernel) ?_
  refine j_getI hx flX11_131 kd1415 h4 (by decide) (by decide +kernel) ?_
  refine j_icmp_ne hx (off := 6) (tgt := 58) (by decide +kernel) (by decide) (fun _ => ?_) (fun _ => ?_)
  · refine j_runA hx 1 (tb := [(58, .aload_n 0)]) (jtb_ok (by decide +kernel)) (pc' := 59) (lv' := [(0, vR t), (1, vI l1)]) (st' := [vR t]) rfl ?_
    refine j_getR hx flX11_42 kl1600 h2 (by decide) (by decide +kernel) ?_
    refine j_getR hx flX11_95 kl1305 h3 (by decide) (by decide +kernel) ?_
    refine j_runA hx 1 (tb := [(65, .iload_n 1)]) (jtb_ok (by decide +kernel)) (pc' := 66) (lv' := [(0, vR t), (1, vI l1)]) (st' := [vI l1, vR (jR W 1305 (jR W 1600 t))]) rfl ?_
    refine j_OI (j_callV (av := [vI l1]) (st := []) hx hr (Or.inl q3346) q2911 q2912 rfl md_fhd_aim np_fhd_aim (chd_aim (jR W 1305 (jR W 1600 t)) l1 W) (by decide) (Nat.le_of_ble_eq_true rfl) h4 (by decide) (by decide +kernel)) (fun q7 _ => ?_)
    refine j_runA hx 2 (tb := [(69, .istore_n 2), (70, .aload_n 0)]) (jtb_ok (by decide +kernel)) (pc' := 71) (lv' := [(2, vI q7), (0, vR t), (1, vI l1)]) (st' := [vR t]) rfl ?_
    refine j_getR hx flX11_42 kl1600 h2 (by decide) (by decide +kernel) ?_
    refine j_getR hx flX11_95 kl1305 h3 (by decide) (by decide +kernel) ?_
    refine j_getR hx flX11_133 kl1412 h4 (by decide) (by decide +kernel) ?_
    refine j_runA hx 1 (tb := [(80, .iload_n 1)]) (jtb_ok (by decide +kernel)) (pc' := 81) (lv' := [(2, vI q7), (0, vR t), (1, vI l1)]) (st' := [vI l1, vR (jR W 1412 (jR W 1305 (jR W 1600 t)))]) rfl ?_
    refine j_gd (fun h8 => ?_)
    refine j_lald hx (f := 1412) (o := (jR W 1305 (jR W 1600 t))) kd1412 rfl (by decide +kernel) h8 ?_
    refine j_runA hx 1 (tb := [(82, .lstore_n 3)]) (jtb_ok (by decide +kernel)) (pc' := 83) (lv' := [(3, vL (jB W 1412 (jR W 1305 (jR W 1600 t)) (ix l1))), (2, vI q7), (0, vR t), (1, vI l1)]) (st' := []) rfl ?_
    refine j_let (v := (jB W 1412 (jR W 1305 (jR W 1600 t)) (ix l1))) (lv := fun v9 => [(3, vL v9), (2, vI q7), (0, vR t), (1, vI l1)]) (st := fun _ => []) (fun v9 => ?_)
    refine j_lv (lv' := [(0, vR t), (1, vI l1), (2, vI q7), (3, vL v9)]) ⟨rfl, rfl, rfl, rfl, trivial⟩ ?_
    exact k83 l1 q7 v9 W
  refine j_goto hx (off := 226) (by decide +kernel) (tgt := 281) (by decide) ?_
  exact wrn_prepare_281 h l1 W
theorem wrn_prepare {x : jCx} {en : (frn_prepare_S ⊕ (jW)) → Option (Outcome × jW)} {t : Nat} (h : hrn_prepare x en t) (W : jW) : jJ x 6 0 [(0, vR t)] [] W (frn_prepare_0 t W) en := by
  have h0 := h
  obtain ⟨hx, hm, hr, he, k2, k83⟩ := h0
  unfold frn_prepare_0
  refine j_runA hx 2 (tb := [(0, .iconst 1), (1, .istore_n 1)]) (jtb_ok (by decide +kernel)) (pc' := 2) (lv' := [(1, vI (kI 1)), (0, vR t)]) (st' := []) rfl ?_
  refine j_lv (lv' := [(0, vR t), (1, vI (kI 1))]) ⟨rfl, rfl, trivial⟩ ?_
  exact k2 (kI 1) W
theorem crn_prepare (t : Nat) (W : jW) : jM yX11_prepare cX11_prepare 6 (Option.none : Option Jvm.ClassFile.FieldType) [] 2 38 [vR t] W ((frn_prepare t W).bind (fun q => some (.returned none, q))) := by
  refine jM.of (Nat.le_of_ble_eq_true rfl) (fun x hx hm hr => ?_)
  refine j_begin (P := (Sum.elim (fun s => (2, [(0, vR t), (1, vI s.1)], s.2)) (fun s => (83, [(0, vR t), (1, vI s.1), (2, vI s.2.1), (3, vL s.2.2.1)], s.2.2.2)))) (fun en he hk => ?_)
  have h : hrn_prepare x en t := ⟨hx, hm, hr, fun q => he _, fun l1 W => hk (.inl (l1, W)), fun l1 l2 l3 W => hk (.inr (l1, l2, l3, W))⟩
  refine ⟨fun s => ?_, wrn_prepare h W⟩
  rcases s with s | s
  · exact wrn_prepare_2 h s.1 s.2
  · exact wrn_prepare_83 h s.1 s.2.1 s.2.2.1 s.2.2.2
def hrn_textWords (x : jCx) (en : (Int32) → Option (Outcome × jW)) (t : Nat) (W : jW) : Prop :=
  jOK x RX11 cX11_textWords 1 ∧
  jMt x "textWords" (Option.some Jvm.ClassFile.FieldType.int) [] ∧
  jRm x 0 0 ∧
  (∀ q : Int32, en q = some (.returned (some (.int q)), W))
theorem wrn_textWords {x : jCx} {en : (Int32) → Option (Outcome × jW)} {W : jW} {t : Nat} (h : hrn_textWords x en t W) : jJ x 1 0 [(0, vR t)] [] W (frn_textWords t W) en := by
  have h0 := h
  obtain ⟨hx, hm, hr, he⟩ := h0
  unfold frn_textWords
  refine j_runA hx 1 (tb := [(0, .aload_n 0)]) (jtb_ok (by decide +kernel)) (pc' := 1) (lv' := [(0, vR t)]) (st' := [vR t]) rfl ?_
  refine j_gd (fun h1 => ?_)
  refine j_getI hx flX11_46 kd1601 h1 (by decide) (by decide +kernel) ?_
  refine j_runA hx 1 (tb := [(4, .iconst 2)]) (jtb_ok (by decide +kernel)) (pc' := 5) (lv' := [(0, vR t)]) (st' := [vI (kI 2), vI (jI W 1601 t)]) rfl ?_
  refine j_icmp_ne hx (off := 16) (tgt := 21) (by decide +kernel) (by decide) (fun _ => ?_) (fun _ => ?_)
  · refine j_runA hx 1 (tb := [(21, .aload_n 0)]) (jtb_ok (by decide +kernel)) (pc' := 22) (lv' := [(0, vR t)]) (st' := [vR t]) rfl ?_
    refine j_getR hx flX11_42 kl1600 h1 (by decide) (by decide +kernel) ?_
    refine j_gd (fun h2 => ?_)
    refine j_getI hx flX11_189 kd1310 h2 (by decide) (by decide +kernel) ?_
    exact j_iret hx hm (by decide +kernel) rfl (he _)
  refine j_runA hx 1 (tb := [(8, .aload_n 0)]) (jtb_ok (by decide +kernel)) (pc' := 9) (lv' := [(0, vR t)]) (st' := [vR t]) rfl ?_
  refine j_getR hx flX11_42 kl1600 h1 (by decide) (by decide +kernel) ?_
  refine j_gd (fun h3 => ?_)
  refine j_getR hx flX11_180 kl1350 h3 (by decide) (by decide +kernel) ?_
  refine j_gd (fun h4 => ?_)
  refine j_getI hx flX11_184 kd1508 h4 (by decide) (by decide +kernel) ?_
  refine j_goto hx (off := 10) (by decide +kernel) (tgt := 28) (by decide) ?_
  exact j_iret hx hm (by decide +kernel) rfl (he _)
theorem crn_textWords (t : Nat) (W : jW) : jM yX11_textWords cX11_textWords 1 (Option.some Jvm.ClassFile.FieldType.int) [] 0 0 [vR t] W ((frn_textWords t W).bind (fun q => some (.returned (some (.int q)), W))) := 
  jM.of (Nat.le_of_ble_eq_true rfl) (fun x hx hm hr => wrn_textWords ⟨hx, hm, hr, fun _ => rfl⟩)
def hrn_inText (x : jCx) (en : (Int64) → Option (Outcome × jW)) (t : Nat) (a1 : Int64) (a3 : Int32) (W : jW) : Prop :=
  jOK x RX11 cX11_inText 4 ∧
  jMt x "inText" (Option.some Jvm.ClassFile.FieldType.long) [] ∧
  jRm x 1 18 ∧
  (∀ q : Int64, en q = some (.returned (some (.long q)), W))
theorem wrn_inText_49 {x : jCx} {en : (Int64) → Option (Outcome × jW)} {W : jW} {t : Nat} {a1 : Int64} {a3 : Int32} (h : hrn_inText x en t a1 a3 W) : jJ x 4 49 [(0, vR t), (1, vL a1), (3, vI a3)] [] W (frn_inText_49 t a1 a3 W) en := by
  have h0 := h
  obtain ⟨hx, hm, hr, he⟩ := h0
  unfold frn_inText_49
  refine j_ldc2 hx (v := (kJ (-1))) (jkd2 q3370 (by decide +kernel)) (by decide +kernel) ?_
  exact j_lret hx hm (by decide +kernel) (he _)
theorem wrn_inText {x : jCx} {en : (Int64) → Option (Outcome × jW)} {W : jW} {t : Nat} {a1 : Int64} {a3 : Int32} (h : hrn_inText x en t a1 a3 W) : jJ x 4 0 [(0, vR t), (1, vL a1), (3, vI a3)] [] W (frn_inText t a1 a3 W) en := by
  have h0 := h
  obtain ⟨hx, hm, hr, he⟩ := h0
  unfold frn_inText
  refine j_runA hx 2 (tb := [(0, .lload_n 1), (1, .aload_n 0)]) (jtb_ok (by decide +kernel)) (pc' := 2) (lv' := [(0, vR t), (1, vL a1), (3, vI a3)]) (st' := [vR t, vL a1]) rfl ?_
  refine j_gd (fun h1 => ?_)
  refine j_getR hx flX11_42 kl1600 h1 (by decide) (by decide +kernel) ?_
  refine j_gd (fun h2 => ?_)
  refine j_getL hx flX11_159 kd1313 h2 (by decide) (by decide +kernel) ?_
  refine j_lcmp_lt hx (off := 40) (tgt := 49) (by decide +kernel) (by decide +kernel) (by decide) (fun _ => ?_) (fun _ => ?_)
  · exact wrn_inText_49 h
  refine j_runA hx 2 (tb := [(12, .lload_n 1), (13, .aload_n 0)]) (jtb_ok (by decide +kernel)) (pc' := 14) (lv' := [(0, vR t), (1, vL a1), (3, vI a3)]) (st' := [vR t, vL a1]) rfl ?_
  refine j_getR hx flX11_42 kl1600 h1 (by decide) (by decide +kernel) ?_
  refine j_getL hx flX11_159 kd1313 h2 (by decide) (by decide +kernel) ?_
  refine j_ldc2 hx (v := (kJ 4)) (jkd2 q3365 (by decide +kernel)) (by decide +kernel) ?_
  refine j_runA hx 1 (tb := [(23, .aload_n 0)]) (jtb_ok (by decide +kernel)) (pc' := 24) (lv' := [(0, vR t), (1, vL a1), (3, vI a3)]) (st' := [vR t, vL (kJ 4), vL (jL W 1313 (jR W 1600 t)), vL a1]) rfl ?_
  refine j_OI (j_callV (av := []) (st := [vL (kJ 4), vL (jL W 1313 (jR W 1600 t)), vL a1]) hx hr (Or.inl q3366) q3368 qs184 rfl md_frn_textWords np_frn_textWords (crn_textWords t W) (by decide) (Nat.le_of_ble_eq_true rfl) h1 (by decide) (by decide +kernel)) (fun q3 _ => ?_)
  refine j_runA hx 6 (tb := [(27, .i2l), (28, .lmul), (29, .ladd), (30, .iload_n 3), (31, .i2l), (32, .lsub)]) (jtb_ok (by decide +kernel)) (pc' := 33) (lv' := [(0, vR t), (1, vL a1), (3, vI a3)]) (st' := [vL (((jL W 1313 (jR W 1600 t)) + ((kJ 4) * q3.toInt64)) - a3.toInt64), vL a1]) rfl ?_
  refine j_lcmp_gt hx (off := 15) (tgt := 49) (by decide +kernel) (by decide +kernel) (by decide) (fun _ => ?_) (fun _ => ?_)
  · exact wrn_inText_49 h
  refine j_runA hx 2 (tb := [(37, .lload_n 1), (38, .aload_n 0)]) (jtb_ok (by decide +kernel)) (pc' := 39) (lv' := [(0, vR t), (1, vL a1), (3, vI a3)]) (st' := [vR t, vL a1]) rfl ?_
  refine j_getR hx flX11_42 kl1600 h1 (by decide) (by decide +kernel) ?_
  refine j_getL hx flX11_159 kd1313 h2 (by decide) (by decide +kernel) ?_
  refine j_runA hx 1 (tb := [(45, .lsub)]) (jtb_ok (by decide +kernel)) (pc' := 46) (lv' := [(0, vR t), (1, vL a1), (3, vI a3)]) (st' := [vL (a1 - (jL W 1313 (jR W 1600 t)))]) rfl ?_
  refine j_goto hx (off := 6) (by decide +kernel) (tgt := 52) (by decide) ?_
  exact j_lret hx hm (by decide +kernel) (he _)
theorem crn_inText (t : Nat) (a1 : Int64) (a3 : Int32) (W : jW) : jM yX11_inText cX11_inText 4 (Option.some Jvm.ClassFile.FieldType.long) [] 1 18 [vR t, vL a1, vI a3] W ((frn_inText t a1 a3 W).bind (fun q => some (.returned (some (.long q)), W))) := 
  jM.of (Nat.le_of_ble_eq_true rfl) (fun x hx hm hr => wrn_inText ⟨hx, hm, hr, fun _ => rfl⟩)
def hmo_blockUnder (x : jCx) (en : (fmo_blockUnder_S ⊕ (Int32)) → Option (Outcome × jW)) (t : Nat) (a1 : Int32) (W : jW) : Prop :=
  jOK x RX8 cX8_blockUnder 5 ∧
  jMt x "blockUnder" (Option.some Jvm.ClassFile.FieldType.int) [] ∧
  jRm x 0 0 ∧
  (∀ q : Int32, en (.inr q) = some (.returned (some (.int q)), W)) ∧
  (∀ (l2 : Int32) (l3 : Int32), jJ x 5 7 [(0, vR t), (1, vI a1), (2, vI l2), (3, vI l3)] [] W (some (.inl (l2, l3))) en)
theorem wmo_blockUnder_52 {x : jCx} {en : (fmo_blockUnder_S ⊕ (Int32)) → Option (Outcome × jW)} {W : jW} {t : Nat} {a1 : Int32} (h : hmo_blockUnder x en t a1 W) (l2 : Int32) (l3 : Int32) : jJ x 5 52 [(0, vR t), (1, vI a1), (2, vI l2), (3, vI l3)] [] W (fmo_blockUnder_52 t a1 l2 l3 W) en := by
  have h0 := h
  obtain ⟨hx, hm, hr, he, k7⟩ := h0
  unfold fmo_blockUnder_52
  refine j_goto hx (off := -45) (by decide +kernel) (tgt := 7) (by decide) ?_
  exact k7 l2 l3
theorem wmo_blockUnder_7 {x : jCx} {en : (fmo_blockUnder_S ⊕ (Int32)) → Option (Outcome × jW)} {W : jW} {t : Nat} {a1 : Int32} (h : hmo_blockUnder x en t a1 W) (l2 : Int32) (l3 : Int32) : jJ x 5 7 [(0, vR t), (1, vI a1), (2, vI l2), (3, vI l3)] [] W (fmo_blockUnder_7 t a1 l2 l3 W) en := by
  have h0 := h
  obtain ⟨hx, hm, hr, he, k7⟩ := h0
  unfold fmo_blockUnder_7
  refine j_runA hx 2 (tb := [(7, .iload_n 2), (8, .iload_n 3)]) (jtb_ok (by decide +kernel)) (pc' := 9) (lv' := [(0, vR t), (1, vI a1), (2, vI l2), (3, vI l3)]) (st' := [vI l3, vI l2]) rfl ?_
  refine j_icmp_ge hx (off := 46) (tgt := 55) (by decide +kernel) (by decide) (fun _ => ?_) (fun _ => ?_)
  · refine j_runA hx 1 (tb := [(55, .iload_n 2)]) (jtb_ok (by decide +kernel)) (pc' := 56) (lv' := [(0, vR t), (1, vI a1), (2, vI l2), (3, vI l3)]) (st' := [vI l2]) rfl ?_
    refine j_if_ne hx (off := 7) (tgt := 63) (by decide +kernel) (by decide) (fun _ => ?_) (fun _ => ?_)
    · refine j_runA hx 1 (tb := [(63, .aload_n 0)]) (jtb_ok (by decide +kernel)) (pc' := 64) (lv' := [(0, vR t), (1, vI a1), (2, vI l2), (3, vI l3)]) (st' := [vR t]) rfl ?_
      refine j_gd (fun h4 => ?_)
      refine j_getR hx flX8_143 kl1350 h4 (by decide) (by decide +kernel) ?_
      refine j_gd (fun h5 => ?_)
      refine j_getR hx flX8_478 kl1501 h5 (by decide) (by decide +kernel) ?_
      refine j_runA hx 3 (tb := [(70, .iload_n 2), (71, .iconst 1), (72, .isub)]) (jtb_ok (by decide +kernel)) (pc' := 73) (lv' := [(0, vR t), (1, vI a1), (2, vI l2), (3, vI l3)]) (st' := [vI (l2 - (kI 1)), vR (jR W 1501 (jR W 1350 t))]) rfl ?_
      refine j_gd (fun h6 => ?_)
      refine j_iald hx (f := 1501) (o := (jR W 1350 t)) kd1501 rfl (by decide +kernel) h6 ?_
      exact j_iret hx hm (by decide +kernel) rfl (he _)
    refine j_runA hx 1 (tb := [(59, .iconst (-1))]) (jtb_ok (by decide +kernel)) (pc' := 60) (lv' := [(0, vR t), (1, vI a1), (2, vI l2), (3, vI l3)]) (st' := [vI (kI (-1))]) rfl ?_
    refine j_goto hx (off := 14) (by decide +kernel) (tgt := 74) (by decide) ?_
    exact j_iret hx hm (by decide +kernel) rfl (he _)
  refine j_runA hx 4 (tb := [(12, .iload_n 2), (13, .iload_n 3), (14, .iadd), (15, .iconst 2)]) (jtb_ok (by decide +kernel)) (pc' := 16) (lv' := [(0, vR t), (1, vI a1), (2, vI l2), (3, vI l3)]) (st' := [vI (kI 2), vI (l2 + l3)]) rfl ?_
  refine j_idiv hx (by decide +kernel) (by decide +kernel) ?_
  refine j_runA hx 1 (tb := [(17, .istore 4)]) (jtb_ok (by decide +kernel)) (pc' := 19) (lv' := [(4, vI ((l2 + l3) / (kI 2))), (0, vR t), (1, vI a1), (2, vI l2), (3, vI l3)]) (st' := []) rfl ?_
  refine j_let (v := ((l2 + l3) / (kI 2))) (lv := fun v7 => [(4, vI v7), (0, vR t), (1, vI a1), (2, vI l2), (3, vI l3)]) (st := fun _ => []) (fun v7 => ?_)
  refine j_runA hx 1 (tb := [(19, .aload_n 0)]) (jtb_ok (by decide +kernel)) (pc' := 20) (lv' := [(4, vI v7), (0, vR t), (1, vI a1), (2, vI l2), (3, vI l3)]) (st' := [vR t]) rfl ?_
  refine j_gd (fun h8 => ?_)
  refine j_getR hx flX8_143 kl1350 h8 (by decide) (by decide +kernel) ?_
  refine j_gd (fun h9 => ?_)
  refine j_getR hx flX8_499 kl1503 h9 (by decide) (by decide +kernel) ?_
  refine j_runA hx 1 (tb := [(26, .aload_n 0)]) (jtb_ok (by decide +kernel)) (pc' := 27) (lv' := [(4, vI v7), (0, vR t), (1, vI a1), (2, vI l2), (3, vI l3)]) (st' := [vR t, vR (jR W 1503 (jR W 1350 t))]) rfl ?_
  refine j_getR hx flX8_143 kl1350 h8 (by decide) (by decide +kernel) ?_
  refine j_getR hx flX8_478 kl1501 h9 (by decide) (by decide +kernel) ?_
  refine j_runA hx 1 (tb := [(33, .iload 4)]) (jtb_ok (by decide +kernel)) (pc' := 35) (lv' := [(4, vI v7), (0, vR t), (1, vI a1), (2, vI l2), (3, vI l3)]) (st' := [vI v7, vR (jR W 1501 (jR W 1350 t)), vR (jR W 1503 (jR W 1350 t))]) rfl ?_
  refine j_gd (fun h10 => ?_)
  refine j_iald hx (f := 1501) (o := (jR W 1350 t)) kd1501 rfl (by decide +kernel) h10 ?_
  refine j_gd (fun h11 => ?_)
  refine j_iald hx (f := 1503) (o := (jR W 1350 t)) kd1503 rfl (by decide +kernel) h11 ?_
  refine j_runA hx 1 (tb := [(37, .iload_n 1)]) (jtb_ok (by decide +kernel)) (pc' := 38) (lv' := [(4, vI v7), (0, vR t), (1, vI a1), (2, vI l2), (3, vI l3)]) (st' := [vI a1, vI (jA W 1503 (jR W 1350 t) (ix (jA W 1501 (jR W 1350 t) (ix v7))))]) rfl ?_
  refine j_icmp_gt hx (off := 11) (tgt := 49) (by decide +kernel) (by decide) (fun _ => ?_) (fun _ => ?_)
  · refine j_runA hx 2 (tb := [(49, .iload 4), (51, .istore_n 3)]) (jtb_ok (by decide +kernel)) (pc' := 52) (lv' := [(3, vI v7), (4, vI v7), (0, vR t), (1, vI a1), (2, vI l2)]) (st' := []) rfl ?_
    refine j_lv (lv' := [(0, vR t), (1, vI a1), (2, vI l2), (3, vI v7)]) ⟨rfl, rfl, rfl, rfl, trivial⟩ ?_
    exact wmo_blockUnder_52 h l2 v7
  refine j_runA hx 4 (tb := [(41, .iload 4), (43, .iconst 1), (44, .iadd), (45, .istore_n 2)]) (jtb_ok (by decide +kernel)) (pc' := 46) (lv' := [(2, vI (v7 + (kI 1))), (4, vI v7), (0, vR t), (1, vI a1), (3, vI l3)]) (st' := []) rfl ?_
  refine j_let (v := (v7 + (kI 1))) (lv := fun v12 => [(2, vI v12), (4, vI v7), (0, vR t), (1, vI a1), (3, vI l3)]) (st := fun _ => []) (fun v12 => ?_)
  refine j_goto hx (off := 6) (by decide +kernel) (tgt := 52) (by decide) ?_
  refine j_lv (lv' := [(0, vR t), (1, vI a1), (2, vI v12), (3, vI l3)]) ⟨rfl, rfl, rfl, rfl, trivial⟩ ?_
  exact wmo_blockUnder_52 h v12 l3
theorem wmo_blockUnder {x : jCx} {en : (fmo_blockUnder_S ⊕ (Int32)) → Option (Outcome × jW)} {W : jW} {t : Nat} {a1 : Int32} (h : hmo_blockUnder x en t a1 W) : jJ x 5 0 [(0, vR t), (1, vI a1)] [] W (fmo_blockUnder_0 t a1 W) en := by
  have h0 := h
  obtain ⟨hx, hm, hr, he, k7⟩ := h0
  unfold fmo_blockUnder_0
  refine j_runA hx 3 (tb := [(0, .iconst 0), (1, .istore_n 2), (2, .aload_n 0)]) (jtb_ok (by decide +kernel)) (pc' := 3) (lv' := [(2, vI (kI 0)), (0, vR t), (1, vI a1)]) (st' := [vR t]) rfl ?_
  refine j_gd (fun h1 => ?_)
  refine j_getI hx flX8_399 kd1312 h1 (by decide) (by decide +kernel) ?_
  refine j_runA hx 1 (tb := [(6, .istore_n 3)]) (jtb_ok (by decide +kernel)) (pc' := 7) (lv' := [(3, vI (jI W 1312 t)), (2, vI (kI 0)), (0, vR t), (1, vI a1)]) (st' := []) rfl ?_
  refine j_let (v := (jI W 1312 t)) (lv := fun v2 => [(3, vI v2), (2, vI (kI 0)), (0, vR t), (1, vI a1)]) (st := fun _ => []) (fun v2 => ?_)
  refine j_lv (lv' := [(0, vR t), (1, vI a1), (2, vI (kI 0)), (3, vI v2)]) ⟨rfl, rfl, rfl, rfl, trivial⟩ ?_
  exact k7 (kI 0) v2
theorem cmo_blockUnder (t : Nat) (a1 : Int32) (W : jW) : jM yX8_blockUnder cX8_blockUnder 5 (Option.some Jvm.ClassFile.FieldType.int) [] 0 0 [vR t, vI a1] W ((fmo_blockUnder t a1 W).bind (fun q => some (.returned (some (.int q)), W))) := by
  refine jM.of (Nat.le_of_ble_eq_true rfl) (fun x hx hm hr => ?_)
  refine j_begin (P := (fun s => (7, [(0, vR t), (1, vI a1), (2, vI s.1), (3, vI s.2)], W))) (fun en he hk => ?_)
  have h : hmo_blockUnder x en t a1 W := ⟨hx, hm, hr, fun q => he _, fun l2 l3 => hk (l2, l3)⟩
  exact ⟨fun s => wmo_blockUnder_7 h s.1 s.2, wmo_blockUnder h⟩
def hmo_blockAtNew (x : jCx) (en : (Int32) → Option (Outcome × jW)) (t : Nat) (a1 : Int32) (W : jW) : Prop :=
  jOK x RX8 cX8_blockAtNew 3 ∧
  jMt x "blockAtNew" (Option.some Jvm.ClassFile.FieldType.int) [] ∧
  jRm x 1 16 ∧
  (∀ q : Int32, en q = some (.returned (some (.int q)), W))
theorem wmo_blockAtNew_27 {x : jCx} {en : (Int32) → Option (Outcome × jW)} {W : jW} {t : Nat} {a1 : Int32} (h : hmo_blockAtNew x en t a1 W) : jJ x 3 27 [(0, vR t), (1, vI a1)] [] W (fmo_blockAtNew_27 t a1 W) en := by
  have h0 := h
  obtain ⟨hx, hm, hr, he⟩ := h0
  unfold fmo_blockAtNew_27
  refine j_runA hx 1 (tb := [(27, .iconst (-1))]) (jtb_ok (by decide +kernel)) (pc' := 28) (lv' := [(0, vR t), (1, vI a1)]) (st' := [vI (kI (-1))]) rfl ?_
  exact j_iret hx hm (by decide +kernel) rfl (he _)
theorem wmo_blockAtNew {x : jCx} {en : (Int32) → Option (Outcome × jW)} {W : jW} {t : Nat} {a1 : Int32} (h : hmo_blockAtNew x en t a1 W) : jJ x 3 0 [(0, vR t), (1, vI a1)] [] W (fmo_blockAtNew t a1 W) en := by
  have h0 := h
  obtain ⟨hx, hm, hr, he⟩ := h0
  unfold fmo_blockAtNew
  refine j_runA hx 2 (tb := [(0, .aload_n 0), (1, .iload_n 1)]) (jtb_ok (by decide +kernel)) (pc' := 2) (lv' := [(0, vR t), (1, vI a1)]) (st' := [vI a1, vR t]) rfl ?_
  refine j_gd (fun h1 => ?_)
  refine j_OI (j_callV (av := [vI a1]) (st := []) hx hr (Or.inl q3376) q3378 qs186 rfl md_fmo_blockUnder np_fmo_blockUnder (cmo_blockUnder t a1 W) (by decide) (Nat.le_of_ble_eq_true rfl) h1 (by decide) (by decide +kernel)) (fun q2 _ => ?_)
  refine j_runA hx 2 (tb := [(5, .istore_n 2), (6, .iload_n 2)]) (jtb_ok (by decide +kernel)) (pc' := 7) (lv' := [(2, vI q2), (0, vR t), (1, vI a1)]) (st' := [vI q2]) rfl ?_
  refine j_if_lt hx (off := 20) (tgt := 27) (by decide +kernel) (by decide) (fun _ => ?_) (fun _ => ?_)
  · refine j_lv (lv' := [(0, vR t), (1, vI a1)]) ⟨rfl, rfl, trivial⟩ ?_
    exact wmo_blockAtNew_27 h
  refine j_runA hx 1 (tb := [(10, .aload_n 0)]) (jtb_ok (by decide +kernel)) (pc' := 11) (lv' := [(2, vI q2), (0, vR t), (1, vI a1)]) (st' := [vR t]) rfl ?_
  refine j_getR hx flX8_143 kl1350 h1 (by decide) (by decide +kernel) ?_
  refine j_gd (fun h3 => ?_)
  refine j_getR hx flX8_499 kl1503 h3 (by decide) (by decide +kernel) ?_
  refine j_runA hx 1 (tb := [(17, .iload_n 2)]) (jtb_ok (by decide +kernel)) (pc' := 18) (lv' := [(2, vI q2), (0, vR t), (1, vI a1)]) (st' := [vI q2, vR (jR W 1503 (jR W 1350 t))]) rfl ?_
  refine j_gd (fun h4 => ?_)
  refine j_iald hx (f := 1503) (o := (jR W 1350 t)) kd1503 rfl (by decide +kernel) h4 ?_
  refine j_runA hx 1 (tb := [(19, .iload_n 1)]) (jtb_ok (by decide +kernel)) (pc' := 20) (lv' := [(2, vI q2), (0, vR t), (1, vI a1)]) (st' := [vI a1, vI (jA W 1503 (jR W 1350 t) (ix q2))]) rfl ?_
  refine j_icmp_ne hx (off := 7) (tgt := 27) (by decide +kernel) (by decide) (fun _ => ?_) (fun _ => ?_)
  · refine j_lv (lv' := [(0, vR t), (1, vI a1)]) ⟨rfl, rfl, trivial⟩ ?_
    exact wmo_blockAtNew_27 h
  refine j_runA hx 1 (tb := [(23, .iload_n 2)]) (jtb_ok (by decide +kernel)) (pc' := 24) (lv' := [(2, vI q2), (0, vR t), (1, vI a1)]) (st' := [vI q2]) rfl ?_
  refine j_goto hx (off := 4) (by decide +kernel) (tgt := 28) (by decide) ?_
  exact j_iret hx hm (by decide +kernel) rfl (he _)
theorem cmo_blockAtNew (t : Nat) (a1 : Int32) (W : jW) : jM yX8_blockAtNew cX8_blockAtNew 3 (Option.some Jvm.ClassFile.FieldType.int) [] 1 16 [vR t, vI a1] W ((fmo_blockAtNew t a1 W).bind (fun q => some (.returned (some (.int q)), W))) := 
  jM.of (Nat.le_of_ble_eq_true rfl) (fun x hx hm hr => wmo_blockAtNew ⟨hx, hm, hr, fun _ => rfl⟩)
def hmo_newWordAt (x : jCx) (en : (fmo_newWordAt_S ⊕ (Int32)) → Option (Outcome × jW)) (t : Nat) (a1 : Int32) (W : jW) : Prop :=
  jOK x RX8 cX8_newWordAt 4 ∧
  jMt x "newWordAt" (Option.some Jvm.ClassFile.FieldType.int) [] ∧
  jRm x 0 0 ∧
  (∀ q : Int32, en (.inr q) = some (.returned (some (.int q)), W)) ∧
  (∀ (l2 : Int32) (l3 : Int32), jJ x 4 4 [(0, vR t), (1, vI a1), (2, vI l2), (3, vI l3)] [] W (some (.inl (l2, l3))) en)
theorem wmo_newWordAt_4 {x : jCx} {en : (fmo_newWordAt_S ⊕ (Int32)) → Option (Outcome × jW)} {W : jW} {t : Nat} {a1 : Int32} (h : hmo_newWordAt x en t a1 W) (l2 : Int32) (l3 : Int32) : jJ x 4 4 [(0, vR t), (1, vI a1), (2, vI l2), (3, vI l3)] [] W (fmo_newWordAt_4 t a1 l2 l3 W) en := by
  have h0 := h
  obtain ⟨hx, hm, hr, he, k4⟩ := h0
  unfold fmo_newWordAt_4
  refine j_runA hx 1 (tb := [(4, .iload_n 3)]) (jtb_ok (by decide +kernel)) (pc' := 5) (lv' := [(0, vR t), (1, vI a1), (2, vI l2), (3, vI l3)]) (st' := [vI l3]) rfl ?_
  refine j_if_lt hx (off := 34) (tgt := 39) (by decide +kernel) (by decide) (fun _ => ?_) (fun _ => ?_)
  · refine j_runA hx 1 (tb := [(39, .iload_n 2)]) (jtb_ok (by decide +kernel)) (pc' := 40) (lv' := [(0, vR t), (1, vI a1), (2, vI l2), (3, vI l3)]) (st' := [vI l2]) rfl ?_
    exact j_iret hx hm (by decide +kernel) rfl (he _)
  refine j_runA hx 4 (tb := [(8, .iload_n 2), (9, .bipush 8), (11, .ishl), (12, .aload_n 0)]) (jtb_ok (by decide +kernel)) (pc' := 13) (lv' := [(0, vR t), (1, vI a1), (2, vI l2), (3, vI l3)]) (st' := [vR t, vI (ixl l2 (kI 8))]) rfl ?_
  refine j_gd (fun h2 => ?_)
  refine j_getR hx flX8_151 kl1354 h2 (by decide) (by decide +kernel) ?_
  refine j_runA hx 1 (tb := [(16, .aload_n 0)]) (jtb_ok (by decide +kernel)) (pc' := 17) (lv' := [(0, vR t), (1, vI a1), (2, vI l2), (3, vI l3)]) (st' := [vR t, vR (jR W 1354 t), vI (ixl l2 (kI 8))]) rfl ?_
  refine j_getI hx flX8_304 kd1309 h2 (by decide) (by decide +kernel) ?_
  refine j_runA hx 6 (tb := [(20, .iconst 4), (21, .iload_n 1), (22, .imul), (23, .iadd), (24, .iload_n 3), (25, .iadd)]) (jtb_ok (by decide +kernel)) (pc' := 26) (lv' := [(0, vR t), (1, vI a1), (2, vI l2), (3, vI l3)]) (st' := [vI (((jI W 1309 t) + ((kI 4) * a1)) + l3), vR (jR W 1354 t), vI (ixl l2 (kI 8))]) rfl ?_
  refine j_gd (fun h3 => ?_)
  refine j_gd (fun h4 => ?_)
  refine j_bald hx (f := 9004) (o := (jR W 1354 t)) kd9004 h3 (by decide +kernel) h4 ?_
  refine j_runA hx 4 (tb := [(27, .sipush 255), (30, .iand), (31, .ior), (32, .istore_n 2)]) (jtb_ok (by decide +kernel)) (pc' := 33) (lv' := [(2, vI ((ixl l2 (kI 8)) ||| ((jA W 9004 (jR W 1354 t) (ix (((jI W 1309 t) + ((kI 4) * a1)) + l3))) &&& (kI 255)))), (0, vR t), (1, vI a1), (3, vI l3)]) (st' := []) rfl ?_
  refine j_let (v := ((ixl l2 (kI 8)) ||| ((jA W 9004 (jR W 1354 t) (ix (((jI W 1309 t) + ((kI 4) * a1)) + l3))) &&& (kI 255)))) (lv := fun v5 => [(2, vI v5), (0, vR t), (1, vI a1), (3, vI l3)]) (st := fun _ => []) (fun v5 => ?_)
  refine j_runA hx 1 (tb := [(33, .iinc 3 (-1))]) (jtb_ok (by decide +kernel)) (pc' := 36) (lv' := [(3, vI (l3 + (kI (-1)))), (2, vI v5), (0, vR t), (1, vI a1)]) (st' := []) rfl ?_
  refine j_let (v := (l3 + (kI (-1)))) (lv := fun v6 => [(3, vI v6), (2, vI v5), (0, vR t), (1, vI a1)]) (st := fun _ => []) (fun v6 => ?_)
  refine j_goto hx (off := -32) (by decide +kernel) (tgt := 4) (by decide) ?_
  refine j_lv (lv' := [(0, vR t), (1, vI a1), (2, vI v5), (3, vI v6)]) ⟨rfl, rfl, rfl, rfl, trivial⟩ ?_
  exact k4 v5 v6
theorem wmo_newWordAt {x : jCx} {en : (fmo_newWordAt_S ⊕ (Int32)) → Option (Outcome × jW)} {W : jW} {t : Nat} {a1 : Int32} (h : hmo_newWordAt x en t a1 W) : jJ x 4 0 [(0, vR t), (1, vI a1)] [] W (fmo_newWordAt_0 t a1 W) en := by
  have h0 := h
  obtain ⟨hx, hm, hr, he, k4⟩ := h0
  unfold fmo_newWordAt_0
  refine j_runA hx 4 (tb := [(0, .iconst 0), (1, .istore_n 2), (2, .iconst 3), (3, .istore_n 3)]) (jtb_ok (by decide +kernel)) (pc' := 4) (lv' := [(3, vI (kI 3)), (2, vI (kI 0)), (0, vR t), (1, vI a1)]) (st' := []) rfl ?_
  refine j_lv (lv' := [(0, vR t), (1, vI a1), (2, vI (kI 0)), (3, vI (kI 3))]) ⟨rfl, rfl, rfl, rfl, trivial⟩ ?_
  exact k4 (kI 0) (kI 3)
theorem cmo_newWordAt (t : Nat) (a1 : Int32) (W : jW) : jM yX8_newWordAt cX8_newWordAt 4 (Option.some Jvm.ClassFile.FieldType.int) [] 0 0 [vR t, vI a1] W ((fmo_newWordAt t a1 W).bind (fun q => some (.returned (some (.int q)), W))) := by
  refine jM.of (Nat.le_of_ble_eq_true rfl) (fun x hx hm hr => ?_)
  refine j_begin (P := (fun s => (4, [(0, vR t), (1, vI a1), (2, vI s.1), (3, vI s.2)], W))) (fun en he hk => ?_)
  have h : hmo_newWordAt x en t a1 W := ⟨hx, hm, hr, fun q => he _, fun l2 l3 => hk (l2, l3)⟩
  exact ⟨fun s => wmo_newWordAt_4 h s.1 s.2, wmo_newWordAt h⟩
def hrn_make (x : jCx) (en : (jW) → Option (Outcome × jW)) (t : Nat) (a1 : Int32) (a2 : Int32) (a3 : Int32) (a4 : Int64) : Prop :=
  jOK x RX11 cX11_make 6 ∧
  jMt x "make" (Option.none : Option Jvm.ClassFile.FieldType) [] ∧
  jRm x 0 0 ∧
  (∀ q : jW, en q = some (.returned none, q))
theorem wrn_make_27 {x : jCx} {en : (jW) → Option (Outcome × jW)} {t : Nat} {a1 : Int32} {a2 : Int32} {a3 : Int32} {a4 : Int64} (h : hrn_make x en t a1 a2 a3 a4) (s0 : Int32) (s1 : Int32) (s2 : Nat) (W : jW) : jJ x 6 27 [(0, vR t), (1, vI a1), (2, vI a2), (3, vI a3), (4, vL a4)] [vI s0, vI s1, vR s2] W (frn_make_27 t a1 a2 a3 a4 s0 s1 s2 W) en := by
  have h0 := h
  obtain ⟨hx, hm, hr, he⟩ := h0
  unfold frn_make_27
  refine j_gd (fun h8 => ?_)
  refine j_gd (fun h9 => ?_)
  refine j_bast hx (f := 1604) (o := t) kd1604 h8 (by decide +kernel) h9 ?_
  refine j_ltw rfl (fun W10 hc11 => ?_)
  refine j_runA hx 1 (tb := [(28, .aload_n 0)]) (jtb_ok (by decide +kernel)) (pc' := 29) (lv' := [(0, vR t), (1, vI a1), (2, vI a2), (3, vI a3), (4, vL a4)]) (st' := [vR t]) rfl ?_
  refine j_gd (fun h13 => ?_)
  refine j_getR hx flX11_19 kl1605 h13 (by decide) (by decide +kernel) ?_
  refine j_runA hx 2 (tb := [(32, .iload_n 1), (33, .iload_n 3)]) (jtb_ok (by decide +kernel)) (pc' := 34) (lv' := [(0, vR t), (1, vI a1), (2, vI a2), (3, vI a3), (4, vL a4)]) (st' := [vI a3, vI a1, vR (jR W10 1605 t)]) rfl ?_
  refine j_gd (fun h14 => ?_)
  refine j_iast hx (f := 1605) (o := t) kd1605 rfl (by decide +kernel) h14 ?_
  refine j_ltw rfl (fun W15 hc16 => ?_)
  have h17 : jC W15 t = 16 := (congrFun hc16 _).trans h13
  exact j_vret hx hm (by decide +kernel) (he _)
theorem wrn_make {x : jCx} {en : (jW) → Option (Outcome × jW)} {t : Nat} {a1 : Int32} {a2 : Int32} {a3 : Int32} {a4 : Int64} (h : hrn_make x en t a1 a2 a3 a4) (W : jW) : jJ x 6 0 [(0, vR t), (1, vI a1), (2, vI a2), (3, vI a3), (4, vL a4)] [] W (frn_make t a1 a2 a3 a4 W) en := by
  have h0 := h
  obtain ⟨hx, hm, hr, he⟩ := h0
  unfold frn_make
  refine j_runA hx 1 (tb := [(0, .aload_n 0)]) (jtb_ok (by decide +kernel)) (pc' := 1) (lv' := [(0, vR t), (1, vI a1), (2, vI a2), (3, vI a3), (4, vL a4)]) (st' := [vR t]) rfl ?_
  refine j_gd (fun h1 => ?_)
  refine j_getR hx flX11_9 kl1603 h1 (by decide) (by decide +kernel) ?_
  refine j_runA hx 2 (tb := [(4, .iload_n 1), (5, .lload 4)]) (jtb_ok (by decide +kernel)) (pc' := 7) (lv' := [(0, vR t), (1, vI a1), (2, vI a2), (3, vI a3), (4, vL a4)]) (st' := [vL a4, vI a1, vR (jR W 1603 t)]) rfl ?_
  refine j_gd (fun h2 => ?_)
  refine j_last hx (f := 1603) (o := t) kd1603 rfl (by decide +kernel) h2 ?_
  refine j_ltw rfl (fun W3 hc4 => ?_)
  have h5 : jC W3 t = 16 := (congrFun hc4 _).trans h1
  refine j_runA hx 1 (tb := [(8, .aload_n 0)]) (jtb_ok (by decide +kernel)) (pc' := 9) (lv' := [(0, vR t), (1, vI a1), (2, vI a2), (3, vI a3), (4, vL a4)]) (st' := [vR t]) rfl ?_
  refine j_getR hx flX11_15 kl1604 h5 (by decide) (by decide +kernel) ?_
  refine j_runA hx 2 (tb := [(12, .iload_n 1), (13, .aload_n 0)]) (jtb_ok (by decide +kernel)) (pc' := 14) (lv' := [(0, vR t), (1, vI a1), (2, vI a2), (3, vI a3), (4, vL a4)]) (st' := [vR t, vI a1, vR (jR W3 1604 t)]) rfl ?_
  refine j_getI hx flX11_46 kd1601 h5 (by decide) (by decide +kernel) ?_
  refine j_runA hx 1 (tb := [(17, .iconst 1)]) (jtb_ok (by decide +kernel)) (pc' := 18) (lv' := [(0, vR t), (1, vI a1), (2, vI a2), (3, vI a3), (4, vL a4)]) (st' := [vI (kI 1), vI (jI W3 1601 t), vI a1, vR (jR W3 1604 t)]) rfl ?_
  refine j_icmp_ne hx (off := 8) (tgt := 26) (by decide +kernel) (by decide) (fun _ => ?_) (fun _ => ?_)
  · refine j_runA hx 1 (tb := [(26, .iconst 0)]) (jtb_ok (by decide +kernel)) (pc' := 27) (lv' := [(0, vR t), (1, vI a1), (2, vI a2), (3, vI a3), (4, vL a4)]) (st' := [vI (kI 0), vI a1, vR (jR W3 1604 t)]) rfl ?_
    exact wrn_make_27 h (kI 0) a1 (jR W3 1604 t) W3
  refine j_runA hx 2 (tb := [(21, .iload_n 2), (22, .i2b)]) (jtb_ok (by decide +kernel)) (pc' := 23) (lv' := [(0, vR t), (1, vI a1), (2, vI a2), (3, vI a3), (4, vL a4)]) (st' := [vI (i2b a2), vI a1, vR (jR W3 1604 t)]) rfl ?_
  refine j_goto hx (off := 4) (by decide +kernel) (tgt := 27) (by decide) ?_
  exact wrn_make_27 h (i2b a2) a1 (jR W3 1604 t) W3
theorem crn_make (t : Nat) (a1 : Int32) (a2 : Int32) (a3 : Int32) (a4 : Int64) (W : jW) : jM yX11_make cX11_make 6 (Option.none : Option Jvm.ClassFile.FieldType) [] 0 0 [vR t, vI a1, vI a2, vI a3, vL a4] W ((frn_make t a1 a2 a3 a4 W).bind (fun q => some (.returned none, q))) := 
  jM.of (Nat.le_of_ble_eq_true rfl) (fun x hx hm hr => wrn_make ⟨hx, hm, hr, fun _ => rfl⟩ W)
def hrn_isCodeOrStack (x : jCx) (en : (Int32) → Option (Outcome × jW)) (t : Nat) (a1 : Int32) (W : jW) : Prop :=
  jOK x RX11 cX11_isCodeOrStack 2 ∧
  jMt x "isCodeOrStack" (Option.some Jvm.ClassFile.FieldType.boolean) [] ∧
  jRm x 0 0 ∧
  (∀ q : Int32, en q = some (.returned (some (.int q)), W))
theorem wrn_isCodeOrStack_21 {x : jCx} {en : (Int32) → Option (Outcome × jW)} {W : jW} {t : Nat} {a1 : Int32} (h : hrn_isCodeOrStack x en t a1 W) : jJ x 2 21 [(0, vR t), (1, vI a1)] [] W (frn_isCodeOrStack_21 t a1 W) en := by
  have h0 := h
  obtain ⟨hx, hm, hr, he⟩ := h0
  unfold frn_isCodeOrStack_21
  refine j_runA hx 1 (tb := [(21, .iconst 0)]) (jtb_ok (by decide +kernel)) (pc' := 22) (lv' := [(0, vR t), (1, vI a1)]) (st' := [vI (kI 0)]) rfl ?_
  exact j_iret hx hm (by decide +kernel) jz0n (he _)
theorem wrn_isCodeOrStack {x : jCx} {en : (Int32) → Option (Outcome × jW)} {W : jW} {t : Nat} {a1 : Int32} (h : hrn_isCodeOrStack x en t a1 W) : jJ x 2 0 [(0, vR t), (1, vI a1)] [] W (frn_isCodeOrStack t a1 W) en := by
  have h0 := h
  obtain ⟨hx, hm, hr, he⟩ := h0
  unfold frn_isCodeOrStack
  refine j_runA hx 1 (tb := [(0, .aload_n 0)]) (jtb_ok (by decide +kernel)) (pc' := 1) (lv' := [(0, vR t), (1, vI a1)]) (st' := [vR t]) rfl ?_
  refine j_gd (fun h1 => ?_)
  refine j_getI hx flX11_46 kd1601 h1 (by decide) (by decide +kernel) ?_
  refine j_runA hx 1 (tb := [(4, .iconst 1)]) (jtb_ok (by decide +kernel)) (pc' := 5) (lv' := [(0, vR t), (1, vI a1)]) (st' := [vI (kI 1), vI (jI W 1601 t)]) rfl ?_
  refine j_icmp_ne hx (off := 16) (tgt := 21) (by decide +kernel) (by decide) (fun _ => ?_) (fun _ => ?_)
  · exact wrn_isCodeOrStack_21 h
  refine j_runA hx 1 (tb := [(8, .aload_n 0)]) (jtb_ok (by decide +kernel)) (pc' := 9) (lv' := [(0, vR t), (1, vI a1)]) (st' := [vR t]) rfl ?_
  refine j_getR hx flX11_15 kl1604 h1 (by decide) (by decide +kernel) ?_
  refine j_runA hx 1 (tb := [(12, .iload_n 1)]) (jtb_ok (by decide +kernel)) (pc' := 13) (lv' := [(0, vR t), (1, vI a1)]) (st' := [vI a1, vR (jR W 1604 t)]) rfl ?_
  refine j_gd (fun h2 => ?_)
  refine j_bald hx (f := 1604) (o := t) kd1604 rfl (by decide +kernel) h2 ?_
  refine j_if_eq hx (off := 7) (tgt := 21) (by decide +kernel) (by decide) (fun _ => ?_) (fun _ => ?_)
  · exact wrn_isCodeOrStack_21 h
  refine j_runA hx 1 (tb := [(17, .iconst 1)]) (jtb_ok (by decide +kernel)) (pc' := 18) (lv' := [(0, vR t), (1, vI a1)]) (st' := [vI (kI 1)]) rfl ?_
  refine j_goto hx (off := 4) (by decide +kernel) (tgt := 22) (by decide) ?_
  exact j_iret hx hm (by decide +kernel) jz1n (he _)
theorem crn_isCodeOrStack (t : Nat) (a1 : Int32) (W : jW) : jM yX11_isCodeOrStack cX11_isCodeOrStack 2 (Option.some Jvm.ClassFile.FieldType.boolean) [] 0 0 [vR t, vI a1] W ((frn_isCodeOrStack t a1 W).bind (fun q => some (.returned (some (.int q)), W))) := 
  jM.of (Nat.le_of_ble_eq_true rfl) (fun x hx hm hr => wrn_isCodeOrStack ⟨hx, hm, hr, fun _ => rfl⟩)
def hrn_below (x : jCx) (en : (Int32) → Option (Outcome × jW)) (a0 : Int64) (a2 : Int64) (W : jW) : Prop :=
  jOK x RX11 cX11_below 4 ∧
  jMt x "below" (Option.some Jvm.ClassFile.FieldType.boolean) [] ∧
  jRm x 0 0 ∧
  (∀ q : Int32, en q = some (.returned (some (.int q)), W))
theorem wrn_below {x : jCx} {en : (Int32) → Option (Outcome × jW)} {W : jW} {a0 : Int64} {a2 : Int64} (h : hrn_below x en a0 a2 W) : jJ x 4 0 [(0, vL a0), (2, vL a2)] [] W (some (frn_below a0 a2)) en := by
  have h0 := h
  obtain ⟨hx, hm, hr, he⟩ := h0
  unfold frn_below
  refine j_runA hx 1 (tb := [(0, .lload_n 0)]) (jtb_ok (by decide +kernel)) (pc' := 1) (lv' := [(0, vL a0), (2, vL a2)]) (st' := [vL a0]) rfl ?_
  refine j_ldc2 hx (v := (kJ (-9223372036854775808))) (jkd2 q3414 (by decide +kernel)) (by decide +kernel) ?_
  refine j_runA hx 2 (tb := [(4, .ladd), (5, .lload_n 2)]) (jtb_ok (by decide +kernel)) (pc' := 6) (lv' := [(0, vL a0), (2, vL a2)]) (st' := [vL a2, vL (a0 + (kJ (-9223372036854775808)))]) rfl ?_
  refine j_ldc2 hx (v := (kJ (-9223372036854775808))) (jkd2 q3414 (by decide +kernel)) (by decide +kernel) ?_
  refine j_runA hx 1 (tb := [(9, .ladd)]) (jtb_ok (by decide +kernel)) (pc' := 10) (lv' := [(0, vL a0), (2, vL a2)]) (st' := [vL (a2 + (kJ (-9223372036854775808))), vL (a0 + (kJ (-9223372036854775808)))]) rfl ?_
  refine j_tot (j_lcmp_ge hx (off := 7) (tgt := 18) (by decide +kernel) (by decide +kernel) (by decide) (fun _ => ?_) (fun _ => ?_))
  · refine j_runA hx 1 (tb := [(18, .iconst 0)]) (jtb_ok (by decide +kernel)) (pc' := 19) (lv' := [(0, vL a0), (2, vL a2)]) (st' := [vI (kI 0)]) rfl ?_
    exact j_iret hx hm (by decide +kernel) jz0n (he _)
  refine j_runA hx 1 (tb := [(14, .iconst 1)]) (jtb_ok (by decide +kernel)) (pc' := 15) (lv' := [(0, vL a0), (2, vL a2)]) (st' := [vI (kI 1)]) rfl ?_
  refine j_goto hx (off := 4) (by decide +kernel) (tgt := 19) (by decide) ?_
  exact j_iret hx hm (by decide +kernel) jz1n (he _)
theorem crn_below (a0 : Int64) (a2 : Int64) (W : jW) : jM yX11_below cX11_below 4 (Option.some Jvm.ClassFile.FieldType.boolean) [] 0 0 [vL a0, vL a2] W (some (.returned (some (.int (frn_below a0 a2))), W)) := 
  jM.of (mm := some (frn_below a0 a2)) (en := fun q => some (.returned (some (.int q)), W)) (Nat.le_of_ble_eq_true rfl) (fun x hx hm hr => wrn_below ⟨hx, hm, hr, fun _ => rfl⟩)
def hrn_sum (x : jCx) (en : (Int64 × jW) → Option (Outcome × jW)) (t : Nat) (a1 : Int64) (a3 : Int64) (a5 : Int32) (a6 : Int32) (a7 : Int32) : Prop :=
  jOK x RX11 cX11_sum 16 ∧
  jMt x "sum" (Option.some Jvm.ClassFile.FieldType.long) [] ∧
  jRm x 1 16 ∧
  (∀ q : Int64 × jW, en q = some (.returned (some (.long q.1)), q.2))
theorem wrn_sum_244 {x : jCx} {en : (Int64 × jW) → Option (Outcome × jW)} {t : Nat} {a1 : Int64} {a3 : Int64} {a5 : Int32} {a6 : Int32} {a7 : Int32} (h : hrn_sum x en t a1 a3 a5 a6 a7) (l10 : Int64) (s0 : Int32) (s1 : Nat) (W : jW) : jJ x 16 244 [(0, vR t), (1, vL a1), (3, vL a3), (5, vI a5), (6, vI a6), (7, vI a7), (10, vL l10)] [vI s0, vR s1] W (frn_sum_244 t a1 a3 a5 a6 a7 l10 s0 s1 W) en := by
  have h0 := h
  obtain ⟨hx, hm, hr, he⟩ := h0
  unfold frn_sum_244
  refine j_gd (fun h31 => ?_)
  refine j_gd (fun h32 => ?_)
  refine j_putI hx fwX11_59 wf1607 kd1607 h31 (by decide) (by decide +kernel) (nz1607 h32) (fz1607 h32) ?_
  refine j_ltw rfl (fun W33 hc34 => ?_)
  have h35 : jC W33 s1 = 16 := (congrFun hc34 _).trans h31
  refine j_runA hx 1 (tb := [(247, .lload 10)]) (jtb_ok (by decide +kernel)) (pc' := 249) (lv' := [(0, vR t), (1, vL a1), (3, vL a3), (5, vI a5), (6, vI a6), (7, vI a7), (10, vL l10)]) (st' := [vL l10]) rfl ?_
  exact j_lret hx hm (by decide +kernel) (he _)
theorem wrn_sum_231 {x : jCx} {en : (Int64 × jW) → Option (Outcome × jW)} {t : Nat} {a1 : Int64} {a3 : Int64} {a5 : Int32} {a6 : Int32} {a7 : Int32} (h : hrn_sum x en t a1 a3 a5 a6 a7) (l10 : Int64) (W : jW) : jJ x 16 231 [(0, vR t), (1, vL a1), (3, vL a3), (5, vI a5), (6, vI a6), (7, vI a7), (10, vL l10)] [] W (frn_sum_231 t a1 a3 a5 a6 a7 l10 W) en := by
  have h0 := h
  obtain ⟨hx, hm, hr, he⟩ := h0
  unfold frn_sum_231
  refine j_runA hx 3 (tb := [(231, .aload_n 0), (232, .lload 10), (234, .lconst 0)]) (jtb_ok (by decide +kernel)) (pc' := 235) (lv' := [(0, vR t), (1, vL a1), (3, vL a3), (5, vI a5), (6, vI a6), (7, vI a7), (10, vL l10)]) (st' := [vL (kJ 0), vL l10, vR t]) rfl ?_
  refine j_lcmp_ne hx (off := 7) (tgt := 243) (by decide +kernel) (by decide +kernel) (by decide) (fun _ => ?_) (fun _ => ?_)
  · refine j_runA hx 1 (tb := [(243, .iconst 0)]) (jtb_ok (by decide +kernel)) (pc' := 244) (lv' := [(0, vR t), (1, vL a1), (3, vL a3), (5, vI a5), (6, vI a6), (7, vI a7), (10, vL l10)]) (st' := [vI (kI 0), vR t]) rfl ?_
    exact wrn_sum_244 h l10 (kI 0) t W
  refine j_runA hx 1 (tb := [(239, .iconst 1)]) (jtb_ok (by decide +kernel)) (pc' := 240) (lv' := [(0, vR t), (1, vL a1), (3, vL a3), (5, vI a5), (6, vI a6), (7, vI a7), (10, vL l10)]) (st' := [vI (kI 1), vR t]) rfl ?_
  refine j_goto hx (off := 4) (by decide +kernel) (tgt := 244) (by decide) ?_
  exact wrn_sum_244 h l10 (kI 1) t W
theorem wrn_sum_128 {x : jCx} {en : (Int64 × jW) → Option (Outcome × jW)} {t : Nat} {a1 : Int64} {a3 : Int64} {a5 : Int32} {a6 : Int32} {a7 : Int32} (h : hrn_sum x en t a1 a3 a5 a6 a7) (l10 : Int64) (s0 : Int32) (s1 : Nat) (W : jW) : jJ x 16 128 [(0, vR t), (1, vL a1), (3, vL a3), (5, vI a5), (6, vI a6), (7, vI a7), (10, vL l10)] [vI s0, vR s1] W (frn_sum_128 t a1 a3 a5 a6 a7 l10 s0 s1 W) en := by
  have h0 := h
  obtain ⟨hx, hm, hr, he⟩ := h0
  unfold frn_sum_128
  refine j_gd (fun h23 => ?_)
  refine j_gd (fun h24 => ?_)
  refine j_putI hx fwX11_65 wf1609 kd1609 h23 (by decide) (by decide +kernel) (nz1609 h24) (fz1609 h24) ?_
  refine j_ltw rfl (fun W25 hc26 => ?_)
  have h27 : jC W25 s1 = 16 := (congrFun hc26 _).trans h23
  refine j_goto hx (off := 100) (by decide +kernel) (tgt := 231) (by decide) ?_
  exact wrn_sum_231 h l10 W25
theorem wrn_sum_104 {x : jCx} {en : (Int64 × jW) → Option (Outcome × jW)} {t : Nat} {a1 : Int64} {a3 : Int64} {a5 : Int32} {a6 : Int32} {a7 : Int32} (h : hrn_sum x en t a1 a3 a5 a6 a7) (l8 : Int64) (l10 : Int64) (s0 : Int32) (s1 : Nat) (W : jW) : jJ x 16 104 [(0, vR t), (1, vL a1), (3, vL a3), (5, vI a5), (6, vI a6), (7, vI a7), (8, vL l8), (10, vL l10)] [vI s0, vR s1] W (frn_sum_104 t a1 a3 a5 a6 a7 l8 l10 s0 s1 W) en := by
  have h0 := h
  obtain ⟨hx, hm, hr, he⟩ := h0
  unfold frn_sum_104
  refine j_gd (fun h16 => ?_)
  refine j_gd (fun h17 => ?_)
  refine j_putI hx fwX11_62 wf1608 kd1608 h16 (by decide) (by decide +kernel) (nz1608 h17) (fz1608 h17) ?_
  refine j_ltw rfl (fun W18 hc19 => ?_)
  have h20 : jC W18 s1 = 16 := (congrFun hc19 _).trans h16
  refine j_runA hx 9 (tb := [(107, .aload_n 0), (108, .lload_n 1), (109, .lload 10), (111, .lxor), (112, .lload 8), (114, .lload 10), (116, .lxor), (117, .land), (118, .lconst 0)]) (jtb_ok (by decide +kernel)) (pc' := 119) (lv' := [(0, vR t), (1, vL a1), (3, vL a3), (5, vI a5), (6, vI a6), (7, vI a7), (8, vL l8), (10, vL l10)]) (st' := [vL (kJ 0), vL ((a1 ^^^ l10) &&& (l8 ^^^ l10)), vR t]) rfl ?_
  refine j_lcmp_ge hx (off := 7) (tgt := 127) (by decide +kernel) (by decide +kernel) (by decide) (fun _ => ?_) (fun _ => ?_)
  · refine j_runA hx 1 (tb := [(127, .iconst 0)]) (jtb_ok (by decide +kernel)) (pc' := 128) (lv' := [(0, vR t), (1, vL a1), (3, vL a3), (5, vI a5), (6, vI a6), (7, vI a7), (8, vL l8), (10, vL l10)]) (st' := [vI (kI 0), vR t]) rfl ?_
    refine j_lv (lv' := [(0, vR t), (1, vL a1), (3, vL a3), (5, vI a5), (6, vI a6), (7, vI a7), (10, vL l10)]) ⟨rfl, rfl, rfl, rfl, rfl, rfl, rfl, trivial⟩ ?_
    exact wrn_sum_128 h l10 (kI 0) t W18
  refine j_runA hx 1 (tb := [(123, .iconst 1)]) (jtb_ok (by decide +kernel)) (pc' := 124) (lv' := [(0, vR t), (1, vL a1), (3, vL a3), (5, vI a5), (6, vI a6), (7, vI a7), (8, vL l8), (10, vL l10)]) (st' := [vI (kI 1), vR t]) rfl ?_
  refine j_goto hx (off := 4) (by decide +kernel) (tgt := 128) (by decide) ?_
  refine j_lv (lv' := [(0, vR t), (1, vL a1), (3, vL a3), (5, vI a5), (6, vI a6), (7, vI a7), (10, vL l10)]) ⟨rfl, rfl, rfl, rfl, rfl, rfl, rfl, trivial⟩ ?_
  exact wrn_sum_128 h l10 (kI 1) t W18
theorem wrn_sum_73 {x : jCx} {en : (Int64 × jW) → Option (Outcome × jW)} {t : Nat} {a1 : Int64} {a3 : Int64} {a5 : Int32} {a6 : Int32} {a7 : Int32} (h : hrn_sum x en t a1 a3 a5 a6 a7) (l8 : Int64) (l10 : Int64) (s0 : Int32) (s1 : Nat) (W : jW) : jJ x 16 73 [(0, vR t), (1, vL a1), (3, vL a3), (5, vI a5), (6, vI a6), (7, vI a7), (8, vL l8), (10, vL l10)] [vI s0, vR s1] W (frn_sum_73 t a1 a3 a5 a6 a7 l8 l10 s0 s1 W) en := by
  have h0 := h
  obtain ⟨hx, hm, hr, he⟩ := h0
  unfold frn_sum_73
  refine j_gd (fun h9 => ?_)
  refine j_gd (fun h10 => ?_)
  refine j_putI hx fwX11_56 wf1606 kd1606 h9 (by decide) (by decide +kernel) (nz1606 h10) (fz1606 h10) ?_
  refine j_ltw rfl (fun W11 hc12 => ?_)
  have h13 : jC W11 s1 = 16 := (congrFun hc12 _).trans h9
  refine j_runA hx 2 (tb := [(76, .aload_n 0), (77, .iload 5)]) (jtb_ok (by decide +kernel)) (pc' := 79) (lv' := [(0, vR t), (1, vL a1), (3, vL a3), (5, vI a5), (6, vI a6), (7, vI a7), (8, vL l8), (10, vL l10)]) (st' := [vI a5, vR t]) rfl ?_
  refine j_if_eq hx (off := 19) (tgt := 98) (by decide +kernel) (by decide) (fun _ => ?_) (fun _ => ?_)
  · refine j_runA hx 2 (tb := [(98, .lload 10), (100, .lload_n 1)]) (jtb_ok (by decide +kernel)) (pc' := 101) (lv' := [(0, vR t), (1, vL a1), (3, vL a3), (5, vI a5), (6, vI a6), (7, vI a7), (8, vL l8), (10, vL l10)]) (st' := [vL a1, vL l10, vR t]) rfl ?_
    refine j_TI (j_callS (av := [vL l10, vL a1]) (st := [vR t]) hx hr (Or.inl q3411) q3412 q244 md_frn_below np_frn_below (crn_below l10 a1 W11) (by decide) (Nat.le_of_ble_eq_true rfl) (by decide +kernel)) ?_
    exact wrn_sum_104 h l8 l10 (frn_below l10 a1) t W11
  refine j_runA hx 2 (tb := [(82, .lload_n 1), (83, .lload_n 3)]) (jtb_ok (by decide +kernel)) (pc' := 84) (lv' := [(0, vR t), (1, vL a1), (3, vL a3), (5, vI a5), (6, vI a6), (7, vI a7), (8, vL l8), (10, vL l10)]) (st' := [vL a3, vL a1, vR t]) rfl ?_
  refine j_TI (j_callS (av := [vL a1, vL a3]) (st := [vR t]) hx hr (Or.inl q3411) q3412 q244 md_frn_below np_frn_below (crn_below a1 a3 W11) (by decide) (Nat.le_of_ble_eq_true rfl) (by decide +kernel)) ?_
  refine j_if_ne hx (off := 7) (tgt := 94) (by decide +kernel) (by decide) (fun _ => ?_) (fun _ => ?_)
  · refine j_runA hx 1 (tb := [(94, .iconst 0)]) (jtb_ok (by decide +kernel)) (pc' := 95) (lv' := [(0, vR t), (1, vL a1), (3, vL a3), (5, vI a5), (6, vI a6), (7, vI a7), (8, vL l8), (10, vL l10)]) (st' := [vI (kI 0), vR t]) rfl ?_
    refine j_goto hx (off := 9) (by decide +kernel) (tgt := 104) (by decide) ?_
    exact wrn_sum_104 h l8 l10 (kI 0) t W11
  refine j_runA hx 1 (tb := [(90, .iconst 1)]) (jtb_ok (by decide +kernel)) (pc' := 91) (lv' := [(0, vR t), (1, vL a1), (3, vL a3), (5, vI a5), (6, vI a6), (7, vI a7), (8, vL l8), (10, vL l10)]) (st' := [vI (kI 1), vR t]) rfl ?_
  refine j_goto hx (off := 13) (by decide +kernel) (tgt := 104) (by decide) ?_
  exact wrn_sum_104 h l8 l10 (kI 1) t W11
theorem wrn_sum_228 {x : jCx} {en : (Int64 × jW) → Option (Outcome × jW)} {t : Nat} {a1 : Int64} {a3 : Int64} {a5 : Int32} {a6 : Int32} {a7 : Int32} (h : hrn_sum x en t a1 a3 a5 a6 a7) (l10 : Int64) (s0 : Int32) (s1 : Nat) (W : jW) : jJ x 16 228 [(0, vR t), (1, vL a1), (3, vL a3), (5, vI a5), (6, vI a6), (7, vI a7), (10, vL l10)] [vI s0, vR s1] W (frn_sum_228 t a1 a3 a5 a6 a7 l10 s0 s1 W) en := by
  have h0 := h
  obtain ⟨hx, hm, hr, he⟩ := h0
  unfold frn_sum_228
  refine j_gd (fun h52 => ?_)
  refine j_gd (fun h53 => ?_)
  refine j_putI hx fwX11_65 wf1609 kd1609 h52 (by decide) (by decide +kernel) (nz1609 h53) (fz1609 h53) ?_
  refine j_ltw rfl (fun W54 hc55 => ?_)
  have h56 : jC W54 s1 = 16 := (congrFun hc55 _).trans h52
  exact wrn_sum_231 h l10 W54
theorem wrn_sum_202 {x : jCx} {en : (Int64 × jW) → Option (Outcome × jW)} {t : Nat} {a1 : Int64} {a3 : Int64} {a5 : Int32} {a6 : Int32} {a7 : Int32} (h : hrn_sum x en t a1 a3 a5 a6 a7) (l8 : Int64) (l10 : Int64) (s0 : Int32) (s1 : Nat) (W : jW) : jJ x 16 202 [(0, vR t), (1, vL a1), (3, vL a3), (5, vI a5), (6, vI a6), (7, vI a7), (8, vL l8), (10, vL l10)] [vI s0, vR s1] W (frn_sum_202 t a1 a3 a5 a6 a7 l8 l10 s0 s1 W) en := by
  have h0 := h
  obtain ⟨hx, hm, hr, he⟩ := h0
  unfold frn_sum_202
  refine j_gd (fun h45 => ?_)
  refine j_gd (fun h46 => ?_)
  refine j_putI hx fwX11_62 wf1608 kd1608 h45 (by decide) (by decide +kernel) (nz1608 h46) (fz1608 h46) ?_
  refine j_ltw rfl (fun W47 hc48 => ?_)
  have h49 : jC W47 s1 = 16 := (congrFun hc48 _).trans h45
  refine j_runA hx 12 (tb := [(205, .aload_n 0), (206, .lload_n 1), (207, .l2i), (208, .lload 10), (210, .l2i), (211, .ixor), (212, .lload 8), (214, .l2i), (215, .lload 10), (217, .l2i), (218, .ixor), (219, .iand)]) (jtb_ok (by decide +kernel)) (pc' := 220) (lv' := [(0, vR t), (1, vL a1), (3, vL a3), (5, vI a5), (6, vI a6), (7, vI a7), (8, vL l8), (10, vL l10)]) (st' := [vI ((a1.toInt32 ^^^ l10.toInt32) &&& (l8.toInt32 ^^^ l10.toInt32)), vR t]) rfl ?_
  refine j_if_ge hx (off := 7) (tgt := 227) (by decide +kernel) (by decide) (fun _ => ?_) (fun _ => ?_)
  · refine j_runA hx 1 (tb := [(227, .iconst 0)]) (jtb_ok (by decide +kernel)) (pc' := 228) (lv' := [(0, vR t), (1, vL a1), (3, vL a3), (5, vI a5), (6, vI a6), (7, vI a7), (8, vL l8), (10, vL l10)]) (st' := [vI (kI 0), vR t]) rfl ?_
    refine j_lv (lv' := [(0, vR t), (1, vL a1), (3, vL a3), (5, vI a5), (6, vI a6), (7, vI a7), (10, vL l10)]) ⟨rfl, rfl, rfl, rfl, rfl, rfl, rfl, trivial⟩ ?_
    exact wrn_sum_228 h l10 (kI 0) t W47
  refine j_runA hx 1 (tb := [(223, .iconst 1)]) (jtb_ok (by decide +kernel)) (pc' := 224) (lv' := [(0, vR t), (1, vL a1), (3, vL a3), (5, vI a5), (6, vI a6), (7, vI a7), (8, vL l8), (10, vL l10)]) (st' := [vI (kI 1), vR t]) rfl ?_
  refine j_goto hx (off := 4) (by decide +kernel) (tgt := 228) (by decide) ?_
  refine j_lv (lv' := [(0, vR t), (1, vL a1), (3, vL a3), (5, vI a5), (6, vI a6), (7, vI a7), (10, vL l10)]) ⟨rfl, rfl, rfl, rfl, rfl, rfl, rfl, trivial⟩ ?_
  exact wrn_sum_228 h l10 (kI 1) t W47
theorem wrn_sum_160 {x : jCx} {en : (Int64 × jW) → Option (Outcome × jW)} {t : Nat} {a1 : Int64} {a3 : Int64} {a5 : Int32} {a6 : Int32} {a7 : Int32} (h : hrn_sum x en t a1 a3 a5 a6 a7) (l8 : Int64) (l10 : Int64) (l12 : Int64) (l14 : Int64) (s0 : Int32) (s1 : Nat) (W : jW) : jJ x 16 160 [(0, vR t), (1, vL a1), (3, vL a3), (5, vI a5), (6, vI a6), (7, vI a7), (8, vL l8), (10, vL l10), (12, vL l12), (14, vL l14)] [vI s0, vR s1] W (frn_sum_160 t a1 a3 a5 a6 a7 l8 l10 l12 l14 s0 s1 W) en := by
  have h0 := h
  obtain ⟨hx, hm, hr, he⟩ := h0
  unfold frn_sum_160
  refine j_gd (fun h38 => ?_)
  refine j_gd (fun h39 => ?_)
  refine j_putI hx fwX11_56 wf1606 kd1606 h38 (by decide) (by decide +kernel) (nz1606 h39) (fz1606 h39) ?_
  refine j_ltw rfl (fun W40 hc41 => ?_)
  have h42 : jC W40 s1 = 16 := (congrFun hc41 _).trans h38
  refine j_runA hx 2 (tb := [(163, .aload_n 0), (164, .iload 5)]) (jtb_ok (by decide +kernel)) (pc' := 166) (lv' := [(0, vR t), (1, vL a1), (3, vL a3), (5, vI a5), (6, vI a6), (7, vI a7), (8, vL l8), (10, vL l10), (12, vL l12), (14, vL l14)]) (st' := [vI a5, vR t]) rfl ?_
  refine j_if_eq hx (off := 19) (tgt := 185) (by decide +kernel) (by decide) (fun _ => ?_) (fun _ => ?_)
  · refine j_runA hx 3 (tb := [(185, .lload 12), (187, .lload 14), (189, .ladd)]) (jtb_ok (by decide +kernel)) (pc' := 190) (lv' := [(0, vR t), (1, vL a1), (3, vL a3), (5, vI a5), (6, vI a6), (7, vI a7), (8, vL l8), (10, vL l10), (12, vL l12), (14, vL l14)]) (st' := [vL (l12 + l14), vR t]) rfl ?_
    refine j_ldc2 hx (v := (kJ 4294967295)) (jkd2 q3406 (by decide +kernel)) (by decide +kernel) ?_
    refine j_lcmp_le hx (off := 7) (tgt := 201) (by decide +kernel) (by decide +kernel) (by decide) (fun _ => ?_) (fun _ => ?_)
    · refine j_runA hx 1 (tb := [(201, .iconst 0)]) (jtb_ok (by decide +kernel)) (pc' := 202) (lv' := [(0, vR t), (1, vL a1), (3, vL a3), (5, vI a5), (6, vI a6), (7, vI a7), (8, vL l8), (10, vL l10), (12, vL l12), (14, vL l14)]) (st' := [vI (kI 0), vR t]) rfl ?_
      refine j_lv (lv' := [(0, vR t), (1, vL a1), (3, vL a3), (5, vI a5), (6, vI a6), (7, vI a7), (8, vL l8), (10, vL l10)]) ⟨rfl, rfl, rfl, rfl, rfl, rfl, rfl, rfl, trivial⟩ ?_
      exact wrn_sum_202 h l8 l10 (kI 0) t W40
    refine j_runA hx 1 (tb := [(197, .iconst 1)]) (jtb_ok (by decide +kernel)) (pc' := 198) (lv' := [(0, vR t), (1, vL a1), (3, vL a3), (5, vI a5), (6, vI a6), (7, vI a7), (8, vL l8), (10, vL l10), (12, vL l12), (14, vL l14)]) (st' := [vI (kI 1), vR t]) rfl ?_
    refine j_goto hx (off := 4) (by decide +kernel) (tgt := 202) (by decide) ?_
    refine j_lv (lv' := [(0, vR t), (1, vL a1), (3, vL a3), (5, vI a5), (6, vI a6), (7, vI a7), (8, vL l8), (10, vL l10)]) ⟨rfl, rfl, rfl, rfl, rfl, rfl, rfl, rfl, trivial⟩ ?_
    exact wrn_sum_202 h l8 l10 (kI 1) t W40
  refine j_runA hx 2 (tb := [(169, .lload 12), (171, .lload 14)]) (jtb_ok (by decide +kernel)) (pc' := 173) (lv' := [(0, vR t), (1, vL a1), (3, vL a3), (5, vI a5), (6, vI a6), (7, vI a7), (8, vL l8), (10, vL l10), (12, vL l12), (14, vL l14)]) (st' := [vL l14, vL l12, vR t]) rfl ?_
  refine j_lcmp_lt hx (off := 7) (tgt := 181) (by decide +kernel) (by decide +kernel) (by decide) (fun _ => ?_) (fun _ => ?_)
  · refine j_runA hx 1 (tb := [(181, .iconst 0)]) (jtb_ok (by decide +kernel)) (pc' := 182) (lv' := [(0, vR t), (1, vL a1), (3, vL a3), (5, vI a5), (6, vI a6), (7, vI a7), (8, vL l8), (10, vL l10), (12, vL l12), (14, vL l14)]) (st' := [vI (kI 0), vR t]) rfl ?_
    refine j_goto hx (off := 20) (by decide +kernel) (tgt := 202) (by decide) ?_
    refine j_lv (lv' := [(0, vR t), (1, vL a1), (3, vL a3), (5, vI a5), (6, vI a6), (7, vI a7), (8, vL l8), (10, vL l10)]) ⟨rfl, rfl, rfl, rfl, rfl, rfl, rfl, rfl, trivial⟩ ?_
    exact wrn_sum_202 h l8 l10 (kI 0) t W40
  refine j_runA hx 1 (tb := [(177, .iconst 1)]) (jtb_ok (by decide +kernel)) (pc' := 178) (lv' := [(0, vR t), (1, vL a1), (3, vL a3), (5, vI a5), (6, vI a6), (7, vI a7), (8, vL l8), (10, vL l10), (12, vL l12), (14, vL l14)]) (st' := [vI (kI 1), vR t]) rfl ?_
  refine j_goto hx (off := 24) (by decide +kernel) (tgt := 202) (by decide) ?_
  refine j_lv (lv' := [(0, vR t), (1, vL a1), (3, vL a3), (5, vI a5), (6, vI a6), (7, vI a7), (8, vL l8), (10, vL l10)]) ⟨rfl, rfl, rfl, rfl, rfl, rfl, rfl, rfl, trivial⟩ ?_
  exact wrn_sum_202 h l8 l10 (kI 1) t W40
theorem wrn_sum_47 {x : jCx} {en : (Int64 × jW) → Option (Outcome × jW)} {t : Nat} {a1 : Int64} {a3 : Int64} {a5 : Int32} {a6 : Int32} {a7 : Int32} (h : hrn_sum x en t a1 a3 a5 a6 a7) (l8 : Int64) (l10 : Int64) (W : jW) : jJ x 16 47 [(0, vR t), (1, vL a1), (3, vL a3), (5, vI a5), (6, vI a6), (7, vI a7), (8, vL l8), (10, vL l10)] [] W (frn_sum_47 t a1 a3 a5 a6 a7 l8 l10 W) en := by
  have h0 := h
  obtain ⟨hx, hm, hr, he⟩ := h0
  unfold frn_sum_47
  refine j_runA hx 1 (tb := [(47, .iload 7)]) (jtb_ok (by decide +kernel)) (pc' := 49) (lv' := [(0, vR t), (1, vL a1), (3, vL a3), (5, vI a5), (6, vI a6), (7, vI a7), (8, vL l8), (10, vL l10)]) (st' := [vI a7]) rfl ?_
  refine j_if_ne hx (off := 6) (tgt := 55) (by decide +kernel) (by decide) (fun _ => ?_) (fun _ => ?_)
  · refine j_runA hx 1 (tb := [(55, .iload 6)]) (jtb_ok (by decide +kernel)) (pc' := 57) (lv' := [(0, vR t), (1, vL a1), (3, vL a3), (5, vI a5), (6, vI a6), (7, vI a7), (8, vL l8), (10, vL l10)]) (st' := [vI a6]) rfl ?_
    refine j_if_eq hx (off := 77) (tgt := 134) (by decide +kernel) (by decide) (fun _ => ?_) (fun _ => ?_)
    · refine j_runA hx 1 (tb := [(134, .lload_n 1)]) (jtb_ok (by decide +kernel)) (pc' := 135) (lv' := [(0, vR t), (1, vL a1), (3, vL a3), (5, vI a5), (6, vI a6), (7, vI a7), (8, vL l8), (10, vL l10)]) (st' := [vL a1]) rfl ?_
      refine j_ldc2 hx (v := (kJ 4294967295)) (jkd2 q3406 (by decide +kernel)) (by decide +kernel) ?_
      refine j_runA hx 2 (tb := [(138, .land), (139, .lstore 12)]) (jtb_ok (by decide +kernel)) (pc' := 141) (lv' := [(12, vL (a1 &&& (kJ 4294967295))), (0, vR t), (1, vL a1), (3, vL a3), (5, vI a5), (6, vI a6), (7, vI a7), (8, vL l8), (10, vL l10)]) (st' := []) rfl ?_
      refine j_let (v := (a1 &&& (kJ 4294967295))) (lv := fun v6 => [(12, vL v6), (0, vR t), (1, vL a1), (3, vL a3), (5, vI a5), (6, vI a6), (7, vI a7), (8, vL l8), (10, vL l10)]) (st := fun _ => []) (fun v6 => ?_)
      refine j_runA hx 1 (tb := [(141, .lload_n 3)]) (jtb_ok (by decide +kernel)) (pc' := 142) (lv' := [(12, vL v6), (0, vR t), (1, vL a1), (3, vL a3), (5, vI a5), (6, vI a6), (7, vI a7), (8, vL l8), (10, vL l10)]) (st' := [vL a3]) rfl ?_
      refine j_ldc2 hx (v := (kJ 4294967295)) (jkd2 q3406 (by decide +kernel)) (by decide +kernel) ?_
      refine j_runA hx 2 (tb := [(145, .land), (146, .lstore 14)]) (jtb_ok (by decide +kernel)) (pc' := 148) (lv' := [(14, vL (a3 &&& (kJ 4294967295))), (12, vL v6), (0, vR t), (1, vL a1), (3, vL a3), (5, vI a5), (6, vI a6), (7, vI a7), (8, vL l8), (10, vL l10)]) (st' := []) rfl ?_
      refine j_let (v := (a3 &&& (kJ 4294967295))) (lv := fun v7 => [(14, vL v7), (12, vL v6), (0, vR t), (1, vL a1), (3, vL a3), (5, vI a5), (6, vI a6), (7, vI a7), (8, vL l8), (10, vL l10)]) (st := fun _ => []) (fun v7 => ?_)
      refine j_runA hx 3 (tb := [(148, .aload_n 0), (149, .lload 10), (151, .l2i)]) (jtb_ok (by decide +kernel)) (pc' := 152) (lv' := [(14, vL v7), (12, vL v6), (0, vR t), (1, vL a1), (3, vL a3), (5, vI a5), (6, vI a6), (7, vI a7), (8, vL l8), (10, vL l10)]) (st' := [vI l10.toInt32, vR t]) rfl ?_
      refine j_if_ge hx (off := 7) (tgt := 159) (by decide +kernel) (by decide) (fun _ => ?_) (fun _ => ?_)
      · refine j_runA hx 1 (tb := [(159, .iconst 0)]) (jtb_ok (by decide +kernel)) (pc' := 160) (lv' := [(14, vL v7), (12, vL v6), (0, vR t), (1, vL a1), (3, vL a3), (5, vI a5), (6, vI a6), (7, vI a7), (8, vL l8), (10, vL l10)]) (st' := [vI (kI 0), vR t]) rfl ?_
        refine j_lv (lv' := [(0, vR t), (1, vL a1), (3, vL a3), (5, vI a5), (6, vI a6), (7, vI a7), (8, vL l8), (10, vL l10), (12, vL v6), (14, vL v7)]) ⟨rfl, rfl, rfl, rfl, rfl, rfl, rfl, rfl, rfl, rfl, trivial⟩ ?_
        exact wrn_sum_160 h l8 l10 v6 v7 (kI 0) t W
      refine j_runA hx 1 (tb := [(155, .iconst 1)]) (jtb_ok (by decide +kernel)) (pc' := 156) (lv' := [(14, vL v7), (12, vL v6), (0, vR t), (1, vL a1), (3, vL a3), (5, vI a5), (6, vI a6), (7, vI a7), (8, vL l8), (10, vL l10)]) (st' := [vI (kI 1), vR t]) rfl ?_
      refine j_goto hx (off := 4) (by decide +kernel) (tgt := 160) (by decide) ?_
      refine j_lv (lv' := [(0, vR t), (1, vL a1), (3, vL a3), (5, vI a5), (6, vI a6), (7, vI a7), (8, vL l8), (10, vL l10), (12, vL v6), (14, vL v7)]) ⟨rfl, rfl, rfl, rfl, rfl, rfl, rfl, rfl, rfl, rfl, trivial⟩ ?_
      exact wrn_sum_160 h l8 l10 v6 v7 (kI 1) t W
    refine j_runA hx 3 (tb := [(60, .aload_n 0), (61, .lload 10), (63, .lconst 0)]) (jtb_ok (by decide +kernel)) (pc' := 64) (lv' := [(0, vR t), (1, vL a1), (3, vL a3), (5, vI a5), (6, vI a6), (7, vI a7), (8, vL l8), (10, vL l10)]) (st' := [vL (kJ 0), vL l10, vR t]) rfl ?_
    refine j_lcmp_ge hx (off := 7) (tgt := 72) (by decide +kernel) (by decide +kernel) (by decide) (fun _ => ?_) (fun _ => ?_)
    · refine j_runA hx 1 (tb := [(72, .iconst 0)]) (jtb_ok (by decide +kernel)) (pc' := 73) (lv' := [(0, vR t), (1, vL a1), (3, vL a3), (5, vI a5), (6, vI a6), (7, vI a7), (8, vL l8), (10, vL l10)]) (st' := [vI (kI 0), vR t]) rfl ?_
      exact wrn_sum_73 h l8 l10 (kI 0) t W
    refine j_runA hx 1 (tb := [(68, .iconst 1)]) (jtb_ok (by decide +kernel)) (pc' := 69) (lv' := [(0, vR t), (1, vL a1), (3, vL a3), (5, vI a5), (6, vI a6), (7, vI a7), (8, vL l8), (10, vL l10)]) (st' := [vI (kI 1), vR t]) rfl ?_
    refine j_goto hx (off := 4) (by decide +kernel) (tgt := 73) (by decide) ?_
    exact wrn_sum_73 h l8 l10 (kI 1) t W
  refine j_runA hx 1 (tb := [(52, .lload 10)]) (jtb_ok (by decide +kernel)) (pc' := 54) (lv' := [(0, vR t), (1, vL a1), (3, vL a3), (5, vI a5), (6, vI a6), (7, vI a7), (8, vL l8), (10, vL l10)]) (st' := [vL l10]) rfl ?_
  exact j_lret hx hm (by decide +kernel) (he _)
theorem wrn_sum_30 {x : jCx} {en : (Int64 × jW) → Option (Outcome × jW)} {t : Nat} {a1 : Int64} {a3 : Int64} {a5 : Int32} {a6 : Int32} {a7 : Int32} (h : hrn_sum x en t a1 a3 a5 a6 a7) (l8 : Int64) (s0 : Int32) (s1 : Int64) (W : jW) : jJ x 16 30 [(0, vR t), (1, vL a1), (3, vL a3), (5, vI a5), (6, vI a6), (7, vI a7), (8, vL l8)] [vI s0, vL s1] W (frn_sum_30 t a1 a3 a5 a6 a7 l8 s0 s1 W) en := by
  have h0 := h
  obtain ⟨hx, hm, hr, he⟩ := h0
  unfold frn_sum_30
  refine j_runA hx 3 (tb := [(30, .i2l), (31, .ladd), (32, .lstore 10)]) (jtb_ok (by decide +kernel)) (pc' := 34) (lv' := [(10, vL (s1 + s0.toInt64)), (0, vR t), (1, vL a1), (3, vL a3), (5, vI a5), (6, vI a6), (7, vI a7), (8, vL l8)]) (st' := []) rfl ?_
  refine j_let (v := (s1 + s0.toInt64)) (lv := fun v3 => [(10, vL v3), (0, vR t), (1, vL a1), (3, vL a3), (5, vI a5), (6, vI a6), (7, vI a7), (8, vL l8)]) (st := fun _ => []) (fun v3 => ?_)
  refine j_runA hx 1 (tb := [(34, .iload 6)]) (jtb_ok (by decide +kernel)) (pc' := 36) (lv' := [(10, vL v3), (0, vR t), (1, vL a1), (3, vL a3), (5, vI a5), (6, vI a6), (7, vI a7), (8, vL l8)]) (st' := [vI a6]) rfl ?_
  refine j_if_ne hx (off := 11) (tgt := 47) (by decide +kernel) (by decide) (fun _ => ?_) (fun _ => ?_)
  · refine j_lv (lv' := [(0, vR t), (1, vL a1), (3, vL a3), (5, vI a5), (6, vI a6), (7, vI a7), (8, vL l8), (10, vL v3)]) ⟨rfl, rfl, rfl, rfl, rfl, rfl, rfl, rfl, trivial⟩ ?_
    exact wrn_sum_47 h l8 v3 W
  refine j_runA hx 1 (tb := [(39, .lload 10)]) (jtb_ok (by decide +kernel)) (pc' := 41) (lv' := [(10, vL v3), (0, vR t), (1, vL a1), (3, vL a3), (5, vI a5), (6, vI a6), (7, vI a7), (8, vL l8)]) (st' := [vL v3]) rfl ?_
  refine j_ldc2 hx (v := (kJ 4294967295)) (jkd2 q3406 (by decide +kernel)) (by decide +kernel) ?_
  refine j_runA hx 2 (tb := [(44, .land), (45, .lstore 10)]) (jtb_ok (by decide +kernel)) (pc' := 47) (lv' := [(10, vL (v3 &&& (kJ 4294967295))), (0, vR t), (1, vL a1), (3, vL a3), (5, vI a5), (6, vI a6), (7, vI a7), (8, vL l8)]) (st' := []) rfl ?_
  refine j_let (v := (v3 &&& (kJ 4294967295))) (lv := fun v4 => [(10, vL v4), (0, vR t), (1, vL a1), (3, vL a3), (5, vI a5), (6, vI a6), (7, vI a7), (8, vL l8)]) (st := fun _ => []) (fun v4 => ?_)
  refine j_lv (lv' := [(0, vR t), (1, vL a1), (3, vL a3), (5, vI a5), (6, vI a6), (7, vI a7), (8, vL l8), (10, vL v4)]) ⟨rfl, rfl, rfl, rfl, rfl, rfl, rfl, rfl, trivial⟩ ?_
  exact wrn_sum_47 h l8 v4 W
theorem wrn_sum_14 {x : jCx} {en : (Int64 × jW) → Option (Outcome × jW)} {t : Nat} {a1 : Int64} {a3 : Int64} {a5 : Int32} {a6 : Int32} {a7 : Int32} (h : hrn_sum x en t a1 a3 a5 a6 a7) (s0 : Int64) (W : jW) : jJ x 16 14 [(0, vR t), (1, vL a1), (3, vL a3), (5, vI a5), (6, vI a6), (7, vI a7)] [vL s0] W (frn_sum_14 t a1 a3 a5 a6 a7 s0 W) en := by
  have h0 := h
  obtain ⟨hx, hm, hr, he⟩ := h0
  unfold frn_sum_14
  refine j_runA hx 5 (tb := [(14, .lstore 8), (16, .lload_n 1), (17, .lload 8), (19, .ladd), (20, .iload 5)]) (jtb_ok (by decide +kernel)) (pc' := 22) (lv' := [(8, vL s0), (0, vR t), (1, vL a1), (3, vL a3), (5, vI a5), (6, vI a6), (7, vI a7)]) (st' := [vI a5, vL (a1 + s0)]) rfl ?_
  refine j_if_eq hx (off := 7) (tgt := 29) (by decide +kernel) (by decide) (fun _ => ?_) (fun _ => ?_)
  · refine j_runA hx 1 (tb := [(29, .iconst 0)]) (jtb_ok (by decide +kernel)) (pc' := 30) (lv' := [(8, vL s0), (0, vR t), (1, vL a1), (3, vL a3), (5, vI a5), (6, vI a6), (7, vI a7)]) (st' := [vI (kI 0), vL (a1 + s0)]) rfl ?_
    refine j_lv (lv' := [(0, vR t), (1, vL a1), (3, vL a3), (5, vI a5), (6, vI a6), (7, vI a7), (8, vL s0)]) ⟨rfl, rfl, rfl, rfl, rfl, rfl, rfl, trivial⟩ ?_
    exact wrn_sum_30 h s0 (kI 0) (a1 + s0) W
  refine j_runA hx 1 (tb := [(25, .iconst 1)]) (jtb_ok (by decide +kernel)) (pc' := 26) (lv' := [(8, vL s0), (0, vR t), (1, vL a1), (3, vL a3), (5, vI a5), (6, vI a6), (7, vI a7)]) (st' := [vI (kI 1), vL (a1 + s0)]) rfl ?_
  refine j_goto hx (off := 4) (by decide +kernel) (tgt := 30) (by decide) ?_
  refine j_lv (lv' := [(0, vR t), (1, vL a1), (3, vL a3), (5, vI a5), (6, vI a6), (7, vI a7), (8, vL s0)]) ⟨rfl, rfl, rfl, rfl, rfl, rfl, rfl, trivial⟩ ?_
  exact wrn_sum_30 h s0 (kI 1) (a1 + s0) W
theorem wrn_sum {x : jCx} {en : (Int64 × jW) → Option (Outcome × jW)} {t : Nat} {a1 : Int64} {a3 : Int64} {a5 : Int32} {a6 : Int32} {a7 : Int32} (h : hrn_sum x en t a1 a3 a5 a6 a7) (W : jW) : jJ x 16 0 [(0, vR t), (1, vL a1), (3, vL a3), (5, vI a5), (6, vI a6), (7, vI a7)] [] W (frn_sum t a1 a3 a5 a6 a7 W) en := by
  have h0 := h
  obtain ⟨hx, hm, hr, he⟩ := h0
  unfold frn_sum
  refine j_runA hx 1 (tb := [(0, .iload 5)]) (jtb_ok (by decide +kernel)) (pc' := 2) (lv' := [(0, vR t), (1, vL a1), (3, vL a3), (5, vI a5), (6, vI a6), (7, vI a7)]) (st' := [vI a5]) rfl ?_
  refine j_if_eq hx (off := 11) (tgt := 13) (by decide +kernel) (by decide) (fun _ => ?_) (fun _ => ?_)
  · refine j_runA hx 1 (tb := [(13, .lload_n 3)]) (jtb_ok (by decide +kernel)) (pc' := 14) (lv' := [(0, vR t), (1, vL a1), (3, vL a3), (5, vI a5), (6, vI a6), (7, vI a7)]) (st' := [vL a3]) rfl ?_
    exact wrn_sum_14 h a3 W
  refine j_runA hx 1 (tb := [(5, .lload_n 3)]) (jtb_ok (by decide +kernel)) (pc' := 6) (lv' := [(0, vR t), (1, vL a1), (3, vL a3), (5, vI a5), (6, vI a6), (7, vI a7)]) (st' := [vL a3]) rfl ?_
  refine j_ldc2 hx (v := (kJ (-1))) (jkd2 q3370 (by decide +kernel)) (by decide +kernel) ?_
  refine j_runA hx 1 (tb := [(9, .lxor)]) (jtb_ok (by decide +kernel)) (pc' := 10) (lv' := [(0, vR t), (1, vL a1), (3, vL a3), (5, vI a5), (6, vI a6), (7, vI a7)]) (st' := [vL (a3 ^^^ (kJ (-1)))]) rfl ?_
  refine j_goto hx (off := 4) (by decide +kernel) (tgt := 14) (by decide) ?_
  exact wrn_sum_14 h (a3 ^^^ (kJ (-1))) W
theorem crn_sum (t : Nat) (a1 : Int64) (a3 : Int64) (a5 : Int32) (a6 : Int32) (a7 : Int32) (W : jW) : jM yX11_sum cX11_sum 16 (Option.some Jvm.ClassFile.FieldType.long) [] 1 16 [vR t, vL a1, vL a3, vI a5, vI a6, vI a7] W ((frn_sum t a1 a3 a5 a6 a7 W).bind (fun q => some (.returned (some (.long q.1)), q.2))) := 
  jM.of (Nat.le_of_ble_eq_true rfl) (fun x hx hm hr => wrn_sum ⟨hx, hm, hr, fun _ => rfl⟩ W)
