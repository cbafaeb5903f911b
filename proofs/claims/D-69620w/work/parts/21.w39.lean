/-! ===== walks: fmo_writeFix fmo_write fmo_lay fmo_order ===== -/
set_option maxRecDepth 100000
def hmo_writeFix (x : jCx) (en : (jW) → Option (Outcome × jW)) (t : Nat) (a1 : Int32) (a2 : Int64) : Prop :=
  jOK x RX8 cX8_writeFix 16 ∧
  jMt x "writeFix" (Option.none : Option Jvm.ClassFile.FieldType) [] ∧
  jRm x 2 35 ∧
  (∀ q : jW, en q = some (.returned none, q))
theorem wmo_writeFix_282 {x : jCx} {en : (jW) → Option (Outcome × jW)} {t : Nat} {a1 : Int32} {a2 : Int64} (h : hmo_writeFix x en t a1 a2) (l5 : Int64) (l10 : Int64) (l14 : Int64) (W : jW) : jJ x 16 282 [(0, vR t), (1, vI a1), (2, vL a2), (5, vL l5), (10, vL l10), (14, vL l14)] [] W (fmo_writeFix_282 t a1 a2 l5 l10 l14 W) en := by
  have h0 := h
  obtain ⟨hx, hm, hr, he⟩ := h0
  unfold fmo_writeFix_282
  refine j_runA hx 2 (tb := [(282, .aload_n 0), (283, .lload 5)]) (jtb_ok (by decide +kernel)) (pc' := 285) (lv' := [(0, vR t), (1, vI a1), (2, vL a2), (5, vL l5), (10, vL l10), (14, vL l14)]) (st' := [vL l5, vR t]) rfl ?_
  refine j_ldc2 hx (v := (kJ 16)) (jkd2 q2947 (by decide +kernel)) (by decide +kernel) ?_
  refine j_runA hx 5 (tb := [(288, .ladd), (289, .bipush 8), (291, .lload 10), (293, .lload 14), (295, .lsub)]) (jtb_ok (by decide +kernel)) (pc' := 296) (lv' := [(0, vR t), (1, vI a1), (2, vL a2), (5, vL l5), (10, vL l10), (14, vL l14)]) (st' := [vL (l10 - l14), vI (kI 8), vL (l5 + (kJ 16)), vR t]) rfl ?_
  refine j_gd (fun h49 => ?_)
  refine j_WV (j_callV (av := [vL (l5 + (kJ 16)), vI (kI 8), vL (l10 - l14)]) (st := []) hx hr (Or.inl q3268) q3270 qs174 rfl md_fmo_store np_fmo_store (cmo_store t (l5 + (kJ 16)) (kI 8) (l10 - l14) W) (by decide) (Nat.le_of_ble_eq_true rfl) h49 (by decide) (by decide +kernel)) (fun q50 _ => ?_)
  exact j_vret hx hm (by decide +kernel) (he _)
theorem wmo_writeFix_222 {x : jCx} {en : (jW) → Option (Outcome × jW)} {t : Nat} {a1 : Int32} {a2 : Int64} (h : hmo_writeFix x en t a1 a2) (l5 : Int64) (l10 : Int64) (W : jW) : jJ x 16 222 [(0, vR t), (1, vI a1), (2, vL a2), (5, vL l5), (10, vL l10)] [] W (fmo_writeFix_222 t a1 a2 l5 l10 W) en := by
  have h0 := h
  obtain ⟨hx, hm, hr, he⟩ := h0
  unfold fmo_writeFix_222
  refine j_runA hx 1 (tb := [(222, .aload_n 0)]) (jtb_ok (by decide +kernel)) (pc' := 223) (lv' := [(0, vR t), (1, vI a1), (2, vL a2), (5, vL l5), (10, vL l10)]) (st' := [vR t]) rfl ?_
  refine j_gd (fun h41 => ?_)
  refine j_getR hx flX8_23 kl1305 h41 (by decide) (by decide +kernel) ?_
  refine j_runA hx 1 (tb := [(226, .lload_n 2)]) (jtb_ok (by decide +kernel)) (pc' := 227) (lv' := [(0, vR t), (1, vI a1), (2, vL a2), (5, vL l5), (10, vL l10)]) (st' := [vL a2, vR (jR W 1305 t)]) rfl ?_
  refine j_ldc2 hx (v := (kJ 12)) (jkd2 q3018 (by decide +kernel)) (by decide +kernel) ?_
  refine j_runA hx 2 (tb := [(230, .ladd), (231, .iconst 4)]) (jtb_ok (by decide +kernel)) (pc' := 232) (lv' := [(0, vR t), (1, vI a1), (2, vL a2), (5, vL l5), (10, vL l10)]) (st' := [vI (kI 4), vL (a2 + (kJ 12)), vR (jR W 1305 t)]) rfl ?_
  refine j_gd (fun h42 => ?_)
  refine j_OL (j_callV (av := [vL (a2 + (kJ 12)), vI (kI 4)]) (st := []) hx hr (Or.inl q2932) q2823 q2824 rfl md_fhd_num np_fhd_num (chd_num (jR W 1305 t) (a2 + (kJ 12)) (kI 4) W) (by decide) (Nat.le_of_ble_eq_true rfl) h42 (by decide) (by decide +kernel)) (fun q43 _ => ?_)
  refine j_runA hx 3 (tb := [(235, .l2i), (236, .istore 13), (238, .aload_n 0)]) (jtb_ok (by decide +kernel)) (pc' := 239) (lv' := [(13, vI q43.toInt32), (0, vR t), (1, vI a1), (2, vL a2), (5, vL l5), (10, vL l10)]) (st' := [vR t]) rfl ?_
  refine j_getR hx flX8_23 kl1305 h41 (by decide) (by decide +kernel) ?_
  refine j_runA hx 1 (tb := [(242, .aload_n 0)]) (jtb_ok (by decide +kernel)) (pc' := 243) (lv' := [(13, vI q43.toInt32), (0, vR t), (1, vI a1), (2, vL a2), (5, vL l5), (10, vL l10)]) (st' := [vR t, vR (jR W 1305 t)]) rfl ?_
  refine j_getR hx flX8_23 kl1305 h41 (by decide) (by decide +kernel) ?_
  refine j_runA hx 1 (tb := [(246, .iload 13)]) (jtb_ok (by decide +kernel)) (pc' := 248) (lv' := [(13, vI q43.toInt32), (0, vR t), (1, vI a1), (2, vL a2), (5, vL l5), (10, vL l10)]) (st' := [vI q43.toInt32, vR (jR W 1305 t), vR (jR W 1305 t)]) rfl ?_
  refine j_OL (j_callV (av := [vI q43.toInt32]) (st := [vR (jR W 1305 t)]) hx hr (Or.inl q2946) q2898 q2899 rfl md_fhd_symbol np_fhd_symbol (chd_symbol (jR W 1305 t) q43.toInt32 W) (by decide) (Nat.le_of_ble_eq_true rfl) h42 (by decide) (by decide +kernel)) (fun q44 _ => ?_)
  refine j_ldc2 hx (v := (kJ 8)) (jkd2 q2948 (by decide +kernel)) (by decide +kernel) ?_
  refine j_runA hx 2 (tb := [(254, .ladd), (255, .bipush 8)]) (jtb_ok (by decide +kernel)) (pc' := 257) (lv' := [(13, vI q43.toInt32), (0, vR t), (1, vI a1), (2, vL a2), (5, vL l5), (10, vL l10)]) (st' := [vI (kI 8), vL (q44 + (kJ 8)), vR (jR W 1305 t)]) rfl ?_
  refine j_OL (j_callV (av := [vL (q44 + (kJ 8)), vI (kI 8)]) (st := []) hx hr (Or.inl q2932) q2823 q2824 rfl md_fhd_num np_fhd_num (chd_num (jR W 1305 t) (q44 + (kJ 8)) (kI 8) W) (by decide) (Nat.le_of_ble_eq_true rfl) h42 (by decide) (by decide +kernel)) (fun q45 _ => ?_)
  refine j_runA hx 2 (tb := [(260, .lstore 14), (262, .aload_n 0)]) (jtb_ok (by decide +kernel)) (pc' := 263) (lv' := [(14, vL q45), (13, vI q43.toInt32), (0, vR t), (1, vI a1), (2, vL a2), (5, vL l5), (10, vL l10)]) (st' := [vR t]) rfl ?_
  refine j_getR hx flX8_23 kl1305 h41 (by decide) (by decide +kernel) ?_
  refine j_runA hx 1 (tb := [(266, .iload 13)]) (jtb_ok (by decide +kernel)) (pc' := 268) (lv' := [(14, vL q45), (13, vI q43.toInt32), (0, vR t), (1, vI a1), (2, vL a2), (5, vL l5), (10, vL l10)]) (st' := [vI q43.toInt32, vR (jR W 1305 t)]) rfl ?_
  refine j_OI (j_callV (av := [vI q43.toInt32]) (st := []) hx hr (Or.inl q3279) q2943 q2944 rfl md_fhd_isOfText np_fhd_isOfText (chd_isOfText (jR W 1305 t) q43.toInt32 W) (by decide) (Nat.le_of_ble_eq_true rfl) h42 (by decide) (by decide +kernel)) (fun q46 _ => ?_)
  refine j_if_eq hx (off := 11) (tgt := 282) (by decide +kernel) (by decide) (fun _ => ?_) (fun _ => ?_)
  · refine j_lv (lv' := [(0, vR t), (1, vI a1), (2, vL a2), (5, vL l5), (10, vL l10), (14, vL q45)]) ⟨rfl, rfl, rfl, rfl, rfl, rfl, trivial⟩ ?_
    exact wmo_writeFix_282 h l5 l10 q45 W
  refine j_runA hx 2 (tb := [(274, .aload_n 0), (275, .lload 14)]) (jtb_ok (by decide +kernel)) (pc' := 277) (lv' := [(14, vL q45), (13, vI q43.toInt32), (0, vR t), (1, vI a1), (2, vL a2), (5, vL l5), (10, vL l10)]) (st' := [vL q45, vR t]) rfl ?_
  refine j_OL (j_callV (av := [vL q45]) (st := []) hx hr (Or.inl q3272) q3274 qs175 rfl md_fmo_newAddress np_fmo_newAddress (cmo_newAddress t q45 W) (by decide) (Nat.le_of_ble_eq_true rfl) h41 (by decide) (by decide +kernel)) (fun q47 _ => ?_)
  refine j_runA hx 1 (tb := [(280, .lstore 14)]) (jtb_ok (by decide +kernel)) (pc' := 282) (lv' := [(14, vL q47), (13, vI q43.toInt32), (0, vR t), (1, vI a1), (2, vL a2), (5, vL l5), (10, vL l10)]) (st' := []) rfl ?_
  refine j_lv (lv' := [(0, vR t), (1, vI a1), (2, vL a2), (5, vL l5), (10, vL l10), (14, vL q47)]) ⟨rfl, rfl, rfl, rfl, rfl, rfl, trivial⟩ ?_
  exact wmo_writeFix_282 h l5 l10 q47 W
theorem wmo_writeFix_151 {x : jCx} {en : (jW) → Option (Outcome × jW)} {t : Nat} {a1 : Int32} {a2 : Int64} (h : hmo_writeFix x en t a1 a2) (l4 : Int32) (l5 : Int64) (l7 : Int64) (l10 : Int64) (l12 : Int32) (W : jW) : jJ x 16 151 [(0, vR t), (1, vI a1), (2, vL a2), (4, vI l4), (5, vL l5), (7, vL l7), (10, vL l10), (12, vI l12)] [] W (fmo_writeFix_151 t a1 a2 l4 l5 l7 l10 l12 W) en := by
  have h0 := h
  obtain ⟨hx, hm, hr, he⟩ := h0
  unfold fmo_writeFix_151
  refine j_runA hx 1 (tb := [(151, .iload 4)]) (jtb_ok (by decide +kernel)) (pc' := 153) (lv' := [(0, vR t), (1, vI a1), (2, vL a2), (4, vI l4), (5, vL l5), (7, vL l7), (10, vL l10), (12, vI l12)]) (st' := [vI l4]) rfl ?_
  refine j_if_eq hx (off := 20) (tgt := 173) (by decide +kernel) (by decide) (fun _ => ?_) (fun _ => ?_)
  · refine j_runA hx 1 (tb := [(173, .iload 12)]) (jtb_ok (by decide +kernel)) (pc' := 175) (lv' := [(0, vR t), (1, vI a1), (2, vL a2), (4, vI l4), (5, vL l5), (7, vL l7), (10, vL l10), (12, vI l12)]) (st' := [vI l12]) rfl ?_
    refine j_if_eq hx (off := 47) (tgt := 222) (by decide +kernel) (by decide) (fun _ => ?_) (fun _ => ?_)
    · refine j_lv (lv' := [(0, vR t), (1, vI a1), (2, vL a2), (5, vL l5), (10, vL l10)]) ⟨rfl, rfl, rfl, rfl, rfl, trivial⟩ ?_
      exact wmo_writeFix_222 h l5 l10 W
    refine j_runA hx 2 (tb := [(178, .aload_n 0), (179, .aload_n 0)]) (jtb_ok (by decide +kernel)) (pc' := 180) (lv' := [(0, vR t), (1, vI a1), (2, vL a2), (4, vI l4), (5, vL l5), (7, vL l7), (10, vL l10), (12, vI l12)]) (st' := [vR t, vR t]) rfl ?_
    refine j_gd (fun h28 => ?_)
    refine j_getR hx flX8_23 kl1305 h28 (by decide) (by decide +kernel) ?_
    refine j_gd (fun h29 => ?_)
    refine j_getR hx flX8_301 kl1412 h29 (by decide) (by decide +kernel) ?_
    refine j_runA hx 1 (tb := [(186, .aload_n 0)]) (jtb_ok (by decide +kernel)) (pc' := 187) (lv' := [(0, vR t), (1, vI a1), (2, vL a2), (4, vI l4), (5, vL l5), (7, vL l7), (10, vL l10), (12, vI l12)]) (st' := [vR t, vR (jR W 1412 (jR W 1305 t)), vR t]) rfl ?_
    refine j_getR hx flX8_23 kl1305 h28 (by decide) (by decide +kernel) ?_
    refine j_runA hx 1 (tb := [(190, .iload_n 1)]) (jtb_ok (by decide +kernel)) (pc' := 191) (lv' := [(0, vR t), (1, vI a1), (2, vL a2), (4, vI l4), (5, vL l5), (7, vL l7), (10, vL l10), (12, vI l12)]) (st' := [vI a1, vR (jR W 1305 t), vR (jR W 1412 (jR W 1305 t)), vR t]) rfl ?_
    refine j_OI (j_callV (av := [vI a1]) (st := [vR (jR W 1412 (jR W 1305 t)), vR t]) hx hr (Or.inl q3020) q2911 q2912 rfl md_fhd_aim np_fhd_aim (chd_aim (jR W 1305 t) a1 W) (by decide) (Nat.le_of_ble_eq_true rfl) h29 (by decide) (by decide +kernel)) (fun q30 _ => ?_)
    refine j_gd (fun h31 => ?_)
    refine j_lald hx (f := 1412) (o := (jR W 1305 t)) kd1412 rfl (by decide +kernel) h31 ?_
    refine j_runA hx 3 (tb := [(195, .lload 7), (197, .ladd), (198, .aload_n 0)]) (jtb_ok (by decide +kernel)) (pc' := 199) (lv' := [(0, vR t), (1, vI a1), (2, vL a2), (4, vI l4), (5, vL l5), (7, vL l7), (10, vL l10), (12, vI l12)]) (st' := [vR t, vL ((jB W 1412 (jR W 1305 t) (ix q30)) + l7), vR t]) rfl ?_
    refine j_getR hx flX8_23 kl1305 h28 (by decide) (by decide +kernel) ?_
    refine j_getR hx flX8_307 kl1413 h29 (by decide) (by decide +kernel) ?_
    refine j_runA hx 1 (tb := [(205, .aload_n 0)]) (jtb_ok (by decide +kernel)) (pc' := 206) (lv' := [(0, vR t), (1, vI a1), (2, vL a2), (4, vI l4), (5, vL l5), (7, vL l7), (10, vL l10), (12, vI l12)]) (st' := [vR t, vR (jR W 1413 (jR W 1305 t)), vL ((jB W 1412 (jR W 1305 t) (ix q30)) + l7), vR t]) rfl ?_
    refine j_getR hx flX8_23 kl1305 h28 (by decide) (by decide +kernel) ?_
    refine j_runA hx 1 (tb := [(209, .iload_n 1)]) (jtb_ok (by decide +kernel)) (pc' := 210) (lv' := [(0, vR t), (1, vI a1), (2, vL a2), (4, vI l4), (5, vL l5), (7, vL l7), (10, vL l10), (12, vI l12)]) (st' := [vI a1, vR (jR W 1305 t), vR (jR W 1413 (jR W 1305 t)), vL ((jB W 1412 (jR W 1305 t) (ix q30)) + l7), vR t]) rfl ?_
    refine j_OI (j_callV (av := [vI a1]) (st := [vR (jR W 1413 (jR W 1305 t)), vL ((jB W 1412 (jR W 1305 t) (ix q30)) + l7), vR t]) hx hr (Or.inl q3020) q2911 q2912 rfl md_fhd_aim np_fhd_aim (chd_aim (jR W 1305 t) a1 W) (by decide) (Nat.le_of_ble_eq_true rfl) h29 (by decide) (by decide +kernel)) (fun q32 _ => ?_)
    refine j_gd (fun h33 => ?_)
    refine j_lald hx (f := 1413) (o := (jR W 1305 t)) kd1413 rfl (by decide +kernel) h33 ?_
    refine j_runA hx 3 (tb := [(214, .lsub), (215, .bipush 8), (217, .lload 10)]) (jtb_ok (by decide +kernel)) (pc' := 219) (lv' := [(0, vR t), (1, vI a1), (2, vL a2), (4, vI l4), (5, vL l5), (7, vL l7), (10, vL l10), (12, vI l12)]) (st' := [vL l10, vI (kI 8), vL (((jB W 1412 (jR W 1305 t) (ix q30)) + l7) - (jB W 1413 (jR W 1305 t) (ix q32))), vR t]) rfl ?_
    refine j_WV (j_callV (av := [vL (((jB W 1412 (jR W 1305 t) (ix q30)) + l7) - (jB W 1413 (jR W 1305 t) (ix q32))), vI (kI 8), vL l10]) (st := []) hx hr (Or.inl q3268) q3270 qs174 rfl md_fmo_store np_fmo_store (cmo_store t (((jB W 1412 (jR W 1305 t) (ix q30)) + l7) - (jB W 1413 (jR W 1305 t) (ix q32))) (kI 8) l10 W) (by decide) (Nat.le_of_ble_eq_true rfl) h28 (by decide) (by decide +kernel)) (fun q34 _ => ?_)
    refine j_lv (lv' := [(0, vR t), (1, vI a1), (2, vL a2), (5, vL l5), (10, vL l10)]) ⟨rfl, rfl, rfl, rfl, rfl, trivial⟩ ?_
    exact wmo_writeFix_222 h l5 l10 q34
  refine j_runA hx 5 (tb := [(156, .aload_n 0), (157, .lload 5), (159, .bipush 8), (161, .aload_n 0), (162, .lload 7)]) (jtb_ok (by decide +kernel)) (pc' := 164) (lv' := [(0, vR t), (1, vI a1), (2, vL a2), (4, vI l4), (5, vL l5), (7, vL l7), (10, vL l10), (12, vI l12)]) (st' := [vL l7, vR t, vI (kI 8), vL l5, vR t]) rfl ?_
  refine j_gd (fun h36 => ?_)
  refine j_OL (j_callV (av := [vL l7]) (st := [vI (kI 8), vL l5, vR t]) hx hr (Or.inl q3272) q3274 qs175 rfl md_fmo_newAddress np_fmo_newAddress (cmo_newAddress t l7 W) (by decide) (Nat.le_of_ble_eq_true rfl) h36 (by decide) (by decide +kernel)) (fun q37 _ => ?_)
  refine j_WV (j_callV (av := [vL l5, vI (kI 8), vL q37]) (st := []) hx hr (Or.inl q3268) q3270 qs174 rfl md_fmo_store np_fmo_store (cmo_store t l5 (kI 8) q37 W) (by decide) (Nat.le_of_ble_eq_true rfl) h36 (by decide) (by decide +kernel)) (fun q38 _ => ?_)
  refine j_goto hx (off := 52) (by decide +kernel) (tgt := 222) (by decide) ?_
  refine j_lv (lv' := [(0, vR t), (1, vI a1), (2, vL a2), (5, vL l5), (10, vL l10)]) ⟨rfl, rfl, rfl, rfl, rfl, trivial⟩ ?_
  exact wmo_writeFix_222 h l5 l10 q38
theorem wmo_writeFix_120 {x : jCx} {en : (jW) → Option (Outcome × jW)} {t : Nat} {a1 : Int32} {a2 : Int64} (h : hmo_writeFix x en t a1 a2) (l4 : Int32) (l5 : Int64) (l7 : Int64) (W : jW) : jJ x 16 120 [(0, vR t), (1, vI a1), (2, vL a2), (4, vI l4), (5, vL l5), (7, vL l7)] [] W (fmo_writeFix_120 t a1 a2 l4 l5 l7 W) en := by
  have h0 := h
  obtain ⟨hx, hm, hr, he⟩ := h0
  unfold fmo_writeFix_120
  refine j_runA hx 2 (tb := [(120, .aload_n 0), (121, .lload_n 2)]) (jtb_ok (by decide +kernel)) (pc' := 122) (lv' := [(0, vR t), (1, vI a1), (2, vL a2), (4, vI l4), (5, vL l5), (7, vL l7)]) (st' := [vL a2, vR t]) rfl ?_
  refine j_gd (fun h22 => ?_)
  refine j_OL (j_callV (av := [vL a2]) (st := []) hx hr (Or.inl q3014) q3016 qs140 rfl md_fmo_target np_fmo_target (cmo_target t a2 W) (by decide) (Nat.le_of_ble_eq_true rfl) h22 (by decide) (by decide +kernel)) (fun q23 _ => ?_)
  refine j_runA hx 2 (tb := [(125, .lstore 10), (127, .aload_n 0)]) (jtb_ok (by decide +kernel)) (pc' := 128) (lv' := [(10, vL q23), (0, vR t), (1, vI a1), (2, vL a2), (4, vI l4), (5, vL l5), (7, vL l7)]) (st' := [vR t]) rfl ?_
  refine j_getR hx flX8_23 kl1305 h22 (by decide) (by decide +kernel) ?_
  refine j_runA hx 1 (tb := [(131, .lload 10)]) (jtb_ok (by decide +kernel)) (pc' := 133) (lv' := [(10, vL q23), (0, vR t), (1, vI a1), (2, vL a2), (4, vI l4), (5, vL l5), (7, vL l7)]) (st' := [vL q23, vR (jR W 1305 t)]) rfl ?_
  refine j_gd (fun h24 => ?_)
  refine j_OI (j_callV (av := [vL q23]) (st := []) hx hr (Or.inl q3019) q2924 q2925 rfl md_fhd_isIn np_fhd_isIn (chd_isIn (jR W 1305 t) q23 W) (by decide) (Nat.le_of_ble_eq_true rfl) h24 (by decide) (by decide +kernel)) (fun q25 _ => ?_)
  refine j_runA hx 2 (tb := [(136, .istore 12), (138, .iload 12)]) (jtb_ok (by decide +kernel)) (pc' := 140) (lv' := [(12, vI q25), (10, vL q23), (0, vR t), (1, vI a1), (2, vL a2), (4, vI l4), (5, vL l5), (7, vL l7)]) (st' := [vI q25]) rfl ?_
  refine j_if_eq hx (off := 11) (tgt := 151) (by decide +kernel) (by decide) (fun _ => ?_) (fun _ => ?_)
  · refine j_lv (lv' := [(0, vR t), (1, vI a1), (2, vL a2), (4, vI l4), (5, vL l5), (7, vL l7), (10, vL q23), (12, vI q25)]) ⟨rfl, rfl, rfl, rfl, rfl, rfl, rfl, rfl, trivial⟩ ?_
    exact wmo_writeFix_151 h l4 l5 l7 q23 q25 W
  refine j_runA hx 2 (tb := [(143, .aload_n 0), (144, .lload 10)]) (jtb_ok (by decide +kernel)) (pc' := 146) (lv' := [(12, vI q25), (10, vL q23), (0, vR t), (1, vI a1), (2, vL a2), (4, vI l4), (5, vL l5), (7, vL l7)]) (st' := [vL q23, vR t]) rfl ?_
  refine j_OL (j_callV (av := [vL q23]) (st := []) hx hr (Or.inl q3272) q3274 qs175 rfl md_fmo_newAddress np_fmo_newAddress (cmo_newAddress t q23 W) (by decide) (Nat.le_of_ble_eq_true rfl) h22 (by decide) (by decide +kernel)) (fun q26 _ => ?_)
  refine j_runA hx 1 (tb := [(149, .lstore 10)]) (jtb_ok (by decide +kernel)) (pc' := 151) (lv' := [(10, vL q26), (12, vI q25), (0, vR t), (1, vI a1), (2, vL a2), (4, vI l4), (5, vL l5), (7, vL l7)]) (st' := []) rfl ?_
  refine j_lv (lv' := [(0, vR t), (1, vI a1), (2, vL a2), (4, vI l4), (5, vL l5), (7, vL l7), (10, vL q26), (12, vI q25)]) ⟨rfl, rfl, rfl, rfl, rfl, rfl, rfl, rfl, trivial⟩ ?_
  exact wmo_writeFix_151 h l4 l5 l7 q26 q25 W
theorem wmo_writeFix_65 {x : jCx} {en : (jW) → Option (Outcome × jW)} {t : Nat} {a1 : Int32} {a2 : Int64} (h : hmo_writeFix x en t a1 a2) (l4 : Int32) (l5 : Int64) (l7 : Int64) (s0 : Int32) (W : jW) : jJ x 16 65 [(0, vR t), (1, vI a1), (2, vL a2), (4, vI l4), (5, vL l5), (7, vL l7)] [vI s0] W (fmo_writeFix_65 t a1 a2 l4 l5 l7 s0 W) en := by
  have h0 := h
  obtain ⟨hx, hm, hr, he⟩ := h0
  unfold fmo_writeFix_65
  refine j_runA hx 2 (tb := [(65, .istore 9), (67, .iload 4)]) (jtb_ok (by decide +kernel)) (pc' := 69) (lv' := [(9, vI s0), (0, vR t), (1, vI a1), (2, vL a2), (4, vI l4), (5, vL l5), (7, vL l7)]) (st' := [vI l4]) rfl ?_
  refine j_if_eq hx (off := 51) (tgt := 120) (by decide +kernel) (by decide) (fun _ => ?_) (fun _ => ?_)
  · refine j_lv (lv' := [(0, vR t), (1, vI a1), (2, vL a2), (4, vI l4), (5, vL l5), (7, vL l7)]) ⟨rfl, rfl, rfl, rfl, rfl, rfl, trivial⟩ ?_
    exact wmo_writeFix_120 h l4 l5 l7 W
  refine j_runA hx 1 (tb := [(72, .aload_n 0)]) (jtb_ok (by decide +kernel)) (pc' := 73) (lv' := [(9, vI s0), (0, vR t), (1, vI a1), (2, vL a2), (4, vI l4), (5, vL l5), (7, vL l7)]) (st' := [vR t]) rfl ?_
  refine j_gd (fun h10 => ?_)
  refine j_getR hx flX8_143 kl1350 h10 (by decide) (by decide +kernel) ?_
  refine j_runA hx 1 (tb := [(76, .iload 9)]) (jtb_ok (by decide +kernel)) (pc' := 78) (lv' := [(9, vI s0), (0, vR t), (1, vI a1), (2, vL a2), (4, vI l4), (5, vL l5), (7, vL l7)]) (st' := [vI s0, vR (jR W 1350 t)]) rfl ?_
  refine j_gd (fun h11 => ?_)
  refine j_OI (j_callV (av := [vI s0]) (st := []) hx hr (Or.inl q3292) q3293 q3294 rfl md_fwn_isGone np_fwn_isGone (cwn_isGone (jR W 1350 t) s0 W) (by decide) (Nat.le_of_ble_eq_true rfl) h11 (by decide) (by decide +kernel)) (fun q12 _ => ?_)
  refine j_if_eq hx (off := 39) (tgt := 120) (by decide +kernel) (by decide) (fun _ => ?_) (fun _ => ?_)
  · refine j_lv (lv' := [(0, vR t), (1, vI a1), (2, vL a2), (4, vI l4), (5, vL l5), (7, vL l7)]) ⟨rfl, rfl, rfl, rfl, rfl, rfl, trivial⟩ ?_
    exact wmo_writeFix_120 h l4 l5 l7 W
  refine j_runA hx 4 (tb := [(84, .aload_n 0), (85, .lload 5), (87, .bipush 8), (89, .lconst 0)]) (jtb_ok (by decide +kernel)) (pc' := 90) (lv' := [(9, vI s0), (0, vR t), (1, vI a1), (2, vL a2), (4, vI l4), (5, vL l5), (7, vL l7)]) (st' := [vL (kJ 0), vI (kI 8), vL l5, vR t]) rfl ?_
  refine j_WV (j_callV (av := [vL l5, vI (kI 8), vL (kJ 0)]) (st := []) hx hr (Or.inl q3268) q3270 qs174 rfl md_fmo_store np_fmo_store (cmo_store t l5 (kI 8) (kJ 0) W) (by decide) (Nat.le_of_ble_eq_true rfl) h10 (by decide) (by decide +kernel)) (fun q13 _ => ?_)
  refine j_runA hx 2 (tb := [(93, .aload_n 0), (94, .lload 5)]) (jtb_ok (by decide +kernel)) (pc' := 96) (lv' := [(9, vI s0), (0, vR t), (1, vI a1), (2, vL a2), (4, vI l4), (5, vL l5), (7, vL l7)]) (st' := [vL l5, vR t]) rfl ?_
  refine j_ldc2 hx (v := (kJ 8)) (jkd2 q2948 (by decide +kernel)) (by decide +kernel) ?_
  refine j_runA hx 3 (tb := [(99, .ladd), (100, .bipush 8), (102, .lconst 0)]) (jtb_ok (by decide +kernel)) (pc' := 103) (lv' := [(9, vI s0), (0, vR t), (1, vI a1), (2, vL a2), (4, vI l4), (5, vL l5), (7, vL l7)]) (st' := [vL (kJ 0), vI (kI 8), vL (l5 + (kJ 8)), vR t]) rfl ?_
  refine j_gd (fun h15 => ?_)
  refine j_WV (j_callV (av := [vL (l5 + (kJ 8)), vI (kI 8), vL (kJ 0)]) (st := []) hx hr (Or.inl q3268) q3270 qs174 rfl md_fmo_store np_fmo_store (cmo_store t (l5 + (kJ 8)) (kI 8) (kJ 0) q13) (by decide) (Nat.le_of_ble_eq_true rfl) h15 (by decide) (by decide +kernel)) (fun q16 _ => ?_)
  refine j_runA hx 2 (tb := [(106, .aload_n 0), (107, .lload 5)]) (jtb_ok (by decide +kernel)) (pc' := 109) (lv' := [(9, vI s0), (0, vR t), (1, vI a1), (2, vL a2), (4, vI l4), (5, vL l5), (7, vL l7)]) (st' := [vL l5, vR t]) rfl ?_
  refine j_ldc2 hx (v := (kJ 16)) (jkd2 q2947 (by decide +kernel)) (by decide +kernel) ?_
  refine j_runA hx 3 (tb := [(112, .ladd), (113, .bipush 8), (115, .lconst 0)]) (jtb_ok (by decide +kernel)) (pc' := 116) (lv' := [(9, vI s0), (0, vR t), (1, vI a1), (2, vL a2), (4, vI l4), (5, vL l5), (7, vL l7)]) (st' := [vL (kJ 0), vI (kI 8), vL (l5 + (kJ 16)), vR t]) rfl ?_
  refine j_gd (fun h18 => ?_)
  refine j_WV (j_callV (av := [vL (l5 + (kJ 16)), vI (kI 8), vL (kJ 0)]) (st := []) hx hr (Or.inl q3268) q3270 qs174 rfl md_fmo_store np_fmo_store (cmo_store t (l5 + (kJ 16)) (kI 8) (kJ 0) q16) (by decide) (Nat.le_of_ble_eq_true rfl) h18 (by decide) (by decide +kernel)) (fun q19 _ => ?_)
  exact j_vret hx hm (by decide +kernel) (he _)
theorem wmo_writeFix_23 {x : jCx} {en : (jW) → Option (Outcome × jW)} {t : Nat} {a1 : Int32} {a2 : Int64} (h : hmo_writeFix x en t a1 a2) (s0 : Int32) (W : jW) : jJ x 16 23 [(0, vR t), (1, vI a1), (2, vL a2)] [vI s0] W (fmo_writeFix_23 t a1 a2 s0 W) en := by
  have h0 := h
  obtain ⟨hx, hm, hr, he⟩ := h0
  unfold fmo_writeFix_23
  refine j_runA hx 3 (tb := [(23, .istore 4), (25, .lload_n 2), (26, .aload_n 0)]) (jtb_ok (by decide +kernel)) (pc' := 27) (lv' := [(4, vI s0), (0, vR t), (1, vI a1), (2, vL a2)]) (st' := [vR t, vL a2]) rfl ?_
  refine j_gd (fun h5 => ?_)
  refine j_getI hx flX8_527 kd1356 h5 (by decide) (by decide +kernel) ?_
  refine j_runA hx 3 (tb := [(30, .i2l), (31, .ladd), (32, .lstore 5)]) (jtb_ok (by decide +kernel)) (pc' := 34) (lv' := [(5, vL (a2 + ((jI W 1356 t).toInt64))), (4, vI s0), (0, vR t), (1, vI a1), (2, vL a2)]) (st' := []) rfl ?_
  refine j_let (v := (a2 + ((jI W 1356 t).toInt64))) (lv := fun v6 => [(5, vL v6), (4, vI s0), (0, vR t), (1, vI a1), (2, vL a2)]) (st := fun _ => []) (fun v6 => ?_)
  refine j_runA hx 1 (tb := [(34, .aload_n 0)]) (jtb_ok (by decide +kernel)) (pc' := 35) (lv' := [(5, vL v6), (4, vI s0), (0, vR t), (1, vI a1), (2, vL a2)]) (st' := [vR t]) rfl ?_
  refine j_getR hx flX8_23 kl1305 h5 (by decide) (by decide +kernel) ?_
  refine j_runA hx 2 (tb := [(38, .lload_n 2), (39, .bipush 8)]) (jtb_ok (by decide +kernel)) (pc' := 41) (lv' := [(5, vL v6), (4, vI s0), (0, vR t), (1, vI a1), (2, vL a2)]) (st' := [vI (kI 8), vL a2, vR (jR W 1305 t)]) rfl ?_
  refine j_gd (fun h7 => ?_)
  refine j_OL (j_callV (av := [vL a2, vI (kI 8)]) (st := []) hx hr (Or.inl q2932) q2823 q2824 rfl md_fhd_num np_fhd_num (chd_num (jR W 1305 t) a2 (kI 8) W) (by decide) (Nat.le_of_ble_eq_true rfl) h7 (by decide) (by decide +kernel)) (fun q8 _ => ?_)
  refine j_runA hx 2 (tb := [(44, .lstore 7), (46, .iload 4)]) (jtb_ok (by decide +kernel)) (pc' := 48) (lv' := [(7, vL q8), (5, vL v6), (4, vI s0), (0, vR t), (1, vI a1), (2, vL a2)]) (st' := [vI s0]) rfl ?_
  refine j_if_eq hx (off := 16) (tgt := 64) (by decide +kernel) (by decide) (fun _ => ?_) (fun _ => ?_)
  · refine j_runA hx 1 (tb := [(64, .iconst (-1))]) (jtb_ok (by decide +kernel)) (pc' := 65) (lv' := [(7, vL q8), (5, vL v6), (4, vI s0), (0, vR t), (1, vI a1), (2, vL a2)]) (st' := [vI (kI (-1))]) rfl ?_
    refine j_lv (lv' := [(0, vR t), (1, vI a1), (2, vL a2), (4, vI s0), (5, vL v6), (7, vL q8)]) ⟨rfl, rfl, rfl, rfl, rfl, rfl, trivial⟩ ?_
    exact wmo_writeFix_65 h s0 v6 q8 (kI (-1)) W
  refine j_runA hx 2 (tb := [(51, .lload 7), (53, .aload_n 0)]) (jtb_ok (by decide +kernel)) (pc' := 54) (lv' := [(7, vL q8), (5, vL v6), (4, vI s0), (0, vR t), (1, vI a1), (2, vL a2)]) (st' := [vR t, vL q8]) rfl ?_
  refine j_getL hx flX8_310 kd1313 h5 (by decide) (by decide +kernel) ?_
  refine j_runA hx 3 (tb := [(57, .lsub), (58, .l2i), (59, .iconst 4)]) (jtb_ok (by decide +kernel)) (pc' := 60) (lv' := [(7, vL q8), (5, vL v6), (4, vI s0), (0, vR t), (1, vI a1), (2, vL a2)]) (st' := [vI (kI 4), vI ((q8 - (jL W 1313 t)).toInt32)]) rfl ?_
  refine j_idiv hx (by decide +kernel) (by decide +kernel) ?_
  refine j_goto hx (off := 4) (by decide +kernel) (tgt := 65) (by decide) ?_
  refine j_lv (lv' := [(0, vR t), (1, vI a1), (2, vL a2), (4, vI s0), (5, vL v6), (7, vL q8)]) ⟨rfl, rfl, rfl, rfl, rfl, rfl, trivial⟩ ?_
  exact wmo_writeFix_65 h s0 v6 q8 (((q8 - (jL W 1313 t)).toInt32) / (kI 4)) W
theorem wmo_writeFix {x : jCx} {en : (jW) → Option (Outcome × jW)} {t : Nat} {a1 : Int32} {a2 : Int64} (h : hmo_writeFix x en t a1 a2) (W : jW) : jJ x 16 0 [(0, vR t), (1, vI a1), (2, vL a2)] [] W (fmo_writeFix t a1 a2 W) en := by
  have h0 := h
  obtain ⟨hx, hm, hr, he⟩ := h0
  unfold fmo_writeFix
  refine j_runA hx 1 (tb := [(0, .aload_n 0)]) (jtb_ok (by decide +kernel)) (pc' := 1) (lv' := [(0, vR t), (1, vI a1), (2, vL a2)]) (st' := [vR t]) rfl ?_
  refine j_gd (fun h1 => ?_)
  refine j_getR hx flX8_23 kl1305 h1 (by decide) (by decide +kernel) ?_
  refine j_runA hx 1 (tb := [(4, .iload_n 1)]) (jtb_ok (by decide +kernel)) (pc' := 5) (lv' := [(0, vR t), (1, vI a1), (2, vL a2)]) (st' := [vI a1, vR (jR W 1305 t)]) rfl ?_
  refine j_gd (fun h2 => ?_)
  refine j_OI (j_callV (av := [vI a1]) (st := []) hx hr (Or.inl q3020) q2911 q2912 rfl md_fhd_aim np_fhd_aim (chd_aim (jR W 1305 t) a1 W) (by decide) (Nat.le_of_ble_eq_true rfl) h2 (by decide) (by decide +kernel)) (fun q3 _ => ?_)
  refine j_runA hx 1 (tb := [(8, .aload_n 0)]) (jtb_ok (by decide +kernel)) (pc' := 9) (lv' := [(0, vR t), (1, vI a1), (2, vL a2)]) (st' := [vR t, vI q3]) rfl ?_
  refine j_getR hx flX8_23 kl1305 h1 (by decide) (by decide +kernel) ?_
  refine j_getI hx flX8_298 kd1415 h2 (by decide) (by decide +kernel) ?_
  refine j_icmp_ne hx (off := 7) (tgt := 22) (by decide +kernel) (by decide) (fun _ => ?_) (fun _ => ?_)
  · refine j_runA hx 1 (tb := [(22, .iconst 0)]) (jtb_ok (by decide +kernel)) (pc' := 23) (lv' := [(0, vR t), (1, vI a1), (2, vL a2)]) (st' := [vI (kI 0)]) rfl ?_
    exact wmo_writeFix_23 h (kI 0) W
  refine j_runA hx 1 (tb := [(18, .iconst 1)]) (jtb_ok (by decide +kernel)) (pc' := 19) (lv' := [(0, vR t), (1, vI a1), (2, vL a2)]) (st' := [vI (kI 1)]) rfl ?_
  refine j_goto hx (off := 4) (by decide +kernel) (tgt := 23) (by decide) ?_
  exact wmo_writeFix_23 h (kI 1) W
theorem cmo_writeFix (t : Nat) (a1 : Int32) (a2 : Int64) (W : jW) : jM yX8_writeFix cX8_writeFix 16 (Option.none : Option Jvm.ClassFile.FieldType) [] 2 35 [vR t, vI a1, vL a2] W ((fmo_writeFix t a1 a2 W).bind (fun q => some (.returned none, q))) := 
  jM.of (Nat.le_of_ble_eq_true rfl) (fun x hx hm hr => wmo_writeFix ⟨hx, hm, hr, fun _ => rfl⟩ W)
def hmo_write (x : jCx) (en : (fmo_write_S ⊕ (jW)) → Option (Outcome × jW)) (t : Nat) : Prop :=
  jOK x RX8 cX8_write 9 ∧
  jMt x "write" (Option.none : Option Jvm.ClassFile.FieldType) [] ∧
  jRm x 7 113 ∧
  (∀ q : jW, en (.inr q) = some (.returned none, q)) ∧
  (∀ (l1 : Int32) (l2 : Int32) (l3 : Int32) (W : jW), jJ x 9 66 [(0, vR t), (1, vI l1), (2, vI l2), (3, vI l3)] [] W (some (.inl (.inl (l1, l2, l3, W)))) en) ∧
  (∀ (l1 : Int32) (l2 : Int32) (l3 : Int32) (W : jW), jJ x 9 97 [(0, vR t), (1, vI l1), (2, vI l2), (3, vI l3)] [] W (some (.inl (.inr (.inl (l1, l2, l3, W))))) en) ∧
  (∀ (l1 : Int32) (l2 : Int32) (l3 : Int32) (W : jW), jJ x 9 125 [(0, vR t), (1, vI l1), (2, vI l2), (3, vI l3)] [] W (some (.inl (.inr (.inr (.inl (l1, l2, l3, W)))))) en) ∧
  (∀ (l1 : Int32) (l2 : Int32) (l3 : Int32) (W : jW), jJ x 9 158 [(0, vR t), (1, vI l1), (2, vI l2), (3, vI l3)] [] W (some (.inl (.inr (.inr (.inr (.inl (l1, l2, l3, W))))))) en) ∧
  (∀ (l1 : Int32) (l2 : Int32) (l3 : Int32) (l4 : Int32) (W : jW), jJ x 9 169 [(0, vR t), (1, vI l1), (2, vI l2), (3, vI l3), (4, vI l4)] [] W (some (.inl (.inr (.inr (.inr (.inr (.inl (l1, l2, l3, l4, W)))))))) en) ∧
  (∀ (l1 : Int32) (l2 : Int32) (l4 : Int64) (l6 : Int32) (W : jW), jJ x 9 340 [(0, vR t), (1, vI l1), (2, vI l2), (4, vL l4), (6, vI l6)] [] W (some (.inl (.inr (.inr (.inr (.inr (.inr (.inl (l1, l2, l4, l6, W))))))))) en) ∧
  (∀ (l6 : Int32) (W : jW), jJ x 9 443 [(0, vR t), (6, vI l6)] [] W (some (.inl (.inr (.inr (.inr (.inr (.inr (.inr (.inl (l6, W)))))))))) en) ∧
  (∀ (l6 : Int32) (W : jW), jJ x 9 585 [(0, vR t), (6, vI l6)] [] W (some (.inl (.inr (.inr (.inr (.inr (.inr (.inr (.inr (.inl (l6, W))))))))))) en) ∧
  (∀ (l6 : Int32) (l7 : Int64) (W : jW), jJ x 9 625 [(0, vR t), (6, vI l6), (7, vL l7)] [] W (some (.inl (.inr (.inr (.inr (.inr (.inr (.inr (.inr (.inr (l6, l7, W))))))))))) en)
theorem wmo_write_169 {x : jCx} {en : (fmo_write_S ⊕ (jW)) → Option (Outcome × jW)} {t : Nat} (h : hmo_write x en t) (l1 : Int32) (l2 : Int32) (l3 : Int32) (l4 : Int32) (W : jW) : jJ x 9 169 [(0, vR t), (1, vI l1), (2, vI l2), (3, vI l3), (4, vI l4)] [] W (fmo_write_169 t l1 l2 l3 l4 W) en := by
  have h0 := h
  obtain ⟨hx, hm, hr, he, k66, k97, k125, k158, k169, k340, k443, k585, k625⟩ := h0
  unfold fmo_write_169
  refine j_runA hx 2 (tb := [(169, .iload 4), (171, .aload_n 0)]) (jtb_ok (by decide +kernel)) (pc' := 172) (lv' := [(0, vR t), (1, vI l1), (2, vI l2), (3, vI l3), (4, vI l4)]) (st' := [vR t, vI l4]) rfl ?_
  refine j_gd (fun h77 => ?_)
  refine j_getR hx flX8_143 kl1350 h77 (by decide) (by decide +kernel) ?_
  refine j_runA hx 1 (tb := [(175, .iload_n 3)]) (jtb_ok (by decide +kernel)) (pc' := 176) (lv' := [(0, vR t), (1, vI l1), (2, vI l2), (3, vI l3), (4, vI l4)]) (st' := [vI l3, vR (jR W 1350 t), vI l4]) rfl ?_
  refine j_gd (fun h78 => ?_)
  refine j_OI (j_callV (av := [vI l3]) (st := [vI l4]) hx hr (Or.inl q3163) q3153 q3154 rfl md_fwn_length np_fwn_length (cwn_length (jR W 1350 t) l3 W) (by decide) (Nat.le_of_ble_eq_true rfl) h78 (by decide) (by decide +kernel)) (fun q79 _ => ?_)
  refine j_icmp_ge hx (off := 48) (tgt := 227) (by decide +kernel) (by decide) (fun _ => ?_) (fun _ => ?_)
  · refine j_runA hx 1 (tb := [(227, .iinc 3 1)]) (jtb_ok (by decide +kernel)) (pc' := 230) (lv' := [(3, vI (l3 + (kI 1))), (0, vR t), (1, vI l1), (2, vI l2), (4, vI l4)]) (st' := []) rfl ?_
    refine j_let (v := (l3 + (kI 1))) (lv := fun v80 => [(3, vI v80), (0, vR t), (1, vI l1), (2, vI l2), (4, vI l4)]) (st := fun _ => []) (fun v80 => ?_)
    refine j_goto hx (off := -72) (by decide +kernel) (tgt := 158) (by decide) ?_
    refine j_lv (lv' := [(0, vR t), (1, vI l1), (2, vI l2), (3, vI v80)]) ⟨rfl, rfl, rfl, rfl, trivial⟩ ?_
    exact k158 l1 l2 v80 W
  refine j_runA hx 2 (tb := [(182, .aload_n 0), (183, .aload_n 0)]) (jtb_ok (by decide +kernel)) (pc' := 184) (lv' := [(0, vR t), (1, vI l1), (2, vI l2), (3, vI l3), (4, vI l4)]) (st' := [vR t, vR t]) rfl ?_
  refine j_getI hx flX8_304 kd1309 h77 (by decide) (by decide +kernel) ?_
  refine j_runA hx 1 (tb := [(187, .i2l)]) (jtb_ok (by decide +kernel)) (pc' := 188) (lv' := [(0, vR t), (1, vI l1), (2, vI l2), (3, vI l3), (4, vI l4)]) (st' := [vL ((jI W 1309 t).toInt64), vR t]) rfl ?_
  refine j_ldc2 hx (v := (kJ 4)) (jkd2 q2931 (by decide +kernel)) (by decide +kernel) ?_
  refine j_runA hx 1 (tb := [(191, .aload_n 0)]) (jtb_ok (by decide +kernel)) (pc' := 192) (lv' := [(0, vR t), (1, vI l1), (2, vI l2), (3, vI l3), (4, vI l4)]) (st' := [vR t, vL (kJ 4), vL ((jI W 1309 t).toInt64), vR t]) rfl ?_
  refine j_getR hx flX8_143 kl1350 h77 (by decide) (by decide +kernel) ?_
  refine j_getR hx flX8_499 kl1503 h78 (by decide) (by decide +kernel) ?_
  refine j_runA hx 1 (tb := [(198, .iload_n 3)]) (jtb_ok (by decide +kernel)) (pc' := 199) (lv' := [(0, vR t), (1, vI l1), (2, vI l2), (3, vI l3), (4, vI l4)]) (st' := [vI l3, vR (jR W 1503 (jR W 1350 t)), vL (kJ 4), vL ((jI W 1309 t).toInt64), vR t]) rfl ?_
  refine j_gd (fun h81 => ?_)
  refine j_iald hx (f := 1503) (o := (jR W 1350 t)) kd1503 rfl (by decide +kernel) h81 ?_
  refine j_runA hx 7 (tb := [(200, .iload 4), (202, .iadd), (203, .i2l), (204, .lmul), (205, .ladd), (206, .iconst 4), (207, .aload_n 0)]) (jtb_ok (by decide +kernel)) (pc' := 208) (lv' := [(0, vR t), (1, vI l1), (2, vI l2), (3, vI l3), (4, vI l4)]) (st' := [vR t, vI (kI 4), vL (((jI W 1309 t).toInt64) + ((kJ 4) * (((jA W 1503 (jR W 1350 t) (ix l3)) + l4).toInt64))), vR t]) rfl ?_
  refine j_getR hx flX8_143 kl1350 h77 (by decide) (by decide +kernel) ?_
  refine j_runA hx 2 (tb := [(211, .iload_n 3), (212, .iload 4)]) (jtb_ok (by decide +kernel)) (pc' := 214) (lv' := [(0, vR t), (1, vI l1), (2, vI l2), (3, vI l3), (4, vI l4)]) (st' := [vI l4, vI l3, vR (jR W 1350 t), vI (kI 4), vL (((jI W 1309 t).toInt64) + ((kJ 4) * (((jA W 1503 (jR W 1350 t) (ix l3)) + l4).toInt64))), vR t]) rfl ?_
  refine j_WI (j_callV (av := [vI l3, vI l4]) (st := [vI (kI 4), vL (((jI W 1309 t).toInt64) + ((kJ 4) * (((jA W 1503 (jR W 1350 t) (ix l3)) + l4).toInt64))), vR t]) hx hr (Or.inl q3164) q3165 q3166 rfl md_fwn_whole np_fwn_whole (cwn_whole (jR W 1350 t) l3 l4 W) (by decide) (Nat.le_of_ble_eq_true rfl) h78 (by decide) (by decide +kernel)) (fun q82 _ => ?_)
  refine j_runA hx 1 (tb := [(217, .i2l)]) (jtb_ok (by decide +kernel)) (pc' := 218) (lv' := [(0, vR t), (1, vI l1), (2, vI l2), (3, vI l3), (4, vI l4)]) (st' := [vL q82.1.toInt64, vI (kI 4), vL (((jI W 1309 t).toInt64) + ((kJ 4) * (((jA W 1503 (jR W 1350 t) (ix l3)) + l4).toInt64))), vR t]) rfl ?_
  refine j_gd (fun h84 => ?_)
  refine j_WV (j_callV (av := [vL (((jI W 1309 t).toInt64) + ((kJ 4) * (((jA W 1503 (jR W 1350 t) (ix l3)) + l4).toInt64))), vI (kI 4), vL q82.1.toInt64]) (st := []) hx hr (Or.inl q3268) q3270 qs174 rfl md_fmo_store np_fmo_store (cmo_store t (((jI W 1309 t).toInt64) + ((kJ 4) * (((jA W 1503 (jR W 1350 t) (ix l3)) + l4).toInt64))) (kI 4) q82.1.toInt64 q82.2) (by decide) (Nat.le_of_ble_eq_true rfl) h84 (by decide) (by decide +kernel)) (fun q85 _ => ?_)
  refine j_runA hx 1 (tb := [(221, .iinc 4 1)]) (jtb_ok (by decide +kernel)) (pc' := 224) (lv' := [(4, vI (l4 + (kI 1))), (0, vR t), (1, vI l1), (2, vI l2), (3, vI l3)]) (st' := []) rfl ?_
  refine j_let (v := (l4 + (kI 1))) (lv := fun v87 => [(4, vI v87), (0, vR t), (1, vI l1), (2, vI l2), (3, vI l3)]) (st := fun _ => []) (fun v87 => ?_)
  refine j_goto hx (off := -55) (by decide +kernel) (tgt := 169) (by decide) ?_
  refine j_lv (lv' := [(0, vR t), (1, vI l1), (2, vI l2), (3, vI l3), (4, vI v87)]) ⟨rfl, rfl, rfl, rfl, rfl, trivial⟩ ?_
  exact k169 l1 l2 l3 v87 q85
theorem wmo_write_408 {x : jCx} {en : (fmo_write_S ⊕ (jW)) → Option (Outcome × jW)} {t : Nat} (h : hmo_write x en t) (l1 : Int32) (l2 : Int32) (l4 : Int64) (l6 : Int32) (W : jW) : jJ x 9 408 [(0, vR t), (1, vI l1), (2, vI l2), (4, vL l4), (6, vI l6)] [] W (fmo_write_408 t l1 l2 l4 l6 W) en := by
  have h0 := h
  obtain ⟨hx, hm, hr, he, k66, k97, k125, k158, k169, k340, k443, k585, k625⟩ := h0
  unfold fmo_write_408
  refine j_runA hx 1 (tb := [(408, .iinc 6 1)]) (jtb_ok (by decide +kernel)) (pc' := 411) (lv' := [(6, vI (l6 + (kI 1))), (0, vR t), (1, vI l1), (2, vI l2), (4, vL l4)]) (st' := []) rfl ?_
  refine j_let (v := (l6 + (kI 1))) (lv := fun v98 => [(6, vI v98), (0, vR t), (1, vI l1), (2, vI l2), (4, vL l4)]) (st := fun _ => []) (fun v98 => ?_)
  refine j_goto hx (off := -71) (by decide +kernel) (tgt := 340) (by decide) ?_
  refine j_lv (lv' := [(0, vR t), (1, vI l1), (2, vI l2), (4, vL l4), (6, vI v98)]) ⟨rfl, rfl, rfl, rfl, rfl, trivial⟩ ?_
  exact k340 l1 l2 l4 v98 W
theorem wmo_write_576 {x : jCx} {en : (fmo_write_S ⊕ (jW)) → Option (Outcome × jW)} {t : Nat} (h : hmo_write x en t) (l6 : Int32) (W : jW) : jJ x 9 576 [(0, vR t), (6, vI l6)] [] W (fmo_write_576 t l6 W) en := by
  have h0 := h
  obtain ⟨hx, hm, hr, he, k66, k97, k125, k158, k169, k340, k443, k585, k625⟩ := h0
  unfold fmo_write_576
  refine j_runA hx 1 (tb := [(576, .iinc 6 1)]) (jtb_ok (by decide +kernel)) (pc' := 579) (lv' := [(6, vI (l6 + (kI 1))), (0, vR t)]) (st' := []) rfl ?_
  refine j_let (v := (l6 + (kI 1))) (lv := fun v117 => [(6, vI v117), (0, vR t)]) (st := fun _ => []) (fun v117 => ?_)
  refine j_goto hx (off := -136) (by decide +kernel) (tgt := 443) (by decide) ?_
  refine j_lv (lv' := [(0, vR t), (6, vI v117)]) ⟨rfl, rfl, trivial⟩ ?_
  exact k443 v117 W
theorem wmo_write_680 {x : jCx} {en : (fmo_write_S ⊕ (jW)) → Option (Outcome × jW)} {t : Nat} (h : hmo_write x en t) (l6 : Int32) (W : jW) : jJ x 9 680 [(0, vR t), (6, vI l6)] [] W (fmo_write_680 t l6 W) en := by
  have h0 := h
  obtain ⟨hx, hm, hr, he, k66, k97, k125, k158, k169, k340, k443, k585, k625⟩ := h0
  unfold fmo_write_680
  refine j_runA hx 1 (tb := [(680, .iinc 6 1)]) (jtb_ok (by decide +kernel)) (pc' := 683) (lv' := [(6, vI (l6 + (kI 1))), (0, vR t)]) (st' := []) rfl ?_
  refine j_let (v := (l6 + (kI 1))) (lv := fun v125 => [(6, vI v125), (0, vR t)]) (st := fun _ => []) (fun v125 => ?_)
  refine j_goto hx (off := -98) (by decide +kernel) (tgt := 585) (by decide) ?_
  refine j_lv (lv' := [(0, vR t), (6, vI v125)]) ⟨rfl, rfl, trivial⟩ ?_
  exact k585 v125 W
theorem wmo_write_669 {x : jCx} {en : (fmo_write_S ⊕ (jW)) → Option (Outcome × jW)} {t : Nat} (h : hmo_write x en t) (l6 : Int32) (l7 : Int64) (W : jW) : jJ x 9 669 [(0, vR t), (6, vI l6), (7, vL l7)] [] W (fmo_write_669 t l6 l7 W) en := by
  have h0 := h
  obtain ⟨hx, hm, hr, he, k66, k97, k125, k158, k169, k340, k443, k585, k625⟩ := h0
  unfold fmo_write_669
  refine j_runA hx 1 (tb := [(669, .lload 7)]) (jtb_ok (by decide +kernel)) (pc' := 671) (lv' := [(0, vR t), (6, vI l6), (7, vL l7)]) (st' := [vL l7]) rfl ?_
  refine j_ldc2 hx (v := (kJ 24)) (jkd2 q3035 (by decide +kernel)) (by decide +kernel) ?_
  refine j_runA hx 2 (tb := [(674, .ladd), (675, .lstore 7)]) (jtb_ok (by decide +kernel)) (pc' := 677) (lv' := [(7, vL (l7 + (kJ 24))), (0, vR t), (6, vI l6)]) (st' := []) rfl ?_
  refine j_let (v := (l7 + (kJ 24))) (lv := fun v135 => [(7, vL v135), (0, vR t), (6, vI l6)]) (st := fun _ => []) (fun v135 => ?_)
  refine j_goto hx (off := -52) (by decide +kernel) (tgt := 625) (by decide) ?_
  refine j_lv (lv' := [(0, vR t), (6, vI l6), (7, vL v135)]) ⟨rfl, rfl, rfl, trivial⟩ ?_
  exact k625 l6 v135 W
theorem wmo_write_625 {x : jCx} {en : (fmo_write_S ⊕ (jW)) → Option (Outcome × jW)} {t : Nat} (h : hmo_write x en t) (l6 : Int32) (l7 : Int64) (W : jW) : jJ x 9 625 [(0, vR t), (6, vI l6), (7, vL l7)] [] W (fmo_write_625 t l6 l7 W) en := by
  have h0 := h
  obtain ⟨hx, hm, hr, he, k66, k97, k125, k158, k169, k340, k443, k585, k625⟩ := h0
  unfold fmo_write_625
  refine j_runA hx 2 (tb := [(625, .lload 7), (627, .aload_n 0)]) (jtb_ok (by decide +kernel)) (pc' := 628) (lv' := [(0, vR t), (6, vI l6), (7, vL l7)]) (st' := [vR t, vL l7]) rfl ?_
  refine j_gd (fun h127 => ?_)
  refine j_getR hx flX8_23 kl1305 h127 (by decide) (by decide +kernel) ?_
  refine j_gd (fun h128 => ?_)
  refine j_getR hx flX8_301 kl1412 h128 (by decide) (by decide +kernel) ?_
  refine j_runA hx 1 (tb := [(634, .iload 6)]) (jtb_ok (by decide +kernel)) (pc' := 636) (lv' := [(0, vR t), (6, vI l6), (7, vL l7)]) (st' := [vI l6, vR (jR W 1412 (jR W 1305 t)), vL l7]) rfl ?_
  refine j_gd (fun h129 => ?_)
  refine j_lald hx (f := 1412) (o := (jR W 1305 t)) kd1412 rfl (by decide +kernel) h129 ?_
  refine j_runA hx 1 (tb := [(637, .aload_n 0)]) (jtb_ok (by decide +kernel)) (pc' := 638) (lv' := [(0, vR t), (6, vI l6), (7, vL l7)]) (st' := [vR t, vL (jB W 1412 (jR W 1305 t) (ix l6)), vL l7]) rfl ?_
  refine j_getR hx flX8_23 kl1305 h127 (by decide) (by decide +kernel) ?_
  refine j_getR hx flX8_313 kl1414 h128 (by decide) (by decide +kernel) ?_
  refine j_runA hx 1 (tb := [(644, .iload 6)]) (jtb_ok (by decide +kernel)) (pc' := 646) (lv' := [(0, vR t), (6, vI l6), (7, vL l7)]) (st' := [vI l6, vR (jR W 1414 (jR W 1305 t)), vL (jB W 1412 (jR W 1305 t) (ix l6)), vL l7]) rfl ?_
  refine j_gd (fun h130 => ?_)
  refine j_lald hx (f := 1414) (o := (jR W 1305 t)) kd1414 rfl (by decide +kernel) h130 ?_
  refine j_runA hx 1 (tb := [(647, .ladd)]) (jtb_ok (by decide +kernel)) (pc' := 648) (lv' := [(0, vR t), (6, vI l6), (7, vL l7)]) (st' := [vL ((jB W 1412 (jR W 1305 t) (ix l6)) + (jB W 1414 (jR W 1305 t) (ix l6))), vL l7]) rfl ?_
  refine j_lcmp_ge hx (off := 31) (tgt := 680) (by decide +kernel) (by decide +kernel) (by decide) (fun _ => ?_) (fun _ => ?_)
  · refine j_lv (lv' := [(0, vR t), (6, vI l6)]) ⟨rfl, rfl, trivial⟩ ?_
    exact wmo_write_680 h l6 W
  refine j_runA hx 2 (tb := [(652, .aload_n 0), (653, .lload 7)]) (jtb_ok (by decide +kernel)) (pc' := 655) (lv' := [(0, vR t), (6, vI l6), (7, vL l7)]) (st' := [vL l7, vR t]) rfl ?_
  refine j_OI (j_callV (av := [vL l7]) (st := []) hx hr (Or.inl q3010) q3012 qs139 rfl md_fmo_fixType np_fmo_fixType (cmo_fixType t l7 W) (by decide) (Nat.le_of_ble_eq_true rfl) h127 (by decide) (by decide +kernel)) (fun q131 _ => ?_)
  refine j_if_le hx (off := 11) (tgt := 669) (by decide +kernel) (by decide) (fun _ => ?_) (fun _ => ?_)
  · exact wmo_write_669 h l6 l7 W
  refine j_runA hx 3 (tb := [(661, .aload_n 0), (662, .iload 6), (664, .lload 7)]) (jtb_ok (by decide +kernel)) (pc' := 666) (lv' := [(0, vR t), (6, vI l6), (7, vL l7)]) (st' := [vL l7, vI l6, vR t]) rfl ?_
  refine j_WV (j_callV (av := [vI l6, vL l7]) (st := []) hx hr (Or.inl q3288) q3290 qs178 rfl md_fmo_writeFix np_fmo_writeFix (cmo_writeFix t l6 l7 W) (by decide) (Nat.le_of_ble_eq_true rfl) h127 (by decide) (by decide +kernel)) (fun q132 _ => ?_)
  exact wmo_write_669 h l6 l7 q132
theorem wmo_write_585 {x : jCx} {en : (fmo_write_S ⊕ (jW)) → Option (Outcome × jW)} {t : Nat} (h : hmo_write x en t) (l6 : Int32) (W : jW) : jJ x 9 585 [(0, vR t), (6, vI l6)] [] W (fmo_write_585 t l6 W) en := by
  have h0 := h
  obtain ⟨hx, hm, hr, he, k66, k97, k125, k158, k169, k340, k443, k585, k625⟩ := h0
  unfold fmo_write_585
  refine j_runA hx 2 (tb := [(585, .iload 6), (587, .aload_n 0)]) (jtb_ok (by decide +kernel)) (pc' := 588) (lv' := [(0, vR t), (6, vI l6)]) (st' := [vR t, vI l6]) rfl ?_
  refine j_gd (fun h119 => ?_)
  refine j_getR hx flX8_23 kl1305 h119 (by decide) (by decide +kernel) ?_
  refine j_gd (fun h120 => ?_)
  refine j_getI hx flX8_333 kd1403 h120 (by decide) (by decide +kernel) ?_
  refine j_icmp_ge hx (off := 92) (tgt := 686) (by decide +kernel) (by decide) (fun _ => ?_) (fun _ => ?_)
  · exact j_vret hx hm (by decide +kernel) (he _)
  refine j_runA hx 1 (tb := [(597, .aload_n 0)]) (jtb_ok (by decide +kernel)) (pc' := 598) (lv' := [(0, vR t), (6, vI l6)]) (st' := [vR t]) rfl ?_
  refine j_getR hx flX8_23 kl1305 h119 (by decide) (by decide +kernel) ?_
  refine j_runA hx 1 (tb := [(601, .iload 6)]) (jtb_ok (by decide +kernel)) (pc' := 603) (lv' := [(0, vR t), (6, vI l6)]) (st' := [vI l6, vR (jR W 1305 t)]) rfl ?_
  refine j_OI (j_callV (av := [vI l6]) (st := []) hx hr (Or.inl q3005) q2878 q2879 rfl md_fhd_what np_fhd_what (chd_what (jR W 1305 t) l6 W) (by decide) (Nat.le_of_ble_eq_true rfl) h120 (by decide) (by decide +kernel)) (fun q121 _ => ?_)
  refine j_runA hx 1 (tb := [(606, .iconst 4)]) (jtb_ok (by decide +kernel)) (pc' := 607) (lv' := [(0, vR t), (6, vI l6)]) (st' := [vI (kI 4), vI q121]) rfl ?_
  refine j_icmp_eq hx (off := 6) (tgt := 613) (by decide +kernel) (by decide) (fun _ => ?_) (fun _ => ?_)
  · refine j_runA hx 1 (tb := [(613, .aload_n 0)]) (jtb_ok (by decide +kernel)) (pc' := 614) (lv' := [(0, vR t), (6, vI l6)]) (st' := [vR t]) rfl ?_
    refine j_getR hx flX8_23 kl1305 h119 (by decide) (by decide +kernel) ?_
    refine j_getR hx flX8_301 kl1412 h120 (by decide) (by decide +kernel) ?_
    refine j_runA hx 1 (tb := [(620, .iload 6)]) (jtb_ok (by decide +kernel)) (pc' := 622) (lv' := [(0, vR t), (6, vI l6)]) (st' := [vI l6, vR (jR W 1412 (jR W 1305 t))]) rfl ?_
    refine j_gd (fun h122 => ?_)
    refine j_lald hx (f := 1412) (o := (jR W 1305 t)) kd1412 rfl (by decide +kernel) h122 ?_
    refine j_runA hx 1 (tb := [(623, .lstore 7)]) (jtb_ok (by decide +kernel)) (pc' := 625) (lv' := [(7, vL (jB W 1412 (jR W 1305 t) (ix l6))), (0, vR t), (6, vI l6)]) (st' := []) rfl ?_
    refine j_let (v := (jB W 1412 (jR W 1305 t) (ix l6))) (lv := fun v123 => [(7, vL v123), (0, vR t), (6, vI l6)]) (st := fun _ => []) (fun v123 => ?_)
    refine j_lv (lv' := [(0, vR t), (6, vI l6), (7, vL v123)]) ⟨rfl, rfl, rfl, trivial⟩ ?_
    exact k625 l6 v123 W
  refine j_goto hx (off := 70) (by decide +kernel) (tgt := 680) (by decide) ?_
  exact wmo_write_680 h l6 W
theorem wmo_write_443 {x : jCx} {en : (fmo_write_S ⊕ (jW)) → Option (Outcome × jW)} {t : Nat} (h : hmo_write x en t) (l6 : Int32) (W : jW) : jJ x 9 443 [(0, vR t), (6, vI l6)] [] W (fmo_write_443 t l6 W) en := by
  have h0 := h
  obtain ⟨hx, hm, hr, he, k66, k97, k125, k158, k169, k340, k443, k585, k625⟩ := h0
  unfold fmo_write_443
  refine j_runA hx 2 (tb := [(443, .iload 6), (445, .aload_n 0)]) (jtb_ok (by decide +kernel)) (pc' := 446) (lv' := [(0, vR t), (6, vI l6)]) (st' := [vR t, vI l6]) rfl ?_
  refine j_gd (fun h100 => ?_)
  refine j_getR hx flX8_23 kl1305 h100 (by decide) (by decide +kernel) ?_
  refine j_gd (fun h101 => ?_)
  refine j_OI (j_callV (av := []) (st := [vI l6]) hx hr (Or.inl q2937) q2894 q2895 rfl md_fhd_symbolCount np_fhd_symbolCount (chd_symbolCount (jR W 1305 t) W) (by decide) (Nat.le_of_ble_eq_true rfl) h101 (by decide) (by decide +kernel)) (fun q102 _ => ?_)
  refine j_icmp_ge hx (off := 130) (tgt := 582) (by decide +kernel) (by decide) (fun _ => ?_) (fun _ => ?_)
  · refine j_runA hx 2 (tb := [(582, .iconst 1), (583, .istore 6)]) (jtb_ok (by decide +kernel)) (pc' := 585) (lv' := [(6, vI (kI 1)), (0, vR t)]) (st' := []) rfl ?_
    refine j_lv (lv' := [(0, vR t), (6, vI (kI 1))]) ⟨rfl, rfl, trivial⟩ ?_
    exact k585 (kI 1) W
  refine j_runA hx 1 (tb := [(455, .aload_n 0)]) (jtb_ok (by decide +kernel)) (pc' := 456) (lv' := [(0, vR t), (6, vI l6)]) (st' := [vR t]) rfl ?_
  refine j_getR hx flX8_23 kl1305 h100 (by decide) (by decide +kernel) ?_
  refine j_runA hx 1 (tb := [(459, .iload 6)]) (jtb_ok (by decide +kernel)) (pc' := 461) (lv' := [(0, vR t), (6, vI l6)]) (st' := [vI l6, vR (jR W 1305 t)]) rfl ?_
  refine j_OI (j_callV (av := [vI l6]) (st := []) hx hr (Or.inl q3279) q2943 q2944 rfl md_fhd_isOfText np_fhd_isOfText (chd_isOfText (jR W 1305 t) l6 W) (by decide) (Nat.le_of_ble_eq_true rfl) h101 (by decide) (by decide +kernel)) (fun q103 _ => ?_)
  refine j_if_ne hx (off := 6) (tgt := 470) (by decide +kernel) (by decide) (fun _ => ?_) (fun _ => ?_)
  · refine j_runA hx 1 (tb := [(470, .aload_n 0)]) (jtb_ok (by decide +kernel)) (pc' := 471) (lv' := [(0, vR t), (6, vI l6)]) (st' := [vR t]) rfl ?_
    refine j_getR hx flX8_23 kl1305 h100 (by decide) (by decide +kernel) ?_
    refine j_runA hx 1 (tb := [(474, .iload 6)]) (jtb_ok (by decide +kernel)) (pc' := 476) (lv' := [(0, vR t), (6, vI l6)]) (st' := [vI l6, vR (jR W 1305 t)]) rfl ?_
    refine j_OL (j_callV (av := [vI l6]) (st := []) hx hr (Or.inl q2946) q2898 q2899 rfl md_fhd_symbol np_fhd_symbol (chd_symbol (jR W 1305 t) l6 W) (by decide) (Nat.le_of_ble_eq_true rfl) h101 (by decide) (by decide +kernel)) (fun q104 _ => ?_)
    refine j_runA hx 4 (tb := [(479, .lstore 7), (481, .aload_n 0), (482, .lload 7), (484, .aload_n 0)]) (jtb_ok (by decide +kernel)) (pc' := 485) (lv' := [(7, vL q104), (0, vR t), (6, vI l6)]) (st' := [vR t, vL q104, vR t]) rfl ?_
    refine j_getI hx flX8_527 kd1356 h100 (by decide) (by decide +kernel) ?_
    refine j_runA hx 2 (tb := [(488, .i2l), (489, .ladd)]) (jtb_ok (by decide +kernel)) (pc' := 490) (lv' := [(7, vL q104), (0, vR t), (6, vI l6)]) (st' := [vL (q104 + ((jI W 1356 t).toInt64)), vR t]) rfl ?_
    refine j_ldc2 hx (v := (kJ 8)) (jkd2 q2948 (by decide +kernel)) (by decide +kernel) ?_
    refine j_runA hx 4 (tb := [(493, .ladd), (494, .bipush 8), (496, .aload_n 0), (497, .aload_n 0)]) (jtb_ok (by decide +kernel)) (pc' := 498) (lv' := [(7, vL q104), (0, vR t), (6, vI l6)]) (st' := [vR t, vR t, vI (kI 8), vL ((q104 + ((jI W 1356 t).toInt64)) + (kJ 8)), vR t]) rfl ?_
    refine j_getR hx flX8_23 kl1305 h100 (by decide) (by decide +kernel) ?_
    refine j_runA hx 1 (tb := [(501, .lload 7)]) (jtb_ok (by decide +kernel)) (pc' := 503) (lv' := [(7, vL q104), (0, vR t), (6, vI l6)]) (st' := [vL q104, vR (jR W 1305 t), vR t, vI (kI 8), vL ((q104 + ((jI W 1356 t).toInt64)) + (kJ 8)), vR t]) rfl ?_
    refine j_ldc2 hx (v := (kJ 8)) (jkd2 q2948 (by decide +kernel)) (by decide +kernel) ?_
    refine j_runA hx 2 (tb := [(506, .ladd), (507, .bipush 8)]) (jtb_ok (by decide +kernel)) (pc' := 509) (lv' := [(7, vL q104), (0, vR t), (6, vI l6)]) (st' := [vI (kI 8), vL (q104 + (kJ 8)), vR (jR W 1305 t), vR t, vI (kI 8), vL ((q104 + ((jI W 1356 t).toInt64)) + (kJ 8)), vR t]) rfl ?_
    refine j_OL (j_callV (av := [vL (q104 + (kJ 8)), vI (kI 8)]) (st := [vR t, vI (kI 8), vL ((q104 + ((jI W 1356 t).toInt64)) + (kJ 8)), vR t]) hx hr (Or.inl q2932) q2823 q2824 rfl md_fhd_num np_fhd_num (chd_num (jR W 1305 t) (q104 + (kJ 8)) (kI 8) W) (by decide) (Nat.le_of_ble_eq_true rfl) h101 (by decide) (by decide +kernel)) (fun q105 _ => ?_)
    refine j_OL (j_callV (av := [vL q105]) (st := [vI (kI 8), vL ((q104 + ((jI W 1356 t).toInt64)) + (kJ 8)), vR t]) hx hr (Or.inl q3272) q3274 qs175 rfl md_fmo_newAddress np_fmo_newAddress (cmo_newAddress t q105 W) (by decide) (Nat.le_of_ble_eq_true rfl) h100 (by decide) (by decide +kernel)) (fun q106 _ => ?_)
    refine j_WV (j_callV (av := [vL ((q104 + ((jI W 1356 t).toInt64)) + (kJ 8)), vI (kI 8), vL q106]) (st := []) hx hr (Or.inl q3268) q3270 qs174 rfl md_fmo_store np_fmo_store (cmo_store t ((q104 + ((jI W 1356 t).toInt64)) + (kJ 8)) (kI 8) q106 W) (by decide) (Nat.le_of_ble_eq_true rfl) h100 (by decide) (by decide +kernel)) (fun q107 _ => ?_)
    refine j_runA hx 1 (tb := [(518, .aload_n 0)]) (jtb_ok (by decide +kernel)) (pc' := 519) (lv' := [(7, vL q104), (0, vR t), (6, vI l6)]) (st' := [vR t]) rfl ?_
    refine j_gd (fun h109 => ?_)
    refine j_getR hx flX8_23 kl1305 h109 (by decide) (by decide +kernel) ?_
    refine j_runA hx 1 (tb := [(522, .iload 6)]) (jtb_ok (by decide +kernel)) (pc' := 524) (lv' := [(7, vL q104), (0, vR t), (6, vI l6)]) (st' := [vI l6, vR (jR q107 1305 t)]) rfl ?_
    refine j_gd (fun h110 => ?_)
    refine j_OI (j_callV (av := [vI l6]) (st := []) hx hr (Or.inl q2938) q2939 q2940 rfl md_fhd_isFunction np_fhd_isFunction (chd_isFunction (jR q107 1305 t) l6 q107) (by decide) (Nat.le_of_ble_eq_true rfl) h110 (by decide) (by decide +kernel)) (fun q111 _ => ?_)
    refine j_if_eq hx (off := 49) (tgt := 576) (by decide +kernel) (by decide) (fun _ => ?_) (fun _ => ?_)
    · refine j_lv (lv' := [(0, vR t), (6, vI l6)]) ⟨rfl, rfl, trivial⟩ ?_
      exact wmo_write_576 h l6 q107
    refine j_runA hx 3 (tb := [(530, .aload_n 0), (531, .lload 7), (533, .aload_n 0)]) (jtb_ok (by decide +kernel)) (pc' := 534) (lv' := [(7, vL q104), (0, vR t), (6, vI l6)]) (st' := [vR t, vL q104, vR t]) rfl ?_
    refine j_getI hx flX8_527 kd1356 h109 (by decide) (by decide +kernel) ?_
    refine j_runA hx 2 (tb := [(537, .i2l), (538, .ladd)]) (jtb_ok (by decide +kernel)) (pc' := 539) (lv' := [(7, vL q104), (0, vR t), (6, vI l6)]) (st' := [vL (q104 + ((jI q107 1356 t).toInt64)), vR t]) rfl ?_
    refine j_ldc2 hx (v := (kJ 16)) (jkd2 q2947 (by decide +kernel)) (by decide +kernel) ?_
    refine j_runA hx 4 (tb := [(542, .ladd), (543, .bipush 8), (545, .aload_n 0), (546, .aload_n 0)]) (jtb_ok (by decide +kernel)) (pc' := 547) (lv' := [(7, vL q104), (0, vR t), (6, vI l6)]) (st' := [vR t, vR t, vI (kI 8), vL ((q104 + ((jI q107 1356 t).toInt64)) + (kJ 16)), vR t]) rfl ?_
    refine j_getR hx flX8_23 kl1305 h109 (by decide) (by decide +kernel) ?_
    refine j_runA hx 1 (tb := [(550, .lload 7)]) (jtb_ok (by decide +kernel)) (pc' := 552) (lv' := [(7, vL q104), (0, vR t), (6, vI l6)]) (st' := [vL q104, vR (jR q107 1305 t), vR t, vI (kI 8), vL ((q104 + ((jI q107 1356 t).toInt64)) + (kJ 16)), vR t]) rfl ?_
    refine j_ldc2 hx (v := (kJ 8)) (jkd2 q2948 (by decide +kernel)) (by decide +kernel) ?_
    refine j_runA hx 2 (tb := [(555, .ladd), (556, .bipush 8)]) (jtb_ok (by decide +kernel)) (pc' := 558) (lv' := [(7, vL q104), (0, vR t), (6, vI l6)]) (st' := [vI (kI 8), vL (q104 + (kJ 8)), vR (jR q107 1305 t), vR t, vI (kI 8), vL ((q104 + ((jI q107 1356 t).toInt64)) + (kJ 16)), vR t]) rfl ?_
    refine j_OL (j_callV (av := [vL (q104 + (kJ 8)), vI (kI 8)]) (st := [vR t, vI (kI 8), vL ((q104 + ((jI q107 1356 t).toInt64)) + (kJ 16)), vR t]) hx hr (Or.inl q2932) q2823 q2824 rfl md_fhd_num np_fhd_num (chd_num (jR q107 1305 t) (q104 + (kJ 8)) (kI 8) q107) (by decide) (Nat.le_of_ble_eq_true rfl) h110 (by decide) (by decide +kernel)) (fun q112 _ => ?_)
    refine j_runA hx 1 (tb := [(561, .aload_n 0)]) (jtb_ok (by decide +kernel)) (pc' := 562) (lv' := [(7, vL q104), (0, vR t), (6, vI l6)]) (st' := [vR t, vL q112, vR t, vI (kI 8), vL ((q104 + ((jI q107 1356 t).toInt64)) + (kJ 16)), vR t]) rfl ?_
    refine j_getL hx flX8_310 kd1313 h109 (by decide) (by decide +kernel) ?_
    refine j_runA hx 3 (tb := [(565, .lsub), (566, .l2i), (567, .iconst 4)]) (jtb_ok (by decide +kernel)) (pc' := 568) (lv' := [(7, vL q104), (0, vR t), (6, vI l6)]) (st' := [vI (kI 4), vI ((q112 - (jL q107 1313 t)).toInt32), vR t, vI (kI 8), vL ((q104 + ((jI q107 1356 t).toInt64)) + (kJ 16)), vR t]) rfl ?_
    refine j_idiv hx (by decide +kernel) (by decide +kernel) ?_
    refine j_OI (j_callV (av := [vI (((q112 - (jL q107 1313 t)).toInt32) / (kI 4))]) (st := [vI (kI 8), vL ((q104 + ((jI q107 1356 t).toInt64)) + (kJ 16)), vR t]) hx hr (Or.inl q3280) q3282 qs176 rfl md_fmo_newSize np_fmo_newSize (cmo_newSize t (((q112 - (jL q107 1313 t)).toInt32) / (kI 4)) q107) (by decide) (Nat.le_of_ble_eq_true rfl) h109 (by decide) (by decide +kernel)) (fun q113 _ => ?_)
    refine j_runA hx 1 (tb := [(572, .i2l)]) (jtb_ok (by decide +kernel)) (pc' := 573) (lv' := [(7, vL q104), (0, vR t), (6, vI l6)]) (st' := [vL q113.toInt64, vI (kI 8), vL ((q104 + ((jI q107 1356 t).toInt64)) + (kJ 16)), vR t]) rfl ?_
    refine j_WV (j_callV (av := [vL ((q104 + ((jI q107 1356 t).toInt64)) + (kJ 16)), vI (kI 8), vL q113.toInt64]) (st := []) hx hr (Or.inl q3268) q3270 qs174 rfl md_fmo_store np_fmo_store (cmo_store t ((q104 + ((jI q107 1356 t).toInt64)) + (kJ 16)) (kI 8) q113.toInt64 q107) (by decide) (Nat.le_of_ble_eq_true rfl) h109 (by decide) (by decide +kernel)) (fun q114 _ => ?_)
    refine j_lv (lv' := [(0, vR t), (6, vI l6)]) ⟨rfl, rfl, trivial⟩ ?_
    exact wmo_write_576 h l6 q114
  refine j_goto hx (off := 109) (by decide +kernel) (tgt := 576) (by decide) ?_
  exact wmo_write_576 h l6 W
theorem wmo_write_340 {x : jCx} {en : (fmo_write_S ⊕ (jW)) → Option (Outcome × jW)} {t : Nat} (h : hmo_write x en t) (l1 : Int32) (l2 : Int32) (l4 : Int64) (l6 : Int32) (W : jW) : jJ x 9 340 [(0, vR t), (1, vI l1), (2, vI l2), (4, vL l4), (6, vI l6)] [] W (fmo_write_340 t l1 l2 l4 l6 W) en := by
  have h0 := h
  obtain ⟨hx, hm, hr, he, k66, k97, k125, k158, k169, k340, k443, k585, k625⟩ := h0
  unfold fmo_write_340
  refine j_runA hx 2 (tb := [(340, .iload 6), (342, .aload_n 0)]) (jtb_ok (by decide +kernel)) (pc' := 343) (lv' := [(0, vR t), (1, vI l1), (2, vI l2), (4, vL l4), (6, vI l6)]) (st' := [vR t, vI l6]) rfl ?_
  refine j_gd (fun h89 => ?_)
  refine j_getR hx flX8_23 kl1305 h89 (by decide) (by decide +kernel) ?_
  refine j_gd (fun h90 => ?_)
  refine j_getI hx flX8_333 kd1403 h90 (by decide) (by decide +kernel) ?_
  refine j_icmp_ge hx (off := 65) (tgt := 414) (by decide +kernel) (by decide) (fun _ => ?_) (fun _ => ?_)
  · refine j_runA hx 4 (tb := [(414, .aload_n 0), (415, .lload 4), (417, .bipush 64), (419, .aload_n 0)]) (jtb_ok (by decide +kernel)) (pc' := 420) (lv' := [(0, vR t), (1, vI l1), (2, vI l2), (4, vL l4), (6, vI l6)]) (st' := [vR t, vI (kI 64), vL l4, vR t]) rfl ?_
    refine j_getR hx flX8_23 kl1305 h89 (by decide) (by decide +kernel) ?_
    refine j_getI hx flX8_298 kd1415 h90 (by decide) (by decide +kernel) ?_
    refine j_runA hx 3 (tb := [(426, .imul), (427, .i2l), (428, .ladd)]) (jtb_ok (by decide +kernel)) (pc' := 429) (lv' := [(0, vR t), (1, vI l1), (2, vI l2), (4, vL l4), (6, vI l6)]) (st' := [vL (l4 + (((kI 64) * (jI W 1415 (jR W 1305 t))).toInt64)), vR t]) rfl ?_
    refine j_ldc2 hx (v := (kJ 32)) (jkd2 q3278 (by decide +kernel)) (by decide +kernel) ?_
    refine j_runA hx 4 (tb := [(432, .ladd), (433, .bipush 8), (435, .iload_n 1), (436, .i2l)]) (jtb_ok (by decide +kernel)) (pc' := 437) (lv' := [(0, vR t), (1, vI l1), (2, vI l2), (4, vL l4), (6, vI l6)]) (st' := [vL l1.toInt64, vI (kI 8), vL ((l4 + (((kI 64) * (jI W 1415 (jR W 1305 t))).toInt64)) + (kJ 32)), vR t]) rfl ?_
    refine j_WV (j_callV (av := [vL ((l4 + (((kI 64) * (jI W 1415 (jR W 1305 t))).toInt64)) + (kJ 32)), vI (kI 8), vL l1.toInt64]) (st := []) hx hr (Or.inl q3268) q3270 qs174 rfl md_fmo_store np_fmo_store (cmo_store t ((l4 + (((kI 64) * (jI W 1415 (jR W 1305 t))).toInt64)) + (kJ 32)) (kI 8) l1.toInt64 W) (by decide) (Nat.le_of_ble_eq_true rfl) h89 (by decide) (by decide +kernel)) (fun q91 _ => ?_)
    refine j_runA hx 2 (tb := [(440, .iconst 1), (441, .istore 6)]) (jtb_ok (by decide +kernel)) (pc' := 443) (lv' := [(6, vI (kI 1)), (0, vR t), (1, vI l1), (2, vI l2), (4, vL l4)]) (st' := []) rfl ?_
    refine j_lv (lv' := [(0, vR t), (6, vI (kI 1))]) ⟨rfl, rfl, trivial⟩ ?_
    exact k443 (kI 1) q91
  refine j_runA hx 1 (tb := [(352, .aload_n 0)]) (jtb_ok (by decide +kernel)) (pc' := 353) (lv' := [(0, vR t), (1, vI l1), (2, vI l2), (4, vL l4), (6, vI l6)]) (st' := [vR t]) rfl ?_
  refine j_getR hx flX8_23 kl1305 h89 (by decide) (by decide +kernel) ?_
  refine j_getR hx flX8_301 kl1412 h90 (by decide) (by decide +kernel) ?_
  refine j_runA hx 1 (tb := [(359, .iload 6)]) (jtb_ok (by decide +kernel)) (pc' := 361) (lv' := [(0, vR t), (1, vI l1), (2, vI l2), (4, vL l4), (6, vI l6)]) (st' := [vI l6, vR (jR W 1412 (jR W 1305 t))]) rfl ?_
  refine j_gd (fun h93 => ?_)
  refine j_lald hx (f := 1412) (o := (jR W 1305 t)) kd1412 rfl (by decide +kernel) h93 ?_
  refine j_runA hx 1 (tb := [(362, .aload_n 0)]) (jtb_ok (by decide +kernel)) (pc' := 363) (lv' := [(0, vR t), (1, vI l1), (2, vI l2), (4, vL l4), (6, vI l6)]) (st' := [vR t, vL (jB W 1412 (jR W 1305 t) (ix l6))]) rfl ?_
  refine j_getI hx flX8_304 kd1309 h89 (by decide) (by decide +kernel) ?_
  refine j_runA hx 3 (tb := [(366, .iload_n 2), (367, .iadd), (368, .i2l)]) (jtb_ok (by decide +kernel)) (pc' := 369) (lv' := [(0, vR t), (1, vI l1), (2, vI l2), (4, vL l4), (6, vI l6)]) (st' := [vL (((jI W 1309 t) + l2).toInt64), vL (jB W 1412 (jR W 1305 t) (ix l6))]) rfl ?_
  refine j_lcmp_lt hx (off := 38) (tgt := 408) (by decide +kernel) (by decide +kernel) (by decide) (fun _ => ?_) (fun _ => ?_)
  · exact wmo_write_408 h l1 l2 l4 l6 W
  refine j_runA hx 7 (tb := [(373, .aload_n 0), (374, .lload 4), (376, .bipush 64), (378, .iload 6), (380, .imul), (381, .i2l), (382, .ladd)]) (jtb_ok (by decide +kernel)) (pc' := 383) (lv' := [(0, vR t), (1, vI l1), (2, vI l2), (4, vL l4), (6, vI l6)]) (st' := [vL (l4 + (((kI 64) * l6).toInt64)), vR t]) rfl ?_
  refine j_ldc2 hx (v := (kJ 24)) (jkd2 q3035 (by decide +kernel)) (by decide +kernel) ?_
  refine j_runA hx 3 (tb := [(386, .ladd), (387, .bipush 8), (389, .aload_n 0)]) (jtb_ok (by decide +kernel)) (pc' := 390) (lv' := [(0, vR t), (1, vI l1), (2, vI l2), (4, vL l4), (6, vI l6)]) (st' := [vR t, vI (kI 8), vL ((l4 + (((kI 64) * l6).toInt64)) + (kJ 24)), vR t]) rfl ?_
  refine j_getR hx flX8_23 kl1305 h89 (by decide) (by decide +kernel) ?_
  refine j_getR hx flX8_301 kl1412 h90 (by decide) (by decide +kernel) ?_
  refine j_runA hx 1 (tb := [(396, .iload 6)]) (jtb_ok (by decide +kernel)) (pc' := 398) (lv' := [(0, vR t), (1, vI l1), (2, vI l2), (4, vL l4), (6, vI l6)]) (st' := [vI l6, vR (jR W 1412 (jR W 1305 t)), vI (kI 8), vL ((l4 + (((kI 64) * l6).toInt64)) + (kJ 24)), vR t]) rfl ?_
  refine j_gd (fun h94 => ?_)
  refine j_lald hx (f := 1412) (o := (jR W 1305 t)) kd1412 rfl (by decide +kernel) h94 ?_
  refine j_runA hx 1 (tb := [(399, .aload_n 0)]) (jtb_ok (by decide +kernel)) (pc' := 400) (lv' := [(0, vR t), (1, vI l1), (2, vI l2), (4, vL l4), (6, vI l6)]) (st' := [vR t, vL (jB W 1412 (jR W 1305 t) (ix l6)), vI (kI 8), vL ((l4 + (((kI 64) * l6).toInt64)) + (kJ 24)), vR t]) rfl ?_
  refine j_getI hx flX8_527 kd1356 h89 (by decide) (by decide +kernel) ?_
  refine j_runA hx 2 (tb := [(403, .i2l), (404, .ladd)]) (jtb_ok (by decide +kernel)) (pc' := 405) (lv' := [(0, vR t), (1, vI l1), (2, vI l2), (4, vL l4), (6, vI l6)]) (st' := [vL ((jB W 1412 (jR W 1305 t) (ix l6)) + ((jI W 1356 t).toInt64)), vI (kI 8), vL ((l4 + (((kI 64) * l6).toInt64)) + (kJ 24)), vR t]) rfl ?_
  refine j_WV (j_callV (av := [vL ((l4 + (((kI 64) * l6).toInt64)) + (kJ 24)), vI (kI 8), vL ((jB W 1412 (jR W 1305 t) (ix l6)) + ((jI W 1356 t).toInt64))]) (st := []) hx hr (Or.inl q3268) q3270 qs174 rfl md_fmo_store np_fmo_store (cmo_store t ((l4 + (((kI 64) * l6).toInt64)) + (kJ 24)) (kI 8) ((jB W 1412 (jR W 1305 t) (ix l6)) + ((jI W 1356 t).toInt64)) W) (by decide) (Nat.le_of_ble_eq_true rfl) h89 (by decide) (by decide +kernel)) (fun q95 _ => ?_)
  exact wmo_write_408 h l1 l2 l4 l6 q95
theorem wmo_write_158 {x : jCx} {en : (fmo_write_S ⊕ (jW)) → Option (Outcome × jW)} {t : Nat} (h : hmo_write x en t) (l1 : Int32) (l2 : Int32) (l3 : Int32) (W : jW) : jJ x 9 158 [(0, vR t), (1, vI l1), (2, vI l2), (3, vI l3)] [] W (fmo_write_158 t l1 l2 l3 W) en := by
  have h0 := h
  obtain ⟨hx, hm, hr, he, k66, k97, k125, k158, k169, k340, k443, k585, k625⟩ := h0
  unfold fmo_write_158
  refine j_runA hx 2 (tb := [(158, .iload_n 3), (159, .aload_n 0)]) (jtb_ok (by decide +kernel)) (pc' := 160) (lv' := [(0, vR t), (1, vI l1), (2, vI l2), (3, vI l3)]) (st' := [vR t, vI l3]) rfl ?_
  refine j_gd (fun h55 => ?_)
  refine j_getI hx flX8_399 kd1312 h55 (by decide) (by decide +kernel) ?_
  refine j_icmp_ge hx (off := 70) (tgt := 233) (by decide +kernel) (by decide) (fun _ => ?_) (fun _ => ?_)
  · refine j_runA hx 1 (tb := [(233, .aload_n 0)]) (jtb_ok (by decide +kernel)) (pc' := 234) (lv' := [(0, vR t), (1, vI l1), (2, vI l2), (3, vI l3)]) (st' := [vR t]) rfl ?_
    refine j_ldc2 hx (v := (kJ 24)) (jkd2 q3035 (by decide +kernel)) (by decide +kernel) ?_
    refine j_runA hx 3 (tb := [(237, .bipush 8), (239, .aload_n 0), (240, .aload_n 0)]) (jtb_ok (by decide +kernel)) (pc' := 241) (lv' := [(0, vR t), (1, vI l1), (2, vI l2), (3, vI l3)]) (st' := [vR t, vR t, vI (kI 8), vL (kJ 24), vR t]) rfl ?_
    refine j_getR hx flX8_23 kl1305 h55 (by decide) (by decide +kernel) ?_
    refine j_ldc2 hx (v := (kJ 24)) (jkd2 q3035 (by decide +kernel)) (by decide +kernel) ?_
    refine j_runA hx 1 (tb := [(247, .bipush 8)]) (jtb_ok (by decide +kernel)) (pc' := 249) (lv' := [(0, vR t), (1, vI l1), (2, vI l2), (3, vI l3)]) (st' := [vI (kI 8), vL (kJ 24), vR (jR W 1305 t), vR t, vI (kI 8), vL (kJ 24), vR t]) rfl ?_
    refine j_gd (fun h56 => ?_)
    refine j_OL (j_callV (av := [vL (kJ 24), vI (kI 8)]) (st := [vR t, vI (kI 8), vL (kJ 24), vR t]) hx hr (Or.inl q2932) q2823 q2824 rfl md_fhd_num np_fhd_num (chd_num (jR W 1305 t) (kJ 24) (kI 8) W) (by decide) (Nat.le_of_ble_eq_true rfl) h56 (by decide) (by decide +kernel)) (fun q57 _ => ?_)
    refine j_OL (j_callV (av := [vL q57]) (st := [vI (kI 8), vL (kJ 24), vR t]) hx hr (Or.inl q3272) q3274 qs175 rfl md_fmo_newAddress np_fmo_newAddress (cmo_newAddress t q57 W) (by decide) (Nat.le_of_ble_eq_true rfl) h55 (by decide) (by decide +kernel)) (fun q58 _ => ?_)
    refine j_WV (j_callV (av := [vL (kJ 24), vI (kI 8), vL q58]) (st := []) hx hr (Or.inl q3268) q3270 qs174 rfl md_fmo_store np_fmo_store (cmo_store t (kJ 24) (kI 8) q58 W) (by decide) (Nat.le_of_ble_eq_true rfl) h55 (by decide) (by decide +kernel)) (fun q59 _ => ?_)
    refine j_runA hx 1 (tb := [(258, .aload_n 0)]) (jtb_ok (by decide +kernel)) (pc' := 259) (lv' := [(0, vR t), (1, vI l1), (2, vI l2), (3, vI l3)]) (st' := [vR t]) rfl ?_
    refine j_ldc2 hx (v := (kJ 40)) (jkd2 q3277 (by decide +kernel)) (by decide +kernel) ?_
    refine j_runA hx 2 (tb := [(262, .bipush 8), (264, .aload_n 0)]) (jtb_ok (by decide +kernel)) (pc' := 265) (lv' := [(0, vR t), (1, vI l1), (2, vI l2), (3, vI l3)]) (st' := [vR t, vI (kI 8), vL (kJ 40), vR t]) rfl ?_
    refine j_gd (fun h61 => ?_)
    refine j_getR hx flX8_23 kl1305 h61 (by decide) (by decide +kernel) ?_
    refine j_gd (fun h62 => ?_)
    refine j_getL hx flX8_542 kd1405 h62 (by decide) (by decide +kernel) ?_
    refine j_runA hx 1 (tb := [(271, .aload_n 0)]) (jtb_ok (by decide +kernel)) (pc' := 272) (lv' := [(0, vR t), (1, vI l1), (2, vI l2), (3, vI l3)]) (st' := [vR t, vL (jL q59 1405 (jR q59 1305 t)), vI (kI 8), vL (kJ 40), vR t]) rfl ?_
    refine j_getI hx flX8_527 kd1356 h61 (by decide) (by decide +kernel) ?_
    refine j_runA hx 2 (tb := [(275, .i2l), (276, .ladd)]) (jtb_ok (by decide +kernel)) (pc' := 277) (lv' := [(0, vR t), (1, vI l1), (2, vI l2), (3, vI l3)]) (st' := [vL ((jL q59 1405 (jR q59 1305 t)) + ((jI q59 1356 t).toInt64)), vI (kI 8), vL (kJ 40), vR t]) rfl ?_
    refine j_WV (j_callV (av := [vL (kJ 40), vI (kI 8), vL ((jL q59 1405 (jR q59 1305 t)) + ((jI q59 1356 t).toInt64))]) (st := []) hx hr (Or.inl q3268) q3270 qs174 rfl md_fmo_store np_fmo_store (cmo_store t (kJ 40) (kI 8) ((jL q59 1405 (jR q59 1305 t)) + ((jI q59 1356 t).toInt64)) q59) (by decide) (Nat.le_of_ble_eq_true rfl) h61 (by decide) (by decide +kernel)) (fun q63 _ => ?_)
    refine j_runA hx 3 (tb := [(280, .bipush 64), (282, .bipush 56), (284, .aload_n 0)]) (jtb_ok (by decide +kernel)) (pc' := 285) (lv' := [(0, vR t), (1, vI l1), (2, vI l2), (3, vI l3)]) (st' := [vR t, vI (kI 56), vI (kI 64)]) rfl ?_
    refine j_gd (fun h65 => ?_)
    refine j_getR hx flX8_23 kl1305 h65 (by decide) (by decide +kernel) ?_
    refine j_gd (fun h66 => ?_)
    refine j_getI hx flX8_545 kd1402 h66 (by decide) (by decide +kernel) ?_
    refine j_runA hx 5 (tb := [(291, .iconst 1), (292, .isub), (293, .imul), (294, .iadd), (295, .istore_n 3)]) (jtb_ok (by decide +kernel)) (pc' := 296) (lv' := [(3, vI ((kI 64) + ((kI 56) * ((jI q63 1402 (jR q63 1305 t)) - (kI 1))))), (0, vR t), (1, vI l1), (2, vI l2)]) (st' := []) rfl ?_
    refine j_let (v := ((kI 64) + ((kI 56) * ((jI q63 1402 (jR q63 1305 t)) - (kI 1))))) (lv := fun v67 => [(3, vI v67), (0, vR t), (1, vI l1), (2, vI l2)]) (st := fun _ => []) (fun v67 => ?_)
    refine j_runA hx 8 (tb := [(296, .aload_n 0), (297, .iload_n 3), (298, .bipush 32), (300, .iadd), (301, .i2l), (302, .bipush 8), (304, .iload_n 1), (305, .i2l)]) (jtb_ok (by decide +kernel)) (pc' := 306) (lv' := [(3, vI v67), (0, vR t), (1, vI l1), (2, vI l2)]) (st' := [vL l1.toInt64, vI (kI 8), vL ((v67 + (kI 32)).toInt64), vR t]) rfl ?_
    refine j_WV (j_callV (av := [vL ((v67 + (kI 32)).toInt64), vI (kI 8), vL l1.toInt64]) (st := []) hx hr (Or.inl q3268) q3270 qs174 rfl md_fmo_store np_fmo_store (cmo_store t ((v67 + (kI 32)).toInt64) (kI 8) l1.toInt64 q63) (by decide) (Nat.le_of_ble_eq_true rfl) h65 (by decide) (by decide +kernel)) (fun q68 _ => ?_)
    refine j_runA hx 8 (tb := [(309, .aload_n 0), (310, .iload_n 3), (311, .bipush 40), (313, .iadd), (314, .i2l), (315, .bipush 8), (317, .iload_n 1), (318, .i2l)]) (jtb_ok (by decide +kernel)) (pc' := 319) (lv' := [(3, vI v67), (0, vR t), (1, vI l1), (2, vI l2)]) (st' := [vL l1.toInt64, vI (kI 8), vL ((v67 + (kI 40)).toInt64), vR t]) rfl ?_
    refine j_gd (fun h70 => ?_)
    refine j_WV (j_callV (av := [vL ((v67 + (kI 40)).toInt64), vI (kI 8), vL l1.toInt64]) (st := []) hx hr (Or.inl q3268) q3270 qs174 rfl md_fmo_store np_fmo_store (cmo_store t ((v67 + (kI 40)).toInt64) (kI 8) l1.toInt64 q68) (by decide) (Nat.le_of_ble_eq_true rfl) h70 (by decide) (by decide +kernel)) (fun q71 _ => ?_)
    refine j_runA hx 1 (tb := [(322, .aload_n 0)]) (jtb_ok (by decide +kernel)) (pc' := 323) (lv' := [(3, vI v67), (0, vR t), (1, vI l1), (2, vI l2)]) (st' := [vR t]) rfl ?_
    refine j_gd (fun h73 => ?_)
    refine j_getR hx flX8_23 kl1305 h73 (by decide) (by decide +kernel) ?_
    refine j_gd (fun h74 => ?_)
    refine j_getL hx flX8_542 kd1405 h74 (by decide) (by decide +kernel) ?_
    refine j_runA hx 1 (tb := [(329, .aload_n 0)]) (jtb_ok (by decide +kernel)) (pc' := 330) (lv' := [(3, vI v67), (0, vR t), (1, vI l1), (2, vI l2)]) (st' := [vR t, vL (jL q71 1405 (jR q71 1305 t))]) rfl ?_
    refine j_getI hx flX8_527 kd1356 h73 (by decide) (by decide +kernel) ?_
    refine j_runA hx 3 (tb := [(333, .i2l), (334, .ladd), (335, .lstore 4)]) (jtb_ok (by decide +kernel)) (pc' := 337) (lv' := [(4, vL ((jL q71 1405 (jR q71 1305 t)) + ((jI q71 1356 t).toInt64))), (3, vI v67), (0, vR t), (1, vI l1), (2, vI l2)]) (st' := []) rfl ?_
    refine j_let (v := ((jL q71 1405 (jR q71 1305 t)) + ((jI q71 1356 t).toInt64))) (lv := fun v75 => [(4, vL v75), (3, vI v67), (0, vR t), (1, vI l1), (2, vI l2)]) (st := fun _ => []) (fun v75 => ?_)
    refine j_runA hx 2 (tb := [(337, .iconst 1), (338, .istore 6)]) (jtb_ok (by decide +kernel)) (pc' := 340) (lv' := [(6, vI (kI 1)), (4, vL v75), (3, vI v67), (0, vR t), (1, vI l1), (2, vI l2)]) (st' := []) rfl ?_
    refine j_lv (lv' := [(0, vR t), (1, vI l1), (2, vI l2), (4, vL v75), (6, vI (kI 1))]) ⟨rfl, rfl, rfl, rfl, rfl, trivial⟩ ?_
    exact k340 l1 l2 v75 (kI 1) q71
  refine j_runA hx 2 (tb := [(166, .iconst 0), (167, .istore 4)]) (jtb_ok (by decide +kernel)) (pc' := 169) (lv' := [(4, vI (kI 0)), (0, vR t), (1, vI l1), (2, vI l2), (3, vI l3)]) (st' := []) rfl ?_
  refine j_lv (lv' := [(0, vR t), (1, vI l1), (2, vI l2), (3, vI l3), (4, vI (kI 0))]) ⟨rfl, rfl, rfl, rfl, rfl, trivial⟩ ?_
  exact k169 l1 l2 l3 (kI 0) W
theorem wmo_write_125 {x : jCx} {en : (fmo_write_S ⊕ (jW)) → Option (Outcome × jW)} {t : Nat} (h : hmo_write x en t) (l1 : Int32) (l2 : Int32) (l3 : Int32) (W : jW) : jJ x 9 125 [(0, vR t), (1, vI l1), (2, vI l2), (3, vI l3)] [] W (fmo_write_125 t l1 l2 l3 W) en := by
  have h0 := h
  obtain ⟨hx, hm, hr, he, k66, k97, k125, k158, k169, k340, k443, k585, k625⟩ := h0
  unfold fmo_write_125
  refine j_runA hx 2 (tb := [(125, .iload_n 3), (126, .aload_n 0)]) (jtb_ok (by decide +kernel)) (pc' := 127) (lv' := [(0, vR t), (1, vI l1), (2, vI l2), (3, vI l3)]) (st' := [vR t, vI l3]) rfl ?_
  refine j_gd (fun h44 => ?_)
  refine j_getI hx flX8_269 kd1308 h44 (by decide) (by decide +kernel) ?_
  refine j_icmp_ge hx (off := 26) (tgt := 156) (by decide +kernel) (by decide) (fun _ => ?_) (fun _ => ?_)
  · refine j_runA hx 2 (tb := [(156, .iconst 0), (157, .istore_n 3)]) (jtb_ok (by decide +kernel)) (pc' := 158) (lv' := [(3, vI (kI 0)), (0, vR t), (1, vI l1), (2, vI l2)]) (st' := []) rfl ?_
    refine j_lv (lv' := [(0, vR t), (1, vI l1), (2, vI l2), (3, vI (kI 0))]) ⟨rfl, rfl, rfl, rfl, trivial⟩ ?_
    exact k158 l1 l2 (kI 0) W
  refine j_runA hx 1 (tb := [(133, .aload_n 0)]) (jtb_ok (by decide +kernel)) (pc' := 134) (lv' := [(0, vR t), (1, vI l1), (2, vI l2), (3, vI l3)]) (st' := [vR t]) rfl ?_
  refine j_getR hx flX8_151 kl1354 h44 (by decide) (by decide +kernel) ?_
  refine j_runA hx 2 (tb := [(137, .iload_n 3), (138, .aload_n 0)]) (jtb_ok (by decide +kernel)) (pc' := 139) (lv' := [(0, vR t), (1, vI l1), (2, vI l2), (3, vI l3)]) (st' := [vR t, vI l3, vR (jR W 1354 t)]) rfl ?_
  refine j_getI hx flX8_527 kd1356 h44 (by decide) (by decide +kernel) ?_
  refine j_runA hx 2 (tb := [(142, .iadd), (143, .aload_n 0)]) (jtb_ok (by decide +kernel)) (pc' := 144) (lv' := [(0, vR t), (1, vI l1), (2, vI l2), (3, vI l3)]) (st' := [vR t, vI (l3 + (jI W 1356 t)), vR (jR W 1354 t)]) rfl ?_
  refine j_getR hx flX8_14 kl1303 h44 (by decide) (by decide +kernel) ?_
  refine j_runA hx 1 (tb := [(147, .iload_n 3)]) (jtb_ok (by decide +kernel)) (pc' := 148) (lv' := [(0, vR t), (1, vI l1), (2, vI l2), (3, vI l3)]) (st' := [vI l3, vR (jR W 1303 t), vI (l3 + (jI W 1356 t)), vR (jR W 1354 t)]) rfl ?_
  refine j_gd (fun h45 => ?_)
  refine j_gd (fun h46 => ?_)
  refine j_bald hx (f := 9004) (o := (jR W 1303 t)) kd9004 h45 (by decide +kernel) h46 ?_
  refine j_gd (fun h47 => ?_)
  refine j_gd (fun h48 => ?_)
  refine j_bast hx (f := 9004) (o := (jR W 1354 t)) kd9004 h47 (by decide +kernel) h48 ?_
  refine j_ltw rfl (fun W49 hc50 => ?_)
  have h51 : jC W49 t = 13 := (congrFun hc50 _).trans h44
  refine j_runA hx 1 (tb := [(150, .iinc 3 1)]) (jtb_ok (by decide +kernel)) (pc' := 153) (lv' := [(3, vI (l3 + (kI 1))), (0, vR t), (1, vI l1), (2, vI l2)]) (st' := []) rfl ?_
  refine j_let (v := (l3 + (kI 1))) (lv := fun v53 => [(3, vI v53), (0, vR t), (1, vI l1), (2, vI l2)]) (st := fun _ => []) (fun v53 => ?_)
  refine j_goto hx (off := -28) (by decide +kernel) (tgt := 125) (by decide) ?_
  refine j_lv (lv' := [(0, vR t), (1, vI l1), (2, vI l2), (3, vI v53)]) ⟨rfl, rfl, rfl, rfl, trivial⟩ ?_
  exact k125 l1 l2 v53 W49
theorem wmo_write_97 {x : jCx} {en : (fmo_write_S ⊕ (jW)) → Option (Outcome × jW)} {t : Nat} (h : hmo_write x en t) (l1 : Int32) (l2 : Int32) (l3 : Int32) (W : jW) : jJ x 9 97 [(0, vR t), (1, vI l1), (2, vI l2), (3, vI l3)] [] W (fmo_write_97 t l1 l2 l3 W) en := by
  have h0 := h
  obtain ⟨hx, hm, hr, he, k66, k97, k125, k158, k169, k340, k443, k585, k625⟩ := h0
  unfold fmo_write_97
  refine j_runA hx 2 (tb := [(97, .iload_n 3), (98, .aload_n 0)]) (jtb_ok (by decide +kernel)) (pc' := 99) (lv' := [(0, vR t), (1, vI l1), (2, vI l2), (3, vI l3)]) (st' := [vR t, vI l3]) rfl ?_
  refine j_gd (fun h34 => ?_)
  refine j_getI hx flX8_530 kd1355 h34 (by decide) (by decide +kernel) ?_
  refine j_icmp_ge hx (off := 16) (tgt := 118) (by decide +kernel) (by decide) (fun _ => ?_) (fun _ => ?_)
  · refine j_runA hx 1 (tb := [(118, .aload_n 0)]) (jtb_ok (by decide +kernel)) (pc' := 119) (lv' := [(0, vR t), (1, vI l1), (2, vI l2), (3, vI l3)]) (st' := [vR t]) rfl ?_
    refine j_getI hx flX8_304 kd1309 h34 (by decide) (by decide +kernel) ?_
    refine j_runA hx 3 (tb := [(122, .iload_n 2), (123, .iadd), (124, .istore_n 3)]) (jtb_ok (by decide +kernel)) (pc' := 125) (lv' := [(3, vI ((jI W 1309 t) + l2)), (0, vR t), (1, vI l1), (2, vI l2)]) (st' := []) rfl ?_
    refine j_let (v := ((jI W 1309 t) + l2)) (lv := fun v35 => [(3, vI v35), (0, vR t), (1, vI l1), (2, vI l2)]) (st := fun _ => []) (fun v35 => ?_)
    refine j_lv (lv' := [(0, vR t), (1, vI l1), (2, vI l2), (3, vI v35)]) ⟨rfl, rfl, rfl, rfl, trivial⟩ ?_
    exact k125 l1 l2 v35 W
  refine j_runA hx 1 (tb := [(105, .aload_n 0)]) (jtb_ok (by decide +kernel)) (pc' := 106) (lv' := [(0, vR t), (1, vI l1), (2, vI l2), (3, vI l3)]) (st' := [vR t]) rfl ?_
  refine j_getR hx flX8_151 kl1354 h34 (by decide) (by decide +kernel) ?_
  refine j_runA hx 2 (tb := [(109, .iload_n 3), (110, .iconst 0)]) (jtb_ok (by decide +kernel)) (pc' := 111) (lv' := [(0, vR t), (1, vI l1), (2, vI l2), (3, vI l3)]) (st' := [vI (kI 0), vI l3, vR (jR W 1354 t)]) rfl ?_
  refine j_gd (fun h36 => ?_)
  refine j_gd (fun h37 => ?_)
  refine j_bast hx (f := 9004) (o := (jR W 1354 t)) kd9004 h36 (by decide +kernel) h37 ?_
  refine j_ltw rfl (fun W38 hc39 => ?_)
  have h40 : jC W38 t = 13 := (congrFun hc39 _).trans h34
  refine j_runA hx 1 (tb := [(112, .iinc 3 1)]) (jtb_ok (by decide +kernel)) (pc' := 115) (lv' := [(3, vI (l3 + (kI 1))), (0, vR t), (1, vI l1), (2, vI l2)]) (st' := []) rfl ?_
  refine j_let (v := (l3 + (kI 1))) (lv := fun v42 => [(3, vI v42), (0, vR t), (1, vI l1), (2, vI l2)]) (st := fun _ => []) (fun v42 => ?_)
  refine j_goto hx (off := -18) (by decide +kernel) (tgt := 97) (by decide) ?_
  refine j_lv (lv' := [(0, vR t), (1, vI l1), (2, vI l2), (3, vI v42)]) ⟨rfl, rfl, rfl, rfl, trivial⟩ ?_
  exact k97 l1 l2 v42 W38
theorem wmo_write_66 {x : jCx} {en : (fmo_write_S ⊕ (jW)) → Option (Outcome × jW)} {t : Nat} (h : hmo_write x en t) (l1 : Int32) (l2 : Int32) (l3 : Int32) (W : jW) : jJ x 9 66 [(0, vR t), (1, vI l1), (2, vI l2), (3, vI l3)] [] W (fmo_write_66 t l1 l2 l3 W) en := by
  have h0 := h
  obtain ⟨hx, hm, hr, he, k66, k97, k125, k158, k169, k340, k443, k585, k625⟩ := h0
  unfold fmo_write_66
  refine j_runA hx 2 (tb := [(66, .iload_n 3), (67, .aload_n 0)]) (jtb_ok (by decide +kernel)) (pc' := 68) (lv' := [(0, vR t), (1, vI l1), (2, vI l2), (3, vI l3)]) (st' := [vR t, vI l3]) rfl ?_
  refine j_gd (fun h22 => ?_)
  refine j_getI hx flX8_304 kd1309 h22 (by decide) (by decide +kernel) ?_
  refine j_icmp_ge hx (off := 21) (tgt := 92) (by decide +kernel) (by decide) (fun _ => ?_) (fun _ => ?_)
  · refine j_runA hx 1 (tb := [(92, .aload_n 0)]) (jtb_ok (by decide +kernel)) (pc' := 93) (lv' := [(0, vR t), (1, vI l1), (2, vI l2), (3, vI l3)]) (st' := [vR t]) rfl ?_
    refine j_getI hx flX8_304 kd1309 h22 (by decide) (by decide +kernel) ?_
    refine j_runA hx 1 (tb := [(96, .istore_n 3)]) (jtb_ok (by decide +kernel)) (pc' := 97) (lv' := [(3, vI (jI W 1309 t)), (0, vR t), (1, vI l1), (2, vI l2)]) (st' := []) rfl ?_
    refine j_let (v := (jI W 1309 t)) (lv := fun v23 => [(3, vI v23), (0, vR t), (1, vI l1), (2, vI l2)]) (st := fun _ => []) (fun v23 => ?_)
    refine j_lv (lv' := [(0, vR t), (1, vI l1), (2, vI l2), (3, vI v23)]) ⟨rfl, rfl, rfl, rfl, trivial⟩ ?_
    exact k97 l1 l2 v23 W
  refine j_runA hx 1 (tb := [(74, .aload_n 0)]) (jtb_ok (by decide +kernel)) (pc' := 75) (lv' := [(0, vR t), (1, vI l1), (2, vI l2), (3, vI l3)]) (st' := [vR t]) rfl ?_
  refine j_getR hx flX8_151 kl1354 h22 (by decide) (by decide +kernel) ?_
  refine j_runA hx 2 (tb := [(78, .iload_n 3), (79, .aload_n 0)]) (jtb_ok (by decide +kernel)) (pc' := 80) (lv' := [(0, vR t), (1, vI l1), (2, vI l2), (3, vI l3)]) (st' := [vR t, vI l3, vR (jR W 1354 t)]) rfl ?_
  refine j_getR hx flX8_14 kl1303 h22 (by decide) (by decide +kernel) ?_
  refine j_runA hx 1 (tb := [(83, .iload_n 3)]) (jtb_ok (by decide +kernel)) (pc' := 84) (lv' := [(0, vR t), (1, vI l1), (2, vI l2), (3, vI l3)]) (st' := [vI l3, vR (jR W 1303 t), vI l3, vR (jR W 1354 t)]) rfl ?_
  refine j_gd (fun h24 => ?_)
  refine j_gd (fun h25 => ?_)
  refine j_bald hx (f := 9004) (o := (jR W 1303 t)) kd9004 h24 (by decide +kernel) h25 ?_
  refine j_gd (fun h26 => ?_)
  refine j_gd (fun h27 => ?_)
  refine j_bast hx (f := 9004) (o := (jR W 1354 t)) kd9004 h26 (by decide +kernel) h27 ?_
  refine j_ltw rfl (fun W28 hc29 => ?_)
  have h30 : jC W28 t = 13 := (congrFun hc29 _).trans h22
  refine j_runA hx 1 (tb := [(86, .iinc 3 1)]) (jtb_ok (by decide +kernel)) (pc' := 89) (lv' := [(3, vI (l3 + (kI 1))), (0, vR t), (1, vI l1), (2, vI l2)]) (st' := []) rfl ?_
  refine j_let (v := (l3 + (kI 1))) (lv := fun v32 => [(3, vI v32), (0, vR t), (1, vI l1), (2, vI l2)]) (st := fun _ => []) (fun v32 => ?_)
  refine j_goto hx (off := -23) (by decide +kernel) (tgt := 66) (by decide) ?_
  refine j_lv (lv' := [(0, vR t), (1, vI l1), (2, vI l2), (3, vI v32)]) ⟨rfl, rfl, rfl, rfl, trivial⟩ ?_
  exact k66 l1 l2 v32 W28
theorem wmo_write_51 {x : jCx} {en : (fmo_write_S ⊕ (jW)) → Option (Outcome × jW)} {t : Nat} (h : hmo_write x en t) (l1 : Int32) (l2 : Int32) (W : jW) : jJ x 9 51 [(0, vR t), (1, vI l1), (2, vI l2)] [] W (fmo_write_51 t l1 l2 W) en := by
  have h0 := h
  obtain ⟨hx, hm, hr, he, k66, k97, k125, k158, k169, k340, k443, k585, k625⟩ := h0
  unfold fmo_write_51
  refine j_runA hx 2 (tb := [(51, .aload_n 0), (52, .aload_n 0)]) (jtb_ok (by decide +kernel)) (pc' := 53) (lv' := [(0, vR t), (1, vI l1), (2, vI l2)]) (st' := [vR t, vR t]) rfl ?_
  refine j_gd (fun h16 => ?_)
  refine j_getI hx flX8_269 kd1308 h16 (by decide) (by decide +kernel) ?_
  refine j_runA hx 1 (tb := [(56, .aload_n 0)]) (jtb_ok (by decide +kernel)) (pc' := 57) (lv' := [(0, vR t), (1, vI l1), (2, vI l2)]) (st' := [vR t, vI (jI W 1308 t), vR t]) rfl ?_
  refine j_getI hx flX8_527 kd1356 h16 (by decide) (by decide +kernel) ?_
  refine j_runA hx 1 (tb := [(60, .iadd)]) (jtb_ok (by decide +kernel)) (pc' := 61) (lv' := [(0, vR t), (1, vI l1), (2, vI l2)]) (st' := [vI ((jI W 1308 t) + (jI W 1356 t)), vR t]) rfl ?_
  refine j_putI hx fwX8_530 wf1355 kd1355 h16 (by decide) (by decide +kernel) (ni1355 _) (fi1355 _) ?_
  refine j_ltw rfl (fun W17 hc18 => ?_)
  have h19 : jC W17 t = 13 := (congrFun hc18 _).trans h16
  refine j_runA hx 2 (tb := [(64, .iconst 0), (65, .istore_n 3)]) (jtb_ok (by decide +kernel)) (pc' := 66) (lv' := [(3, vI (kI 0)), (0, vR t), (1, vI l1), (2, vI l2)]) (st' := []) rfl ?_
  refine j_lv (lv' := [(0, vR t), (1, vI l1), (2, vI l2), (3, vI (kI 0))]) ⟨rfl, rfl, rfl, rfl, trivial⟩ ?_
  exact k66 l1 l2 (kI 0) W17
theorem wmo_write {x : jCx} {en : (fmo_write_S ⊕ (jW)) → Option (Outcome × jW)} {t : Nat} (h : hmo_write x en t) (W : jW) : jJ x 9 0 [(0, vR t)] [] W (fmo_write_0 t W) en := by
  have h0 := h
  obtain ⟨hx, hm, hr, he, k66, k97, k125, k158, k169, k340, k443, k585, k625⟩ := h0
  unfold fmo_write_0
  refine j_runA hx 2 (tb := [(0, .iconst 4), (1, .aload_n 0)]) (jtb_ok (by decide +kernel)) (pc' := 2) (lv' := [(0, vR t)]) (st' := [vR t, vI (kI 4)]) rfl ?_
  refine j_gd (fun h1 => ?_)
  refine j_getR hx flX8_143 kl1350 h1 (by decide) (by decide +kernel) ?_
  refine j_gd (fun h2 => ?_)
  refine j_getI hx flX8_491 kd1508 h2 (by decide) (by decide +kernel) ?_
  refine j_runA hx 2 (tb := [(8, .imul), (9, .istore_n 1)]) (jtb_ok (by decide +kernel)) (pc' := 10) (lv' := [(1, vI ((kI 4) * (jI W 1508 (jR W 1350 t)))), (0, vR t)]) (st' := []) rfl ?_
  refine j_let (v := ((kI 4) * (jI W 1508 (jR W 1350 t)))) (lv := fun v3 => [(1, vI v3), (0, vR t)]) (st := fun _ => []) (fun v3 => ?_)
  refine j_runA hx 2 (tb := [(10, .iconst 4), (11, .aload_n 0)]) (jtb_ok (by decide +kernel)) (pc' := 12) (lv' := [(1, vI v3), (0, vR t)]) (st' := [vR t, vI (kI 4)]) rfl ?_
  refine j_getI hx flX8_316 kd1310 h1 (by decide) (by decide +kernel) ?_
  refine j_runA hx 2 (tb := [(15, .imul), (16, .istore_n 2)]) (jtb_ok (by decide +kernel)) (pc' := 17) (lv' := [(2, vI ((kI 4) * (jI W 1310 t))), (1, vI v3), (0, vR t)]) (st' := []) rfl ?_
  refine j_let (v := ((kI 4) * (jI W 1310 t))) (lv := fun v4 => [(2, vI v4), (1, vI v3), (0, vR t)]) (st := fun _ => []) (fun v4 => ?_)
  refine j_runA hx 5 (tb := [(17, .aload_n 0), (18, .iload_n 1), (19, .iload_n 2), (20, .isub), (21, .bipush 16)]) (jtb_ok (by decide +kernel)) (pc' := 23) (lv' := [(2, vI v4), (1, vI v3), (0, vR t)]) (st' := [vI (kI 16), vI (v3 - v4), vR t]) rfl ?_
  refine j_idiv hx (by decide +kernel) (by decide +kernel) ?_
  refine j_runA hx 2 (tb := [(24, .bipush 16), (26, .imul)]) (jtb_ok (by decide +kernel)) (pc' := 27) (lv' := [(2, vI v4), (1, vI v3), (0, vR t)]) (st' := [vI (((v3 - v4) / (kI 16)) * (kI 16)), vR t]) rfl ?_
  refine j_putI hx fwX8_527 wf1356 kd1356 h1 (by decide) (by decide +kernel) (ni1356 _) (fi1356 _) ?_
  refine j_ltw rfl (fun W5 hc6 => ?_)
  have h7 : jC W5 t = 13 := (congrFun hc6 _).trans h1
  have h8 : jC W5 (jR W 1350 t) = 15 := (congrFun hc6 _).trans h2
  refine j_runA hx 1 (tb := [(30, .aload_n 0)]) (jtb_ok (by decide +kernel)) (pc' := 31) (lv' := [(2, vI v4), (1, vI v3), (0, vR t)]) (st' := [vR t]) rfl ?_
  refine j_getI hx flX8_527 kd1356 h7 (by decide) (by decide +kernel) ?_
  refine j_runA hx 3 (tb := [(34, .iload_n 1), (35, .iload_n 2), (36, .isub)]) (jtb_ok (by decide +kernel)) (pc' := 37) (lv' := [(2, vI v4), (1, vI v3), (0, vR t)]) (st' := [vI (v3 - v4), vI (jI W5 1356 t)]) rfl ?_
  refine j_icmp_ge hx (off := 14) (tgt := 51) (by decide +kernel) (by decide) (fun _ => ?_) (fun _ => ?_)
  · refine j_lv (lv' := [(0, vR t), (1, vI v3), (2, vI v4)]) ⟨rfl, rfl, rfl, trivial⟩ ?_
    exact wmo_write_51 h v3 v4 W5
  refine j_runA hx 2 (tb := [(40, .aload_n 0), (41, .dup)]) (jtb_ok (by decide +kernel)) (pc' := 42) (lv' := [(2, vI v4), (1, vI v3), (0, vR t)]) (st' := [vR t, vR t]) rfl ?_
  refine j_getI hx flX8_527 kd1356 h7 (by decide) (by decide +kernel) ?_
  refine j_runA hx 2 (tb := [(45, .bipush 16), (47, .iadd)]) (jtb_ok (by decide +kernel)) (pc' := 48) (lv' := [(2, vI v4), (1, vI v3), (0, vR t)]) (st' := [vI ((jI W5 1356 t) + (kI 16)), vR t]) rfl ?_
  refine j_putI hx fwX8_527 wf1356 kd1356 h7 (by decide) (by decide +kernel) (ni1356 _) (fi1356 _) ?_
  refine j_ltw rfl (fun W10 hc11 => ?_)
  have h12 : jC W10 t = 13 := (congrFun hc11 _).trans h7
  have h13 : jC W10 (jR W 1350 t) = 15 := (congrFun hc11 _).trans h8
  refine j_lv (lv' := [(0, vR t), (1, vI v3), (2, vI v4)]) ⟨rfl, rfl, rfl, trivial⟩ ?_
  exact wmo_write_51 h v3 v4 W10
theorem cmo_write (t : Nat) (W : jW) : jM yX8_write cX8_write 9 (Option.none : Option Jvm.ClassFile.FieldType) [] 7 113 [vR t] W ((fmo_write t W).bind (fun q => some (.returned none, q))) := by
  refine jM.of (Nat.le_of_ble_eq_true rfl) (fun x hx hm hr => ?_)
  refine j_begin (P := (Sum.elim (fun s => (66, [(0, vR t), (1, vI s.1), (2, vI s.2.1), (3, vI s.2.2.1)], s.2.2.2)) (Sum.elim (fun s => (97, [(0, vR t), (1, vI s.1), (2, vI s.2.1), (3, vI s.2.2.1)], s.2.2.2)) (Sum.elim (fun s => (125, [(0, vR t), (1, vI s.1), (2, vI s.2.1), (3, vI s.2.2.1)], s.2.2.2)) (Sum.elim (fun s => (158, [(0, vR t), (1, vI s.1), (2, vI s.2.1), (3, vI s.2.2.1)], s.2.2.2)) (Sum.elim (fun s => (169, [(0, vR t), (1, vI s.1), (2, vI s.2.1), (3, vI s.2.2.1), (4, vI s.2.2.2.1)], s.2.2.2.2)) (Sum.elim (fun s => (340, [(0, vR t), (1, vI s.1), (2, vI s.2.1), (4, vL s.2.2.1), (6, vI s.2.2.2.1)], s.2.2.2.2)) (Sum.elim (fun s => (443, [(0, vR t), (6, vI s.1)], s.2)) (Sum.elim (fun s => (585, [(0, vR t), (6, vI s.1)], s.2)) (fun s => (625, [(0, vR t), (6, vI s.1), (7, vL s.2.1)], s.2.2))))))))))) (fun en he hk => ?_)
  have h : hmo_write x en t := ⟨hx, hm, hr, fun q => he _, fun l1 l2 l3 W => hk (.inl (l1, l2, l3, W)), fun l1 l2 l3 W => hk (.inr (.inl (l1, l2, l3, W))), fun l1 l2 l3 W => hk (.inr (.inr (.inl (l1, l2, l3, W)))), fun l1 l2 l3 W => hk (.inr (.inr (.inr (.inl (l1, l2, l3, W))))), fun l1 l2 l3 l4 W => hk (.inr (.inr (.inr (.inr (.inl (l1, l2, l3, l4, W)))))), fun l1 l2 l4 l6 W => hk (.inr (.inr (.inr (.inr (.inr (.inl (l1, l2, l4, l6, W))))))), fun l6 W => hk (.inr (.inr (.inr (.inr (.inr (.inr (.inl (l6, W)))))))), fun l6 W => hk (.inr (.inr (.inr (.inr (.inr (.inr (.inr (.inl (l6, W))))))))), fun l6 l7 W => hk (.inr (.inr (.inr (.inr (.inr (.inr (.inr (.inr (l6, l7, W)))))))))⟩
  refine ⟨fun s => ?_, wmo_write h W⟩
  rcases s with s | s | s | s | s | s | s | s | s
  · exact wmo_write_66 h s.1 s.2.1 s.2.2.1 s.2.2.2
  · exact wmo_write_97 h s.1 s.2.1 s.2.2.1 s.2.2.2
  · exact wmo_write_125 h s.1 s.2.1 s.2.2.1 s.2.2.2
  · exact wmo_write_158 h s.1 s.2.1 s.2.2.1 s.2.2.2
  · exact wmo_write_169 h s.1 s.2.1 s.2.2.1 s.2.2.2.1 s.2.2.2.2
  · exact wmo_write_340 h s.1 s.2.1 s.2.2.1 s.2.2.2.1 s.2.2.2.2
  · exact wmo_write_443 h s.1 s.2
  · exact wmo_write_585 h s.1 s.2
  · exact wmo_write_625 h s.1 s.2.1 s.2.2
def hmo_lay (x : jCx) (en : (fmo_lay_S ⊕ (Int32 × jW)) → Option (Outcome × jW)) (t : Nat) (a1 : Int32) (a2 : Int32) : Prop :=
  jOK x RX8 cX8_lay 6 ∧
  jMt x "lay" (Option.some Jvm.ClassFile.FieldType.int) [] ∧
  jRm x 8 133 ∧
  (∀ q : Int32 × jW, en (.inr q) = some (.returned (some (.int q.1)), q.2)) ∧
  (∀ (l4 : Int32) (W : jW), jJ x 6 57 [(0, vR t), (1, vI a1), (2, vI a2), (4, vI l4)] [] W (some (.inl (.inl (l4, W)))) en) ∧
  (∀ (l4 : Int32) (W : jW), jJ x 6 83 [(0, vR t), (1, vI a1), (2, vI a2), (4, vI l4)] [] W (some (.inl (.inr (.inl (l4, W))))) en) ∧
  (∀ (l4 : Int32) (l5 : Int32) (W : jW), jJ x 6 152 [(0, vR t), (1, vI a1), (2, vI a2), (4, vI l4), (5, vI l5)] [] W (some (.inl (.inr (.inr (l4, l5, W))))) en)
theorem wmo_lay_52 {x : jCx} {en : (fmo_lay_S ⊕ (Int32 × jW)) → Option (Outcome × jW)} {t : Nat} {a1 : Int32} {a2 : Int32} (h : hmo_lay x en t a1 a2) (W : jW) : jJ x 6 52 [(0, vR t), (1, vI a1), (2, vI a2)] [] W (fmo_lay_52 t a1 a2 W) en := by
  have h0 := h
  obtain ⟨hx, hm, hr, he, k57, k83, k152⟩ := h0
  unfold fmo_lay_52
  refine j_runA hx 1 (tb := [(52, .iconst (-1))]) (jtb_ok (by decide +kernel)) (pc' := 53) (lv' := [(0, vR t), (1, vI a1), (2, vI a2)]) (st' := [vI (kI (-1))]) rfl ?_
  exact j_iret hx hm (by decide +kernel) rfl (he _)
theorem wmo_lay_203 {x : jCx} {en : (fmo_lay_S ⊕ (Int32 × jW)) → Option (Outcome × jW)} {t : Nat} {a1 : Int32} {a2 : Int32} (h : hmo_lay x en t a1 a2) (l4 : Int32) (l5 : Int32) (W : jW) : jJ x 6 203 [(0, vR t), (1, vI a1), (2, vI a2), (4, vI l4), (5, vI l5)] [] W (fmo_lay_203 t a1 a2 l4 l5 W) en := by
  have h0 := h
  obtain ⟨hx, hm, hr, he, k57, k83, k152⟩ := h0
  unfold fmo_lay_203
  refine j_runA hx 1 (tb := [(203, .iinc 5 1)]) (jtb_ok (by decide +kernel)) (pc' := 206) (lv' := [(5, vI (l5 + (kI 1))), (0, vR t), (1, vI a1), (2, vI a2), (4, vI l4)]) (st' := []) rfl ?_
  refine j_let (v := (l5 + (kI 1))) (lv := fun v94 => [(5, vI v94), (0, vR t), (1, vI a1), (2, vI a2), (4, vI l4)]) (st := fun _ => []) (fun v94 => ?_)
  refine j_goto hx (off := -54) (by decide +kernel) (tgt := 152) (by decide) ?_
  refine j_lv (lv' := [(0, vR t), (1, vI a1), (2, vI a2), (4, vI l4), (5, vI v94)]) ⟨rfl, rfl, rfl, rfl, rfl, trivial⟩ ?_
  exact k152 l4 v94 W
theorem wmo_lay_152 {x : jCx} {en : (fmo_lay_S ⊕ (Int32 × jW)) → Option (Outcome × jW)} {t : Nat} {a1 : Int32} {a2 : Int32} (h : hmo_lay x en t a1 a2) (l4 : Int32) (l5 : Int32) (W : jW) : jJ x 6 152 [(0, vR t), (1, vI a1), (2, vI a2), (4, vI l4), (5, vI l5)] [] W (fmo_lay_152 t a1 a2 l4 l5 W) en := by
  have h0 := h
  obtain ⟨hx, hm, hr, he, k57, k83, k152⟩ := h0
  unfold fmo_lay_152
  refine j_runA hx 2 (tb := [(152, .iload 5), (154, .aload_n 0)]) (jtb_ok (by decide +kernel)) (pc' := 155) (lv' := [(0, vR t), (1, vI a1), (2, vI a2), (4, vI l4), (5, vI l5)]) (st' := [vR t, vI l5]) rfl ?_
  refine j_gd (fun h40 => ?_)
  refine j_getI hx flX8_399 kd1312 h40 (by decide) (by decide +kernel) ?_
  refine j_icmp_ge hx (off := 51) (tgt := 209) (by decide +kernel) (by decide) (fun _ => ?_) (fun _ => ?_)
  · refine j_runA hx 1 (tb := [(209, .aload_n 0)]) (jtb_ok (by decide +kernel)) (pc' := 210) (lv' := [(0, vR t), (1, vI a1), (2, vI a2), (4, vI l4), (5, vI l5)]) (st' := [vR t]) rfl ?_
    refine j_getR hx flX8_143 kl1350 h40 (by decide) (by decide +kernel) ?_
    refine j_runA hx 1 (tb := [(213, .iconst 0)]) (jtb_ok (by decide +kernel)) (pc' := 214) (lv' := [(0, vR t), (1, vI a1), (2, vI a2), (4, vI l4), (5, vI l5)]) (st' := [vI (kI 0), vR (jR W 1350 t)]) rfl ?_
    refine j_gd (fun h41 => ?_)
    refine j_putI hx fwX8_512 wf1509 kd1509 h41 (by decide) (by decide +kernel) (ni1509 _) (fi1509 _) ?_
    refine j_ltw rfl (fun W42 hc43 => ?_)
    have h44 : jC W42 t = 13 := (congrFun hc43 _).trans h40
    have h45 : jC W42 (jR W 1350 t) = 15 := (congrFun hc43 _).trans h41
    refine j_runA hx 1 (tb := [(217, .aload_n 0)]) (jtb_ok (by decide +kernel)) (pc' := 218) (lv' := [(0, vR t), (1, vI a1), (2, vI a2), (4, vI l4), (5, vI l5)]) (st' := [vR t]) rfl ?_
    refine j_getR hx flX8_143 kl1350 h44 (by decide) (by decide +kernel) ?_
    refine j_gd (fun h47 => ?_)
    refine j_WV (j_callV (av := []) (st := []) hx hr (Or.inl q3138) q3139 q3140 rfl md_fwn_shape np_fwn_shape (cwn_shape (jR W42 1350 t) W42) (by decide) (Nat.le_of_ble_eq_true rfl) h47 (by decide) (by decide +kernel)) (fun q48 _ => ?_)
    refine j_runA hx 1 (tb := [(224, .aload_n 0)]) (jtb_ok (by decide +kernel)) (pc' := 225) (lv' := [(0, vR t), (1, vI a1), (2, vI a2), (4, vI l4), (5, vI l5)]) (st' := [vR t]) rfl ?_
    refine j_gd (fun h50 => ?_)
    refine j_getR hx flX8_143 kl1350 h50 (by decide) (by decide +kernel) ?_
    refine j_runA hx 2 (tb := [(228, .iload_n 2), (229, .i2l)]) (jtb_ok (by decide +kernel)) (pc' := 230) (lv' := [(0, vR t), (1, vI a1), (2, vI a2), (4, vI l4), (5, vI l5)]) (st' := [vL a2.toInt64, vR (jR q48 1350 t)]) rfl ?_
    refine j_gd (fun h51 => ?_)
    refine j_WV (j_callV (av := [vL a2.toInt64]) (st := []) hx hr (Or.inl q3143) q3144 q3145 rfl md_fwn_settle np_fwn_settle (cwn_settle (jR q48 1350 t) a2.toInt64 q48) (by decide) (Nat.le_of_ble_eq_true rfl) h51 (by decide) (by decide +kernel)) (fun q52 _ => ?_)
    refine j_runA hx 1 (tb := [(233, .aload_n 0)]) (jtb_ok (by decide +kernel)) (pc' := 234) (lv' := [(0, vR t), (1, vI a1), (2, vI a2), (4, vI l4), (5, vI l5)]) (st' := [vR t]) rfl ?_
    refine j_gd (fun h54 => ?_)
    refine j_WV (j_callV (av := []) (st := []) hx hr (Or.inl q3264) q3266 qs173 rfl md_fmo_write np_fmo_write (cmo_write t q52) (by decide) (Nat.le_of_ble_eq_true rfl) h54 (by decide) (by decide +kernel)) (fun q55 _ => ?_)
    refine j_runA hx 2 (tb := [(237, .aload_n 0), (238, .dup)]) (jtb_ok (by decide +kernel)) (pc' := 239) (lv' := [(0, vR t), (1, vI a1), (2, vI a2), (4, vI l4), (5, vI l5)]) (st' := [vR t, vR t]) rfl ?_
    refine j_gd (fun h57 => ?_)
    refine j_getI hx flX8_518 kd1353 h57 (by decide) (by decide +kernel) ?_
    refine j_runA hx 1 (tb := [(242, .aload_n 0)]) (jtb_ok (by decide +kernel)) (pc' := 243) (lv' := [(0, vR t), (1, vI a1), (2, vI a2), (4, vI l4), (5, vI l5)]) (st' := [vR t, vI (jI q55 1353 t), vR t]) rfl ?_
    refine j_getR hx flX8_143 kl1350 h57 (by decide) (by decide +kernel) ?_
    refine j_gd (fun h58 => ?_)
    refine j_getI hx flX8_512 kd1509 h58 (by decide) (by decide +kernel) ?_
    refine j_runA hx 1 (tb := [(249, .iadd)]) (jtb_ok (by decide +kernel)) (pc' := 250) (lv' := [(0, vR t), (1, vI a1), (2, vI a2), (4, vI l4), (5, vI l5)]) (st' := [vI ((jI q55 1353 t) + (jI q55 1509 (jR q55 1350 t))), vR t]) rfl ?_
    refine j_putI hx fwX8_518 wf1353 kd1353 h57 (by decide) (by decide +kernel) (ni1353 _) (fi1353 _) ?_
    refine j_ltw rfl (fun W59 hc60 => ?_)
    have h61 : jC W59 t = 13 := (congrFun hc60 _).trans h57
    have h62 : jC W59 (jR q55 1350 t) = 15 := (congrFun hc60 _).trans h58
    refine j_runA hx 2 (tb := [(253, .aload_n 0), (254, .iconst 1)]) (jtb_ok (by decide +kernel)) (pc' := 255) (lv' := [(0, vR t), (1, vI a1), (2, vI a2), (4, vI l4), (5, vI l5)]) (st' := [vI (kI 1), vR t]) rfl ?_
    refine j_putI hx fwX8_275 wf1352 kd1352 h61 (by decide) (by decide +kernel) (nz1352 jz1) (fz1352 jz1) ?_
    refine j_ltw rfl (fun W64 hc65 => ?_)
    have h66 : jC W64 t = 13 := (congrFun hc65 _).trans h61
    have h67 : jC W64 (jR q55 1350 t) = 15 := (congrFun hc65 _).trans h62
    refine j_runA hx 2 (tb := [(258, .aload_n 0), (259, .iconst (-1))]) (jtb_ok (by decide +kernel)) (pc' := 260) (lv' := [(0, vR t), (1, vI a1), (2, vI a2), (4, vI l4), (5, vI l5)]) (st' := [vI (kI (-1)), vR t]) rfl ?_
    refine j_putI hx fwX8_521 wf1357 kd1357 h66 (by decide) (by decide +kernel) (ni1357 _) (fi1357 _) ?_
    refine j_ltw rfl (fun W69 hc70 => ?_)
    have h71 : jC W69 t = 13 := (congrFun hc70 _).trans h66
    have h72 : jC W69 (jR q55 1350 t) = 15 := (congrFun hc70 _).trans h67
    refine j_runA hx 1 (tb := [(263, .aload_n 0)]) (jtb_ok (by decide +kernel)) (pc' := 264) (lv' := [(0, vR t), (1, vI a1), (2, vI a2), (4, vI l4), (5, vI l5)]) (st' := [vR t]) rfl ?_
    refine j_WV (j_callV (av := []) (st := []) hx hr (Or.inl q3067) q3069 qs148 rfl md_fmo_forget np_fmo_forget (cmo_forget t W69) (by decide) (Nat.le_of_ble_eq_true rfl) h71 (by decide) (by decide +kernel)) (fun q74 _ => ?_)
    refine j_runA hx 2 (tb := [(267, .iconst 4), (268, .aload_n 0)]) (jtb_ok (by decide +kernel)) (pc' := 269) (lv' := [(0, vR t), (1, vI a1), (2, vI a2), (4, vI l4), (5, vI l5)]) (st' := [vR t, vI (kI 4)]) rfl ?_
    refine j_gd (fun h76 => ?_)
    refine j_getR hx flX8_143 kl1350 h76 (by decide) (by decide +kernel) ?_
    refine j_gd (fun h77 => ?_)
    refine j_getI hx flX8_491 kd1508 h77 (by decide) (by decide +kernel) ?_
    refine j_runA hx 1 (tb := [(275, .imul)]) (jtb_ok (by decide +kernel)) (pc' := 276) (lv' := [(0, vR t), (1, vI a1), (2, vI a2), (4, vI l4), (5, vI l5)]) (st' := [vI ((kI 4) * (jI q74 1508 (jR q74 1350 t)))]) rfl ?_
    exact j_iret hx hm (by decide +kernel) rfl (he _)
  refine j_runA hx 1 (tb := [(161, .aload_n 0)]) (jtb_ok (by decide +kernel)) (pc' := 162) (lv' := [(0, vR t), (1, vI a1), (2, vI a2), (4, vI l4), (5, vI l5)]) (st' := [vR t]) rfl ?_
  refine j_getR hx flX8_157 kl1359 h40 (by decide) (by decide +kernel) ?_
  refine j_runA hx 2 (tb := [(165, .iload 5), (167, .aload_n 0)]) (jtb_ok (by decide +kernel)) (pc' := 168) (lv' := [(0, vR t), (1, vI a1), (2, vI a2), (4, vI l4), (5, vI l5)]) (st' := [vR t, vI l5, vR (jR W 1359 t)]) rfl ?_
  refine j_getR hx flX8_90 kl1334 h40 (by decide) (by decide +kernel) ?_
  refine j_runA hx 1 (tb := [(171, .iload 5)]) (jtb_ok (by decide +kernel)) (pc' := 173) (lv' := [(0, vR t), (1, vI a1), (2, vI a2), (4, vI l4), (5, vI l5)]) (st' := [vI l5, vR (jR W 1334 t), vI l5, vR (jR W 1359 t)]) rfl ?_
  refine j_gd (fun h78 => ?_)
  refine j_zald hx (f := 1334) (o := t) kd1334 rfl (by decide +kernel) h78 ?_
  refine j_gd (fun h79 => ?_)
  refine j_zast hx (f := 1359) (o := t) kd1359 rfl (by decide +kernel) h79 ?_
  refine j_ltw rfl (fun W80 hc81 => ?_)
  have h82 : jC W80 t = 13 := (congrFun hc81 _).trans h40
  refine j_runA hx 1 (tb := [(175, .aload_n 0)]) (jtb_ok (by decide +kernel)) (pc' := 176) (lv' := [(0, vR t), (1, vI a1), (2, vI a2), (4, vI l4), (5, vI l5)]) (st' := [vR t]) rfl ?_
  refine j_getR hx flX8_90 kl1334 h82 (by decide) (by decide +kernel) ?_
  refine j_runA hx 1 (tb := [(179, .iload 5)]) (jtb_ok (by decide +kernel)) (pc' := 181) (lv' := [(0, vR t), (1, vI a1), (2, vI a2), (4, vI l4), (5, vI l5)]) (st' := [vI l5, vR (jR W80 1334 t)]) rfl ?_
  refine j_gd (fun h84 => ?_)
  refine j_zald hx (f := 1334) (o := t) kd1334 rfl (by decide +kernel) h84 ?_
  refine j_if_eq hx (off := 6) (tgt := 188) (by decide +kernel) (by decide) (fun _ => ?_) (fun _ => ?_)
  · refine j_runA hx 1 (tb := [(188, .aload_n 0)]) (jtb_ok (by decide +kernel)) (pc' := 189) (lv' := [(0, vR t), (1, vI a1), (2, vI a2), (4, vI l4), (5, vI l5)]) (st' := [vR t]) rfl ?_
    refine j_getR hx flX8_143 kl1350 h82 (by decide) (by decide +kernel) ?_
    refine j_gd (fun h85 => ?_)
    refine j_getR hx flX8_478 kl1501 h85 (by decide) (by decide +kernel) ?_
    refine j_runA hx 2 (tb := [(195, .iload 4), (197, .iload 5)]) (jtb_ok (by decide +kernel)) (pc' := 199) (lv' := [(0, vR t), (1, vI a1), (2, vI a2), (4, vI l4), (5, vI l5)]) (st' := [vI l5, vI l4, vR (jR W80 1501 (jR W80 1350 t))]) rfl ?_
    refine j_gd (fun h86 => ?_)
    refine j_iast hx (f := 1501) (o := (jR W80 1350 t)) kd1501 rfl (by decide +kernel) h86 ?_
    refine j_ltw rfl (fun W87 hc88 => ?_)
    have h89 : jC W87 t = 13 := (congrFun hc88 _).trans h82
    have h90 : jC W87 (jR W80 1350 t) = 15 := (congrFun hc88 _).trans h85
    refine j_runA hx 1 (tb := [(200, .iinc 4 1)]) (jtb_ok (by decide +kernel)) (pc' := 203) (lv' := [(4, vI (l4 + (kI 1))), (0, vR t), (1, vI a1), (2, vI a2), (5, vI l5)]) (st' := []) rfl ?_
    refine j_let (v := (l4 + (kI 1))) (lv := fun v92 => [(4, vI v92), (0, vR t), (1, vI a1), (2, vI a2), (5, vI l5)]) (st := fun _ => []) (fun v92 => ?_)
    refine j_lv (lv' := [(0, vR t), (1, vI a1), (2, vI a2), (4, vI v92), (5, vI l5)]) ⟨rfl, rfl, rfl, rfl, rfl, trivial⟩ ?_
    exact wmo_lay_203 h v92 l5 W87
  refine j_goto hx (off := 18) (by decide +kernel) (tgt := 203) (by decide) ?_
  exact wmo_lay_203 h l4 l5 W80
theorem wmo_lay_83 {x : jCx} {en : (fmo_lay_S ⊕ (Int32 × jW)) → Option (Outcome × jW)} {t : Nat} {a1 : Int32} {a2 : Int32} (h : hmo_lay x en t a1 a2) (l4 : Int32) (W : jW) : jJ x 6 83 [(0, vR t), (1, vI a1), (2, vI a2), (4, vI l4)] [] W (fmo_lay_83 t a1 a2 l4 W) en := by
  have h0 := h
  obtain ⟨hx, hm, hr, he, k57, k83, k152⟩ := h0
  unfold fmo_lay_83
  refine j_runA hx 2 (tb := [(83, .iload 4), (85, .aload_n 0)]) (jtb_ok (by decide +kernel)) (pc' := 86) (lv' := [(0, vR t), (1, vI a1), (2, vI a2), (4, vI l4)]) (st' := [vR t, vI l4]) rfl ?_
  refine j_gd (fun h12 => ?_)
  refine j_getI hx flX8_272 kd1329 h12 (by decide) (by decide +kernel) ?_
  refine j_icmp_ge hx (off := 35) (tgt := 124) (by decide +kernel) (by decide) (fun _ => ?_) (fun _ => ?_)
  · refine j_runA hx 2 (tb := [(124, .aload_n 0), (125, .iload_n 1)]) (jtb_ok (by decide +kernel)) (pc' := 126) (lv' := [(0, vR t), (1, vI a1), (2, vI a2), (4, vI l4)]) (st' := [vI a1, vR t]) rfl ?_
    refine j_WV (j_callV (av := [vI a1]) (st := []) hx hr (Or.inl q3211) q3213 qs160 rfl md_fmo_gather np_fmo_gather (cmo_gather t a1 W) (by decide) (Nat.le_of_ble_eq_true rfl) h12 (by decide) (by decide +kernel)) (fun q13 _ => ?_)
    refine j_runA hx 1 (tb := [(129, .aload_n 0)]) (jtb_ok (by decide +kernel)) (pc' := 130) (lv' := [(0, vR t), (1, vI a1), (2, vI a2), (4, vI l4)]) (st' := [vR t]) rfl ?_
    refine j_gd (fun h15 => ?_)
    refine j_getR hx flX8_143 kl1350 h15 (by decide) (by decide +kernel) ?_
    refine j_runA hx 1 (tb := [(133, .aload_n 0)]) (jtb_ok (by decide +kernel)) (pc' := 134) (lv' := [(0, vR t), (1, vI a1), (2, vI a2), (4, vI l4)]) (st' := [vR t, vR (jR q13 1350 t)]) rfl ?_
    refine j_WI (j_callV (av := []) (st := [vR (jR q13 1350 t)]) hx hr (Or.inl q3223) q3225 qs163 rfl md_fmo_orderAll np_fmo_orderAll (cmo_orderAll t q13) (by decide) (Nat.le_of_ble_eq_true rfl) h15 (by decide) (by decide +kernel)) (fun q16 _ => ?_)
    refine j_gd (fun h18 => ?_)
    refine j_putI hx fwX8_481 wf1502 kd1502 h18 (by decide) (by decide +kernel) (ni1502 _) (fi1502 _) ?_
    refine j_ltw rfl (fun W19 hc20 => ?_)
    have h21 : jC W19 (jR q13 1350 t) = 15 := (congrFun hc20 _).trans h18
    refine j_runA hx 1 (tb := [(140, .aload_n 0)]) (jtb_ok (by decide +kernel)) (pc' := 141) (lv' := [(0, vR t), (1, vI a1), (2, vI a2), (4, vI l4)]) (st' := [vR t]) rfl ?_
    refine j_gd (fun h23 => ?_)
    refine j_getR hx flX8_143 kl1350 h23 (by decide) (by decide +kernel) ?_
    refine j_gd (fun h24 => ?_)
    refine j_getI hx flX8_481 kd1502 h24 (by decide) (by decide +kernel) ?_
    refine j_runA hx 1 (tb := [(147, .istore 4)]) (jtb_ok (by decide +kernel)) (pc' := 149) (lv' := [(4, vI (jI W19 1502 (jR W19 1350 t))), (0, vR t), (1, vI a1), (2, vI a2)]) (st' := []) rfl ?_
    refine j_let (v := (jI W19 1502 (jR W19 1350 t))) (lv := fun v25 => [(4, vI v25), (0, vR t), (1, vI a1), (2, vI a2)]) (st := fun _ => []) (fun v25 => ?_)
    refine j_runA hx 2 (tb := [(149, .iconst 0), (150, .istore 5)]) (jtb_ok (by decide +kernel)) (pc' := 152) (lv' := [(5, vI (kI 0)), (4, vI v25), (0, vR t), (1, vI a1), (2, vI a2)]) (st' := []) rfl ?_
    refine j_lv (lv' := [(0, vR t), (1, vI a1), (2, vI a2), (4, vI v25), (5, vI (kI 0))]) ⟨rfl, rfl, rfl, rfl, rfl, trivial⟩ ?_
    exact k152 v25 (kI 0) W19
  refine j_runA hx 1 (tb := [(92, .aload_n 0)]) (jtb_ok (by decide +kernel)) (pc' := 93) (lv' := [(0, vR t), (1, vI a1), (2, vI a2), (4, vI l4)]) (st' := [vR t]) rfl ?_
  refine j_getR hx flX8_90 kl1334 h12 (by decide) (by decide +kernel) ?_
  refine j_runA hx 1 (tb := [(96, .aload_n 0)]) (jtb_ok (by decide +kernel)) (pc' := 97) (lv' := [(0, vR t), (1, vI a1), (2, vI a2), (4, vI l4)]) (st' := [vR t, vR (jR W 1334 t)]) rfl ?_
  refine j_getR hx flX8_77 kl1330 h12 (by decide) (by decide +kernel) ?_
  refine j_runA hx 1 (tb := [(100, .iload 4)]) (jtb_ok (by decide +kernel)) (pc' := 102) (lv' := [(0, vR t), (1, vI a1), (2, vI a2), (4, vI l4)]) (st' := [vI l4, vR (jR W 1330 t), vR (jR W 1334 t)]) rfl ?_
  refine j_gd (fun h26 => ?_)
  refine j_iald hx (f := 1330) (o := t) kd1330 rfl (by decide +kernel) h26 ?_
  refine j_runA hx 1 (tb := [(103, .iconst 1)]) (jtb_ok (by decide +kernel)) (pc' := 104) (lv' := [(0, vR t), (1, vI a1), (2, vI a2), (4, vI l4)]) (st' := [vI (kI 1), vI (jA W 1330 t (ix l4)), vR (jR W 1334 t)]) rfl ?_
  refine j_gd (fun h27 => ?_)
  refine j_zast hx (f := 1334) (o := t) kd1334 rfl (by decide +kernel) h27 ?_
  refine j_ltw rfl (fun W28 hc29 => ?_)
  have h30 : jC W28 t = 13 := (congrFun hc29 _).trans h12
  refine j_runA hx 1 (tb := [(105, .aload_n 0)]) (jtb_ok (by decide +kernel)) (pc' := 106) (lv' := [(0, vR t), (1, vI a1), (2, vI a2), (4, vI l4)]) (st' := [vR t]) rfl ?_
  refine j_getR hx flX8_90 kl1334 h30 (by decide) (by decide +kernel) ?_
  refine j_runA hx 1 (tb := [(109, .aload_n 0)]) (jtb_ok (by decide +kernel)) (pc' := 110) (lv' := [(0, vR t), (1, vI a1), (2, vI a2), (4, vI l4)]) (st' := [vR t, vR (jR W28 1334 t)]) rfl ?_
  refine j_getR hx flX8_80 kl1331 h30 (by decide) (by decide +kernel) ?_
  refine j_runA hx 1 (tb := [(113, .iload 4)]) (jtb_ok (by decide +kernel)) (pc' := 115) (lv' := [(0, vR t), (1, vI a1), (2, vI a2), (4, vI l4)]) (st' := [vI l4, vR (jR W28 1331 t), vR (jR W28 1334 t)]) rfl ?_
  refine j_gd (fun h32 => ?_)
  refine j_iald hx (f := 1331) (o := t) kd1331 rfl (by decide +kernel) h32 ?_
  refine j_runA hx 1 (tb := [(116, .iconst 1)]) (jtb_ok (by decide +kernel)) (pc' := 117) (lv' := [(0, vR t), (1, vI a1), (2, vI a2), (4, vI l4)]) (st' := [vI (kI 1), vI (jA W28 1331 t (ix l4)), vR (jR W28 1334 t)]) rfl ?_
  refine j_gd (fun h33 => ?_)
  refine j_zast hx (f := 1334) (o := t) kd1334 rfl (by decide +kernel) h33 ?_
  refine j_ltw rfl (fun W34 hc35 => ?_)
  have h36 : jC W34 t = 13 := (congrFun hc35 _).trans h30
  refine j_runA hx 1 (tb := [(118, .iinc 4 1)]) (jtb_ok (by decide +kernel)) (pc' := 121) (lv' := [(4, vI (l4 + (kI 1))), (0, vR t), (1, vI a1), (2, vI a2)]) (st' := []) rfl ?_
  refine j_let (v := (l4 + (kI 1))) (lv := fun v38 => [(4, vI v38), (0, vR t), (1, vI a1), (2, vI a2)]) (st := fun _ => []) (fun v38 => ?_)
  refine j_goto hx (off := -38) (by decide +kernel) (tgt := 83) (by decide) ?_
  refine j_lv (lv' := [(0, vR t), (1, vI a1), (2, vI a2), (4, vI v38)]) ⟨rfl, rfl, rfl, rfl, trivial⟩ ?_
  exact k83 v38 W34
theorem wmo_lay_57 {x : jCx} {en : (fmo_lay_S ⊕ (Int32 × jW)) → Option (Outcome × jW)} {t : Nat} {a1 : Int32} {a2 : Int32} (h : hmo_lay x en t a1 a2) (l4 : Int32) (W : jW) : jJ x 6 57 [(0, vR t), (1, vI a1), (2, vI a2), (4, vI l4)] [] W (fmo_lay_57 t a1 a2 l4 W) en := by
  have h0 := h
  obtain ⟨hx, hm, hr, he, k57, k83, k152⟩ := h0
  unfold fmo_lay_57
  refine j_runA hx 2 (tb := [(57, .iload 4), (59, .aload_n 0)]) (jtb_ok (by decide +kernel)) (pc' := 60) (lv' := [(0, vR t), (1, vI a1), (2, vI a2), (4, vI l4)]) (st' := [vR t, vI l4]) rfl ?_
  refine j_gd (fun h4 => ?_)
  refine j_getI hx flX8_399 kd1312 h4 (by decide) (by decide +kernel) ?_
  refine j_icmp_ge hx (off := 17) (tgt := 80) (by decide +kernel) (by decide) (fun _ => ?_) (fun _ => ?_)
  · refine j_runA hx 2 (tb := [(80, .iconst 0), (81, .istore 4)]) (jtb_ok (by decide +kernel)) (pc' := 83) (lv' := [(4, vI (kI 0)), (0, vR t), (1, vI a1), (2, vI a2)]) (st' := []) rfl ?_
    refine j_lv (lv' := [(0, vR t), (1, vI a1), (2, vI a2), (4, vI (kI 0))]) ⟨rfl, rfl, rfl, rfl, trivial⟩ ?_
    exact k83 (kI 0) W
  refine j_runA hx 1 (tb := [(66, .aload_n 0)]) (jtb_ok (by decide +kernel)) (pc' := 67) (lv' := [(0, vR t), (1, vI a1), (2, vI a2), (4, vI l4)]) (st' := [vR t]) rfl ?_
  refine j_getR hx flX8_90 kl1334 h4 (by decide) (by decide +kernel) ?_
  refine j_runA hx 2 (tb := [(70, .iload 4), (72, .iconst 0)]) (jtb_ok (by decide +kernel)) (pc' := 73) (lv' := [(0, vR t), (1, vI a1), (2, vI a2), (4, vI l4)]) (st' := [vI (kI 0), vI l4, vR (jR W 1334 t)]) rfl ?_
  refine j_gd (fun h5 => ?_)
  refine j_zast hx (f := 1334) (o := t) kd1334 rfl (by decide +kernel) h5 ?_
  refine j_ltw rfl (fun W6 hc7 => ?_)
  have h8 : jC W6 t = 13 := (congrFun hc7 _).trans h4
  refine j_runA hx 1 (tb := [(74, .iinc 4 1)]) (jtb_ok (by decide +kernel)) (pc' := 77) (lv' := [(4, vI (l4 + (kI 1))), (0, vR t), (1, vI a1), (2, vI a2)]) (st' := []) rfl ?_
  refine j_let (v := (l4 + (kI 1))) (lv := fun v10 => [(4, vI v10), (0, vR t), (1, vI a1), (2, vI a2)]) (st := fun _ => []) (fun v10 => ?_)
  refine j_goto hx (off := -20) (by decide +kernel) (tgt := 57) (by decide) ?_
  refine j_lv (lv' := [(0, vR t), (1, vI a1), (2, vI a2), (4, vI v10)]) ⟨rfl, rfl, rfl, rfl, trivial⟩ ?_
  exact k57 v10 W6
theorem wmo_lay_35 {x : jCx} {en : (fmo_lay_S ⊕ (Int32 × jW)) → Option (Outcome × jW)} {t : Nat} {a1 : Int32} {a2 : Int32} (h : hmo_lay x en t a1 a2) (s0 : Int32) (W : jW) : jJ x 6 35 [(0, vR t), (1, vI a1), (2, vI a2)] [vI s0] W (fmo_lay_35 t a1 a2 s0 W) en := by
  have h0 := h
  obtain ⟨hx, hm, hr, he, k57, k83, k152⟩ := h0
  unfold fmo_lay_35
  refine j_runA hx 3 (tb := [(35, .istore_n 3), (36, .iload_n 1), (37, .iconst 4)]) (jtb_ok (by decide +kernel)) (pc' := 38) (lv' := [(3, vI s0), (0, vR t), (1, vI a1), (2, vI a2)]) (st' := [vI (kI 4), vI a1]) rfl ?_
  refine j_icmp_lt hx (off := 14) (tgt := 52) (by decide +kernel) (by decide) (fun _ => ?_) (fun _ => ?_)
  · refine j_lv (lv' := [(0, vR t), (1, vI a1), (2, vI a2)]) ⟨rfl, rfl, rfl, trivial⟩ ?_
    exact wmo_lay_52 h W
  refine j_runA hx 1 (tb := [(41, .iload_n 1)]) (jtb_ok (by decide +kernel)) (pc' := 42) (lv' := [(3, vI s0), (0, vR t), (1, vI a1), (2, vI a2)]) (st' := [vI a1]) rfl ?_
  refine j_ldcw hx (v := (kI 65536)) (jkc q3210 (by decide +kernel)) (by decide +kernel) ?_
  refine j_icmp_gt hx (off := 7) (tgt := 52) (by decide +kernel) (by decide) (fun _ => ?_) (fun _ => ?_)
  · refine j_lv (lv' := [(0, vR t), (1, vI a1), (2, vI a2)]) ⟨rfl, rfl, rfl, trivial⟩ ?_
    exact wmo_lay_52 h W
  refine j_runA hx 1 (tb := [(48, .iload_n 3)]) (jtb_ok (by decide +kernel)) (pc' := 49) (lv' := [(3, vI s0), (0, vR t), (1, vI a1), (2, vI a2)]) (st' := [vI s0]) rfl ?_
  refine j_if_ne hx (off := 5) (tgt := 54) (by decide +kernel) (by decide) (fun _ => ?_) (fun _ => ?_)
  · refine j_runA hx 2 (tb := [(54, .iconst 0), (55, .istore 4)]) (jtb_ok (by decide +kernel)) (pc' := 57) (lv' := [(4, vI (kI 0)), (3, vI s0), (0, vR t), (1, vI a1), (2, vI a2)]) (st' := []) rfl ?_
    refine j_lv (lv' := [(0, vR t), (1, vI a1), (2, vI a2), (4, vI (kI 0))]) ⟨rfl, rfl, rfl, rfl, trivial⟩ ?_
    exact k57 (kI 0) W
  refine j_lv (lv' := [(0, vR t), (1, vI a1), (2, vI a2)]) ⟨rfl, rfl, rfl, trivial⟩ ?_
  exact wmo_lay_52 h W
theorem wmo_lay_34 {x : jCx} {en : (fmo_lay_S ⊕ (Int32 × jW)) → Option (Outcome × jW)} {t : Nat} {a1 : Int32} {a2 : Int32} (h : hmo_lay x en t a1 a2) (W : jW) : jJ x 6 34 [(0, vR t), (1, vI a1), (2, vI a2)] [] W (fmo_lay_34 t a1 a2 W) en := by
  have h0 := h
  obtain ⟨hx, hm, hr, he, k57, k83, k152⟩ := h0
  unfold fmo_lay_34
  refine j_runA hx 1 (tb := [(34, .iconst 0)]) (jtb_ok (by decide +kernel)) (pc' := 35) (lv' := [(0, vR t), (1, vI a1), (2, vI a2)]) (st' := [vI (kI 0)]) rfl ?_
  exact wmo_lay_35 h (kI 0) W
theorem wmo_lay {x : jCx} {en : (fmo_lay_S ⊕ (Int32 × jW)) → Option (Outcome × jW)} {t : Nat} {a1 : Int32} {a2 : Int32} (h : hmo_lay x en t a1 a2) (W : jW) : jJ x 6 0 [(0, vR t), (1, vI a1), (2, vI a2)] [] W (fmo_lay_0 t a1 a2 W) en := by
  have h0 := h
  obtain ⟨hx, hm, hr, he, k57, k83, k152⟩ := h0
  unfold fmo_lay_0
  refine j_runA hx 1 (tb := [(0, .aload_n 0)]) (jtb_ok (by decide +kernel)) (pc' := 1) (lv' := [(0, vR t), (1, vI a1), (2, vI a2)]) (st' := [vR t]) rfl ?_
  refine j_gd (fun h1 => ?_)
  refine j_getI hx flX8_265 kd1307 h1 (by decide) (by decide +kernel) ?_
  refine j_if_ne hx (off := 6) (tgt := 10) (by decide +kernel) (by decide) (fun _ => ?_) (fun _ => ?_)
  · refine j_runA hx 2 (tb := [(10, .iload_n 2), (11, .iconst 4)]) (jtb_ok (by decide +kernel)) (pc' := 12) (lv' := [(0, vR t), (1, vI a1), (2, vI a2)]) (st' := [vI (kI 4), vI a2]) rfl ?_
    refine j_icmp_lt hx (off := 22) (tgt := 34) (by decide +kernel) (by decide) (fun _ => ?_) (fun _ => ?_)
    · exact wmo_lay_34 h W
    refine j_runA hx 1 (tb := [(15, .iload_n 2)]) (jtb_ok (by decide +kernel)) (pc' := 16) (lv' := [(0, vR t), (1, vI a1), (2, vI a2)]) (st' := [vI a2]) rfl ?_
    refine j_ldcw hx (v := (kI 2097152)) (jkc q3209 (by decide +kernel)) (by decide +kernel) ?_
    refine j_icmp_gt hx (off := 15) (tgt := 34) (by decide +kernel) (by decide) (fun _ => ?_) (fun _ => ?_)
    · exact wmo_lay_34 h W
    refine j_runA hx 5 (tb := [(22, .iload_n 2), (23, .iload_n 2), (24, .iconst 1), (25, .isub), (26, .iand)]) (jtb_ok (by decide +kernel)) (pc' := 27) (lv' := [(0, vR t), (1, vI a1), (2, vI a2)]) (st' := [vI (a2 &&& (a2 - (kI 1)))]) rfl ?_
    refine j_if_ne hx (off := 7) (tgt := 34) (by decide +kernel) (by decide) (fun _ => ?_) (fun _ => ?_)
    · exact wmo_lay_34 h W
    refine j_runA hx 1 (tb := [(30, .iconst 1)]) (jtb_ok (by decide +kernel)) (pc' := 31) (lv' := [(0, vR t), (1, vI a1), (2, vI a2)]) (st' := [vI (kI 1)]) rfl ?_
    refine j_goto hx (off := 4) (by decide +kernel) (tgt := 35) (by decide) ?_
    exact wmo_lay_35 h (kI 1) W
  refine j_runA hx 1 (tb := [(7, .bipush (-14))]) (jtb_ok (by decide +kernel)) (pc' := 9) (lv' := [(0, vR t), (1, vI a1), (2, vI a2)]) (st' := [vI (kI (-14))]) rfl ?_
  exact j_iret hx hm (by decide +kernel) rfl (he _)
theorem cmo_lay (t : Nat) (a1 : Int32) (a2 : Int32) (W : jW) : jM yX8_lay cX8_lay 6 (Option.some Jvm.ClassFile.FieldType.int) [] 8 133 [vR t, vI a1, vI a2] W ((fmo_lay t a1 a2 W).bind (fun q => some (.returned (some (.int q.1)), q.2))) := by
  refine jM.of (Nat.le_of_ble_eq_true rfl) (fun x hx hm hr => ?_)
  refine j_begin (P := (Sum.elim (fun s => (57, [(0, vR t), (1, vI a1), (2, vI a2), (4, vI s.1)], s.2)) (Sum.elim (fun s => (83, [(0, vR t), (1, vI a1), (2, vI a2), (4, vI s.1)], s.2)) (fun s => (152, [(0, vR t), (1, vI a1), (2, vI a2), (4, vI s.1), (5, vI s.2.1)], s.2.2))))) (fun en he hk => ?_)
  have h : hmo_lay x en t a1 a2 := ⟨hx, hm, hr, fun q => he _, fun l4 W => hk (.inl (l4, W)), fun l4 W => hk (.inr (.inl (l4, W))), fun l4 l5 W => hk (.inr (.inr (l4, l5, W)))⟩
  refine ⟨fun s => ?_, wmo_lay h W⟩
  rcases s with s | s | s
  · exact wmo_lay_57 h s.1 s.2
  · exact wmo_lay_83 h s.1 s.2
  · exact wmo_lay_152 h s.1 s.2.1 s.2.2
def hmo_order (x : jCx) (en : (Int32) → Option (Outcome × jW)) (t : Nat) (a1 : Int32) (W : jW) : Prop :=
  jOK x RX8 cX8_order 2 ∧
  jMt x "order" (Option.some Jvm.ClassFile.FieldType.int) [] ∧
  jRm x 0 0 ∧
  (∀ q : Int32, en q = some (.returned (some (.int q)), W))
theorem wmo_order_31 {x : jCx} {en : (Int32) → Option (Outcome × jW)} {W : jW} {t : Nat} {a1 : Int32} (h : hmo_order x en t a1 W) : jJ x 2 31 [(0, vR t), (1, vI a1)] [] W (fmo_order_31 t a1 W) en := by
  have h0 := h
  obtain ⟨hx, hm, hr, he⟩ := h0
  unfold fmo_order_31
  refine j_runA hx 1 (tb := [(31, .iconst (-1))]) (jtb_ok (by decide +kernel)) (pc' := 32) (lv' := [(0, vR t), (1, vI a1)]) (st' := [vI (kI (-1))]) rfl ?_
  exact j_iret hx hm (by decide +kernel) rfl (he _)
theorem wmo_order {x : jCx} {en : (Int32) → Option (Outcome × jW)} {W : jW} {t : Nat} {a1 : Int32} (h : hmo_order x en t a1 W) : jJ x 2 0 [(0, vR t), (1, vI a1)] [] W (fmo_order t a1 W) en := by
  have h0 := h
  obtain ⟨hx, hm, hr, he⟩ := h0
  unfold fmo_order
  refine j_runA hx 1 (tb := [(0, .aload_n 0)]) (jtb_ok (by decide +kernel)) (pc' := 1) (lv' := [(0, vR t), (1, vI a1)]) (st' := [vR t]) rfl ?_
  refine j_gd (fun h1 => ?_)
  refine j_getI hx flX8_275 kd1352 h1 (by decide) (by decide +kernel) ?_
  refine j_if_eq hx (off := 27) (tgt := 31) (by decide +kernel) (by decide) (fun _ => ?_) (fun _ => ?_)
  · exact wmo_order_31 h
  refine j_runA hx 1 (tb := [(7, .iload_n 1)]) (jtb_ok (by decide +kernel)) (pc' := 8) (lv' := [(0, vR t), (1, vI a1)]) (st' := [vI a1]) rfl ?_
  refine j_if_lt hx (off := 23) (tgt := 31) (by decide +kernel) (by decide) (fun _ => ?_) (fun _ => ?_)
  · exact wmo_order_31 h
  refine j_runA hx 2 (tb := [(11, .iload_n 1), (12, .aload_n 0)]) (jtb_ok (by decide +kernel)) (pc' := 13) (lv' := [(0, vR t), (1, vI a1)]) (st' := [vR t, vI a1]) rfl ?_
  refine j_getI hx flX8_399 kd1312 h1 (by decide) (by decide +kernel) ?_
  refine j_icmp_ge hx (off := 15) (tgt := 31) (by decide +kernel) (by decide) (fun _ => ?_) (fun _ => ?_)
  · exact wmo_order_31 h
  refine j_runA hx 1 (tb := [(19, .aload_n 0)]) (jtb_ok (by decide +kernel)) (pc' := 20) (lv' := [(0, vR t), (1, vI a1)]) (st' := [vR t]) rfl ?_
  refine j_getR hx flX8_143 kl1350 h1 (by decide) (by decide +kernel) ?_
  refine j_gd (fun h2 => ?_)
  refine j_getR hx flX8_478 kl1501 h2 (by decide) (by decide +kernel) ?_
  refine j_runA hx 1 (tb := [(26, .iload_n 1)]) (jtb_ok (by decide +kernel)) (pc' := 27) (lv' := [(0, vR t), (1, vI a1)]) (st' := [vI a1, vR (jR W 1501 (jR W 1350 t))]) rfl ?_
  refine j_gd (fun h3 => ?_)
  refine j_iald hx (f := 1501) (o := (jR W 1350 t)) kd1501 rfl (by decide +kernel) h3 ?_
  refine j_goto hx (off := 4) (by decide +kernel) (tgt := 32) (by decide) ?_
  exact j_iret hx hm (by decide +kernel) rfl (he _)
theorem cmo_order (t : Nat) (a1 : Int32) (W : jW) : jM yX8_order cX8_order 2 (Option.some Jvm.ClassFile.FieldType.int) [] 0 0 [vR t, vI a1] W ((fmo_order t a1 W).bind (fun q => some (.returned (some (.int q)), W))) := 
  jM.of (Nat.le_of_ble_eq_true rfl) (fun x hx hm hr => wmo_order ⟨hx, hm, hr, fun _ => rfl⟩)
