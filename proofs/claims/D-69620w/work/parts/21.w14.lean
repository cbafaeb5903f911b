/-! ===== walks: fwr_file fwr_write fcl_lay fcl_order fcl_laid fog_weight fcl_weight fcl_moved fcl_size fcl_out fcl_check fcl_same fcl_strays fma_isNew ===== -/
set_option maxRecDepth 100000
def hwr_file (x : jCx) (en : (fwr_file_S ⊕ (jW)) → Option (Outcome × jW)) (t : Nat) : Prop :=
  jOK x RX14 cX14_file 7 ∧
  jMt x "file" (Option.none : Option Jvm.ClassFile.FieldType) [] ∧
  jRm x 9 133 ∧
  (∀ q : jW, en (.inr q) = some (.returned none, q)) ∧
  (∀ (l1 : Nat) (l3 : Int32) (l5 : Int32) (W : jW), jJ x 7 166 [(0, vR t), (1, vR l1), (3, vI l3), (5, vI l5)] [] W (some (.inl (.inl (l1, l3, l5, W)))) en) ∧
  (∀ (l1 : Nat) (l5 : Int32) (W : jW), jJ x 7 255 [(0, vR t), (1, vR l1), (5, vI l5)] [] W (some (.inl (.inr (.inl (l1, l5, W))))) en) ∧
  (∀ (l1 : Nat) (l5 : Int32) (W : jW), jJ x 7 307 [(0, vR t), (1, vR l1), (5, vI l5)] [] W (some (.inl (.inr (.inr (.inl (l1, l5, W)))))) en) ∧
  (∀ (l1 : Nat) (l5 : Int32) (W : jW), jJ x 7 361 [(0, vR t), (1, vR l1), (5, vI l5)] [] W (some (.inl (.inr (.inr (.inr (.inl (l1, l5, W))))))) en) ∧
  (∀ (l1 : Nat) (l5 : Int32) (l6 : Int32) (W : jW), jJ x 7 384 [(0, vR t), (1, vR l1), (5, vI l5), (6, vI l6)] [] W (some (.inl (.inr (.inr (.inr (.inr (l1, l5, l6, W))))))) en)
theorem wwr_file_246 {x : jCx} {en : (fwr_file_S ⊕ (jW)) → Option (Outcome × jW)} {t : Nat} (h : hwr_file x en t) (l1 : Nat) (l3 : Int32) (l5 : Int32) (W : jW) : jJ x 7 246 [(0, vR t), (1, vR l1), (3, vI l3), (5, vI l5)] [] W (fwr_file_246 t l1 l3 l5 W) en := by
  have h0 := h
  obtain ⟨hx, hm, hr, he, k166, k255, k307, k361, k384⟩ := h0
  unfold fwr_file_246
  refine j_runA hx 1 (tb := [(246, .iinc 5 1)]) (jtb_ok (by decide +kernel)) (pc' := 249) (lv' := [(5, vI (l5 + (kI 1))), (0, vR t), (1, vR l1), (3, vI l3)]) (st' := []) rfl ?_
  refine j_let (v := (l5 + (kI 1))) (lv := fun v57 => [(5, vI v57), (0, vR t), (1, vR l1), (3, vI l3)]) (st := fun _ => []) (fun v57 => ?_)
  refine j_goto hx (off := -83) (by decide +kernel) (tgt := 166) (by decide) ?_
  refine j_lv (lv' := [(0, vR t), (1, vR l1), (3, vI l3), (5, vI v57)]) ⟨rfl, rfl, rfl, rfl, trivial⟩ ?_
  exact k166 l1 l3 v57 W
theorem wwr_file_298 {x : jCx} {en : (fwr_file_S ⊕ (jW)) → Option (Outcome × jW)} {t : Nat} (h : hwr_file x en t) (l1 : Nat) (l5 : Int32) (W : jW) : jJ x 7 298 [(0, vR t), (1, vR l1), (5, vI l5)] [] W (fwr_file_298 t l1 l5 W) en := by
  have h0 := h
  obtain ⟨hx, hm, hr, he, k166, k255, k307, k361, k384⟩ := h0
  unfold fwr_file_298
  refine j_runA hx 1 (tb := [(298, .iinc 5 1)]) (jtb_ok (by decide +kernel)) (pc' := 301) (lv' := [(5, vI (l5 + (kI 1))), (0, vR t), (1, vR l1)]) (st' := []) rfl ?_
  refine j_let (v := (l5 + (kI 1))) (lv := fun v69 => [(5, vI v69), (0, vR t), (1, vR l1)]) (st := fun _ => []) (fun v69 => ?_)
  refine j_goto hx (off := -46) (by decide +kernel) (tgt := 255) (by decide) ?_
  refine j_lv (lv' := [(0, vR t), (1, vR l1), (5, vI v69)]) ⟨rfl, rfl, rfl, trivial⟩ ?_
  exact k255 l1 v69 W
theorem wwr_file_415 {x : jCx} {en : (fwr_file_S ⊕ (jW)) → Option (Outcome × jW)} {t : Nat} (h : hwr_file x en t) (l1 : Nat) (l5 : Int32) (W : jW) : jJ x 7 415 [(0, vR t), (1, vR l1), (5, vI l5)] [] W (fwr_file_415 t l1 l5 W) en := by
  have h0 := h
  obtain ⟨hx, hm, hr, he, k166, k255, k307, k361, k384⟩ := h0
  unfold fwr_file_415
  refine j_runA hx 1 (tb := [(415, .iinc 5 1)]) (jtb_ok (by decide +kernel)) (pc' := 418) (lv' := [(5, vI (l5 + (kI 1))), (0, vR t), (1, vR l1)]) (st' := []) rfl ?_
  refine j_let (v := (l5 + (kI 1))) (lv := fun v94 => [(5, vI v94), (0, vR t), (1, vR l1)]) (st := fun _ => []) (fun v94 => ?_)
  refine j_goto hx (off := -57) (by decide +kernel) (tgt := 361) (by decide) ?_
  refine j_lv (lv' := [(0, vR t), (1, vR l1), (5, vI v94)]) ⟨rfl, rfl, rfl, trivial⟩ ?_
  exact k361 l1 v94 W
theorem wwr_file_384 {x : jCx} {en : (fwr_file_S ⊕ (jW)) → Option (Outcome × jW)} {t : Nat} (h : hwr_file x en t) (l1 : Nat) (l5 : Int32) (l6 : Int32) (W : jW) : jJ x 7 384 [(0, vR t), (1, vR l1), (5, vI l5), (6, vI l6)] [] W (fwr_file_384 t l1 l5 l6 W) en := by
  have h0 := h
  obtain ⟨hx, hm, hr, he, k166, k255, k307, k361, k384⟩ := h0
  unfold fwr_file_384
  refine j_runA hx 3 (tb := [(384, .iload 6), (386, .aload_n 1), (387, .iload 5)]) (jtb_ok (by decide +kernel)) (pc' := 389) (lv' := [(0, vR t), (1, vR l1), (5, vI l5), (6, vI l6)]) (st' := [vI l5, vR l1, vI l6]) rfl ?_
  refine j_gd (fun h86 => ?_)
  refine j_OI (j_callV (av := [vI l5]) (st := [vI l6]) hx hr (Or.inl q1915) q905 q906 rfl md_fsh_fixCount np_fsh_fixCount (csh_fixCount l1 l5 W) (by decide) (Nat.le_of_ble_eq_true rfl) h86 (by decide) (by decide +kernel)) (fun q87 _ => ?_)
  refine j_icmp_ge hx (off := 23) (tgt := 415) (by decide +kernel) (by decide) (fun _ => ?_) (fun _ => ?_)
  · refine j_lv (lv' := [(0, vR t), (1, vR l1), (5, vI l5)]) ⟨rfl, rfl, rfl, trivial⟩ ?_
    exact wwr_file_415 h l1 l5 W
  refine j_runA hx 5 (tb := [(395, .aload_n 0), (396, .iload 5), (398, .aload_n 1), (399, .iload 5), (401, .iload 6)]) (jtb_ok (by decide +kernel)) (pc' := 403) (lv' := [(0, vR t), (1, vR l1), (5, vI l5), (6, vI l6)]) (st' := [vI l6, vI l5, vR l1, vI l5, vR t]) rfl ?_
  refine j_OI (j_callV (av := [vI l5, vI l6]) (st := [vI l5, vR t]) hx hr (Or.inl q1916) q909 q910 rfl md_fsh_fixAt np_fsh_fixAt (csh_fixAt l1 l5 l6 W) (by decide) (Nat.le_of_ble_eq_true rfl) h86 (by decide) (by decide +kernel)) (fun q88 _ => ?_)
  refine j_gd (fun h89 => ?_)
  refine j_WV (j_callV (av := [vI l5, vI q88]) (st := []) hx hr (Or.inl q1917) q1919 qs71 rfl md_fwr_fix np_fwr_fix (cwr_fix t l5 q88 W) (by decide) (Nat.le_of_ble_eq_true rfl) h89 (by decide) (by decide +kernel)) (fun q90 _ => ?_)
  refine j_runA hx 1 (tb := [(409, .iinc 6 1)]) (jtb_ok (by decide +kernel)) (pc' := 412) (lv' := [(6, vI (l6 + (kI 1))), (0, vR t), (1, vR l1), (5, vI l5)]) (st' := []) rfl ?_
  refine j_let (v := (l6 + (kI 1))) (lv := fun v92 => [(6, vI v92), (0, vR t), (1, vR l1), (5, vI l5)]) (st := fun _ => []) (fun v92 => ?_)
  refine j_goto hx (off := -28) (by decide +kernel) (tgt := 384) (by decide) ?_
  refine j_lv (lv' := [(0, vR t), (1, vR l1), (5, vI l5), (6, vI v92)]) ⟨rfl, rfl, rfl, rfl, trivial⟩ ?_
  exact k384 l1 l5 v92 q90
theorem wwr_file_361 {x : jCx} {en : (fwr_file_S ⊕ (jW)) → Option (Outcome × jW)} {t : Nat} (h : hwr_file x en t) (l1 : Nat) (l5 : Int32) (W : jW) : jJ x 7 361 [(0, vR t), (1, vR l1), (5, vI l5)] [] W (fwr_file_361 t l1 l5 W) en := by
  have h0 := h
  obtain ⟨hx, hm, hr, he, k166, k255, k307, k361, k384⟩ := h0
  unfold fwr_file_361
  refine j_runA hx 2 (tb := [(361, .iload 5), (363, .aload_n 1)]) (jtb_ok (by decide +kernel)) (pc' := 364) (lv' := [(0, vR t), (1, vR l1), (5, vI l5)]) (st' := [vR l1, vI l5]) rfl ?_
  refine j_gd (fun h83 => ?_)
  refine j_getI hx flX14_263 kd403 h83 (by decide) (by decide +kernel) ?_
  refine j_icmp_ge hx (off := 54) (tgt := 421) (by decide +kernel) (by decide) (fun _ => ?_) (fun _ => ?_)
  · exact j_vret hx hm (by decide +kernel) (he _)
  refine j_runA hx 1 (tb := [(370, .aload_n 1)]) (jtb_ok (by decide +kernel)) (pc' := 371) (lv' := [(0, vR t), (1, vR l1), (5, vI l5)]) (st' := [vR l1]) rfl ?_
  refine j_getR hx flX14_300 kl411 h83 (by decide) (by decide +kernel) ?_
  refine j_runA hx 1 (tb := [(374, .iload 5)]) (jtb_ok (by decide +kernel)) (pc' := 376) (lv' := [(0, vR t), (1, vR l1), (5, vI l5)]) (st' := [vI l5, vR (jR W 411 l1)]) rfl ?_
  refine j_gd (fun h84 => ?_)
  refine j_iald hx (f := 411) (o := l1) kd411 rfl (by decide +kernel) h84 ?_
  refine j_runA hx 1 (tb := [(377, .iconst 4)]) (jtb_ok (by decide +kernel)) (pc' := 378) (lv' := [(0, vR t), (1, vR l1), (5, vI l5)]) (st' := [vI (kI 4), vI (jA W 411 l1 (ix l5))]) rfl ?_
  refine j_icmp_ne hx (off := 37) (tgt := 415) (by decide +kernel) (by decide) (fun _ => ?_) (fun _ => ?_)
  · exact wwr_file_415 h l1 l5 W
  refine j_runA hx 2 (tb := [(381, .iconst 0), (382, .istore 6)]) (jtb_ok (by decide +kernel)) (pc' := 384) (lv' := [(6, vI (kI 0)), (0, vR t), (1, vR l1), (5, vI l5)]) (st' := []) rfl ?_
  refine j_lv (lv' := [(0, vR t), (1, vR l1), (5, vI l5), (6, vI (kI 0))]) ⟨rfl, rfl, rfl, rfl, trivial⟩ ?_
  exact k384 l1 l5 (kI 0) W
theorem wwr_file_307 {x : jCx} {en : (fwr_file_S ⊕ (jW)) → Option (Outcome × jW)} {t : Nat} (h : hwr_file x en t) (l1 : Nat) (l5 : Int32) (W : jW) : jJ x 7 307 [(0, vR t), (1, vR l1), (5, vI l5)] [] W (fwr_file_307 t l1 l5 W) en := by
  have h0 := h
  obtain ⟨hx, hm, hr, he, k166, k255, k307, k361, k384⟩ := h0
  unfold fwr_file_307
  refine j_runA hx 2 (tb := [(307, .iload 5), (309, .aload_n 0)]) (jtb_ok (by decide +kernel)) (pc' := 310) (lv' := [(0, vR t), (1, vR l1), (5, vI l5)]) (st' := [vR t, vI l5]) rfl ?_
  refine j_gd (fun h71 => ?_)
  refine j_getR hx flX14_30 kl900 h71 (by decide) (by decide +kernel) ?_
  refine j_gd (fun h72 => ?_)
  refine j_OI (j_callV (av := []) (st := [vI l5]) hx hr (Or.inl q1904) q1558 q1559 rfl md_fpg_functionCount np_fpg_functionCount (cpg_functionCount (jR W 900 t) W) (by decide) (Nat.le_of_ble_eq_true rfl) h72 (by decide) (by decide +kernel)) (fun q73 _ => ?_)
  refine j_icmp_ge hx (off := 42) (tgt := 358) (by decide +kernel) (by decide) (fun _ => ?_) (fun _ => ?_)
  · refine j_runA hx 2 (tb := [(358, .iconst 1), (359, .istore 5)]) (jtb_ok (by decide +kernel)) (pc' := 361) (lv' := [(5, vI (kI 1)), (0, vR t), (1, vR l1)]) (st' := []) rfl ?_
    refine j_lv (lv' := [(0, vR t), (1, vR l1), (5, vI (kI 1))]) ⟨rfl, rfl, rfl, trivial⟩ ?_
    exact k361 l1 (kI 1) W
  refine j_runA hx 3 (tb := [(319, .aload_n 0), (320, .aload_n 1), (321, .aload_n 0)]) (jtb_ok (by decide +kernel)) (pc' := 322) (lv' := [(0, vR t), (1, vR l1), (5, vI l5)]) (st' := [vR t, vR l1, vR t]) rfl ?_
  refine j_getR hx flX14_30 kl900 h71 (by decide) (by decide +kernel) ?_
  refine j_getR hx flX14_294 kl210 h72 (by decide) (by decide +kernel) ?_
  refine j_gd (fun h74 => ?_)
  refine j_getR hx flX14_133 kl600 h74 (by decide) (by decide +kernel) ?_
  refine j_runA hx 1 (tb := [(331, .iload 5)]) (jtb_ok (by decide +kernel)) (pc' := 333) (lv' := [(0, vR t), (1, vR l1), (5, vI l5)]) (st' := [vI l5, vR (jR W 600 (jR W 210 (jR W 900 t))), vR l1, vR t]) rfl ?_
  refine j_gd (fun h75 => ?_)
  refine j_iald hx (f := 600) (o := (jR W 210 (jR W 900 t))) kd600 rfl (by decide +kernel) h75 ?_
  refine j_gd (fun h76 => ?_)
  refine j_OI (j_callV (av := [vI (jA W 600 (jR W 210 (jR W 900 t)) (ix l5))]) (st := [vR t]) hx hr (Or.inl q1897) q880 q881 rfl md_fsh_symbolAt np_fsh_symbolAt (csh_symbolAt l1 (jA W 600 (jR W 210 (jR W 900 t)) (ix l5)) W) (by decide) (Nat.le_of_ble_eq_true rfl) h76 (by decide) (by decide +kernel)) (fun q77 _ => ?_)
  refine j_runA hx 4 (tb := [(337, .bipush 16), (339, .iadd), (340, .aload_n 0), (341, .iload 5)]) (jtb_ok (by decide +kernel)) (pc' := 343) (lv' := [(0, vR t), (1, vR l1), (5, vI l5)]) (st' := [vI l5, vR t, vI (q77 + (kI 16)), vR t]) rfl ?_
  refine j_OI (j_callV (av := [vI l5]) (st := [vI (q77 + (kI 16)), vR t]) hx hr (Or.inl q1905) q1907 qs69 rfl md_fwr_partOf np_fwr_partOf (cwr_partOf t l5 W) (by decide) (Nat.le_of_ble_eq_true rfl) h71 (by decide) (by decide +kernel)) (fun q78 _ => ?_)
  refine j_runA hx 2 (tb := [(346, .i2l), (347, .bipush 8)]) (jtb_ok (by decide +kernel)) (pc' := 349) (lv' := [(0, vR t), (1, vR l1), (5, vI l5)]) (st' := [vI (kI 8), vL q78.toInt64, vI (q77 + (kI 16)), vR t]) rfl ?_
  refine j_WV (j_callV (av := [vI (q77 + (kI 16)), vL q78.toInt64, vI (kI 8)]) (st := []) hx hr (Or.inl q1886) q1888 qs67 rfl md_fwr_set np_fwr_set (cwr_set t (q77 + (kI 16)) q78.toInt64 (kI 8) W) (by decide) (Nat.le_of_ble_eq_true rfl) h71 (by decide) (by decide +kernel)) (fun q79 _ => ?_)
  refine j_runA hx 1 (tb := [(352, .iinc 5 1)]) (jtb_ok (by decide +kernel)) (pc' := 355) (lv' := [(5, vI (l5 + (kI 1))), (0, vR t), (1, vR l1)]) (st' := []) rfl ?_
  refine j_let (v := (l5 + (kI 1))) (lv := fun v81 => [(5, vI v81), (0, vR t), (1, vR l1)]) (st := fun _ => []) (fun v81 => ?_)
  refine j_goto hx (off := -48) (by decide +kernel) (tgt := 307) (by decide) ?_
  refine j_lv (lv' := [(0, vR t), (1, vR l1), (5, vI v81)]) ⟨rfl, rfl, rfl, trivial⟩ ?_
  exact k307 l1 v81 q79
theorem wwr_file_255 {x : jCx} {en : (fwr_file_S ⊕ (jW)) → Option (Outcome × jW)} {t : Nat} (h : hwr_file x en t) (l1 : Nat) (l5 : Int32) (W : jW) : jJ x 7 255 [(0, vR t), (1, vR l1), (5, vI l5)] [] W (fwr_file_255 t l1 l5 W) en := by
  have h0 := h
  obtain ⟨hx, hm, hr, he, k166, k255, k307, k361, k384⟩ := h0
  unfold fwr_file_255
  refine j_runA hx 2 (tb := [(255, .iload 5), (257, .aload_n 1)]) (jtb_ok (by decide +kernel)) (pc' := 258) (lv' := [(0, vR t), (1, vR l1), (5, vI l5)]) (st' := [vR l1, vI l5]) rfl ?_
  refine j_gd (fun h59 => ?_)
  refine j_OI (j_callV (av := []) (st := [vI l5]) hx hr (Or.inl q1892) q884 q885 rfl md_fsh_symbolCount np_fsh_symbolCount (csh_symbolCount l1 W) (by decide) (Nat.le_of_ble_eq_true rfl) h59 (by decide) (by decide +kernel)) (fun q60 _ => ?_)
  refine j_icmp_ge hx (off := 43) (tgt := 304) (by decide +kernel) (by decide) (fun _ => ?_) (fun _ => ?_)
  · refine j_runA hx 2 (tb := [(304, .iconst 0), (305, .istore 5)]) (jtb_ok (by decide +kernel)) (pc' := 307) (lv' := [(5, vI (kI 0)), (0, vR t), (1, vR l1)]) (st' := []) rfl ?_
    refine j_lv (lv' := [(0, vR t), (1, vR l1), (5, vI (kI 0))]) ⟨rfl, rfl, rfl, trivial⟩ ?_
    exact k307 l1 (kI 0) W
  refine j_runA hx 2 (tb := [(264, .aload_n 1), (265, .iload 5)]) (jtb_ok (by decide +kernel)) (pc' := 267) (lv' := [(0, vR t), (1, vR l1), (5, vI l5)]) (st' := [vI l5, vR l1]) rfl ?_
  refine j_OI (j_callV (av := [vI l5]) (st := []) hx hr (Or.inl q1893) q1894 q1895 rfl md_fsh_isTextSymbol np_fsh_isTextSymbol (csh_isTextSymbol l1 l5 W) (by decide) (Nat.le_of_ble_eq_true rfl) h59 (by decide) (by decide +kernel)) (fun q61 _ => ?_)
  refine j_if_eq hx (off := 28) (tgt := 298) (by decide +kernel) (by decide) (fun _ => ?_) (fun _ => ?_)
  · exact wwr_file_298 h l1 l5 W
  refine j_runA hx 3 (tb := [(273, .aload_n 0), (274, .aload_n 1), (275, .iload 5)]) (jtb_ok (by decide +kernel)) (pc' := 277) (lv' := [(0, vR t), (1, vR l1), (5, vI l5)]) (st' := [vI l5, vR l1, vR t]) rfl ?_
  refine j_OI (j_callV (av := [vI l5]) (st := [vR t]) hx hr (Or.inl q1897) q880 q881 rfl md_fsh_symbolAt np_fsh_symbolAt (csh_symbolAt l1 l5 W) (by decide) (Nat.le_of_ble_eq_true rfl) h59 (by decide) (by decide +kernel)) (fun q62 _ => ?_)
  refine j_runA hx 5 (tb := [(280, .bipush 8), (282, .iadd), (283, .aload_n 0), (284, .aload_n 1), (285, .iload 5)]) (jtb_ok (by decide +kernel)) (pc' := 287) (lv' := [(0, vR t), (1, vR l1), (5, vI l5)]) (st' := [vI l5, vR l1, vR t, vI (q62 + (kI 8)), vR t]) rfl ?_
  refine j_OL (j_callV (av := [vI l5]) (st := [vR t, vI (q62 + (kI 8)), vR t]) hx hr (Or.inl q1898) q889 q890 rfl md_fsh_valueOf np_fsh_valueOf (csh_valueOf l1 l5 W) (by decide) (Nat.le_of_ble_eq_true rfl) h59 (by decide) (by decide +kernel)) (fun q63 _ => ?_)
  refine j_gd (fun h64 => ?_)
  refine j_OL (j_callV (av := [vL q63]) (st := [vI (q62 + (kI 8)), vR t]) hx hr (Or.inl q1899) q1901 qs68 rfl md_fwr_newOf np_fwr_newOf (cwr_newOf t q63 W) (by decide) (Nat.le_of_ble_eq_true rfl) h64 (by decide) (by decide +kernel)) (fun q65 _ => ?_)
  refine j_runA hx 1 (tb := [(293, .bipush 8)]) (jtb_ok (by decide +kernel)) (pc' := 295) (lv' := [(0, vR t), (1, vR l1), (5, vI l5)]) (st' := [vI (kI 8), vL q65, vI (q62 + (kI 8)), vR t]) rfl ?_
  refine j_WV (j_callV (av := [vI (q62 + (kI 8)), vL q65, vI (kI 8)]) (st := []) hx hr (Or.inl q1886) q1888 qs67 rfl md_fwr_set np_fwr_set (cwr_set t (q62 + (kI 8)) q65 (kI 8) W) (by decide) (Nat.le_of_ble_eq_true rfl) h64 (by decide) (by decide +kernel)) (fun q66 _ => ?_)
  exact wwr_file_298 h l1 l5 q66
theorem wwr_file_166 {x : jCx} {en : (fwr_file_S ⊕ (jW)) → Option (Outcome × jW)} {t : Nat} (h : hwr_file x en t) (l1 : Nat) (l3 : Int32) (l5 : Int32) (W : jW) : jJ x 7 166 [(0, vR t), (1, vR l1), (3, vI l3), (5, vI l5)] [] W (fwr_file_166 t l1 l3 l5 W) en := by
  have h0 := h
  obtain ⟨hx, hm, hr, he, k166, k255, k307, k361, k384⟩ := h0
  unfold fwr_file_166
  refine j_runA hx 2 (tb := [(166, .iload 5), (168, .aload_n 1)]) (jtb_ok (by decide +kernel)) (pc' := 169) (lv' := [(0, vR t), (1, vR l1), (3, vI l3), (5, vI l5)]) (st' := [vR l1, vI l5]) rfl ?_
  refine j_gd (fun h45 => ?_)
  refine j_getI hx flX14_263 kd403 h45 (by decide) (by decide +kernel) ?_
  refine j_icmp_ge hx (off := 80) (tgt := 252) (by decide +kernel) (by decide) (fun _ => ?_) (fun _ => ?_)
  · refine j_runA hx 2 (tb := [(252, .iconst 1), (253, .istore 5)]) (jtb_ok (by decide +kernel)) (pc' := 255) (lv' := [(5, vI (kI 1)), (0, vR t), (1, vR l1), (3, vI l3)]) (st' := []) rfl ?_
    refine j_lv (lv' := [(0, vR t), (1, vR l1), (5, vI (kI 1))]) ⟨rfl, rfl, rfl, trivial⟩ ?_
    exact k255 l1 (kI 1) W
  refine j_runA hx 2 (tb := [(175, .iload 5), (177, .aload_n 1)]) (jtb_ok (by decide +kernel)) (pc' := 178) (lv' := [(0, vR t), (1, vR l1), (3, vI l3), (5, vI l5)]) (st' := [vR l1, vI l5]) rfl ?_
  refine j_getI hx flX14_266 kd418 h45 (by decide) (by decide +kernel) ?_
  refine j_icmp_ne hx (off := 26) (tgt := 207) (by decide +kernel) (by decide) (fun _ => ?_) (fun _ => ?_)
  · refine j_runA hx 1 (tb := [(207, .aload_n 1)]) (jtb_ok (by decide +kernel)) (pc' := 208) (lv' := [(0, vR t), (1, vR l1), (3, vI l3), (5, vI l5)]) (st' := [vR l1]) rfl ?_
    refine j_getR hx flX14_272 kl414 h45 (by decide) (by decide +kernel) ?_
    refine j_runA hx 1 (tb := [(211, .iload 5)]) (jtb_ok (by decide +kernel)) (pc' := 213) (lv' := [(0, vR t), (1, vR l1), (3, vI l3), (5, vI l5)]) (st' := [vI l5, vR (jR W 414 l1)]) rfl ?_
    refine j_gd (fun h46 => ?_)
    refine j_iald hx (f := 414) (o := l1) kd414 rfl (by decide +kernel) h46 ?_
    refine j_runA hx 1 (tb := [(214, .iload_n 3)]) (jtb_ok (by decide +kernel)) (pc' := 215) (lv' := [(0, vR t), (1, vR l1), (3, vI l3), (5, vI l5)]) (st' := [vI l3, vI (jA W 414 l1 (ix l5))]) rfl ?_
    refine j_icmp_lt hx (off := 31) (tgt := 246) (by decide +kernel) (by decide) (fun _ => ?_) (fun _ => ?_)
    · exact wwr_file_246 h l1 l3 l5 W
    refine j_runA hx 3 (tb := [(218, .aload_n 0), (219, .aload_n 1), (220, .iload 5)]) (jtb_ok (by decide +kernel)) (pc' := 222) (lv' := [(0, vR t), (1, vR l1), (3, vI l3), (5, vI l5)]) (st' := [vI l5, vR l1, vR t]) rfl ?_
    refine j_OI (j_callV (av := [vI l5]) (st := [vR t]) hx hr (Or.inl q1891) q838 q839 rfl md_fsh_headOf np_fsh_headOf (csh_headOf l1 l5 W) (by decide) (Nat.le_of_ble_eq_true rfl) h45 (by decide) (by decide +kernel)) (fun q47 _ => ?_)
    refine j_runA hx 3 (tb := [(225, .bipush 24), (227, .iadd), (228, .aload_n 1)]) (jtb_ok (by decide +kernel)) (pc' := 229) (lv' := [(0, vR t), (1, vR l1), (3, vI l3), (5, vI l5)]) (st' := [vR l1, vI (q47 + (kI 24)), vR t]) rfl ?_
    refine j_getR hx flX14_272 kl414 h45 (by decide) (by decide +kernel) ?_
    refine j_runA hx 1 (tb := [(232, .iload 5)]) (jtb_ok (by decide +kernel)) (pc' := 234) (lv' := [(0, vR t), (1, vR l1), (3, vI l3), (5, vI l5)]) (st' := [vI l5, vR (jR W 414 l1), vI (q47 + (kI 24)), vR t]) rfl ?_
    refine j_gd (fun h48 => ?_)
    refine j_iald hx (f := 414) (o := l1) kd414 rfl (by decide +kernel) h48 ?_
    refine j_runA hx 1 (tb := [(235, .aload_n 0)]) (jtb_ok (by decide +kernel)) (pc' := 236) (lv' := [(0, vR t), (1, vR l1), (3, vI l3), (5, vI l5)]) (st' := [vR t, vI (jA W 414 l1 (ix l5)), vI (q47 + (kI 24)), vR t]) rfl ?_
    refine j_gd (fun h49 => ?_)
    refine j_getI hx flX14_223 kd914 h49 (by decide) (by decide +kernel) ?_
    refine j_runA hx 3 (tb := [(239, .iadd), (240, .i2l), (241, .bipush 8)]) (jtb_ok (by decide +kernel)) (pc' := 243) (lv' := [(0, vR t), (1, vR l1), (3, vI l3), (5, vI l5)]) (st' := [vI (kI 8), vL (((jA W 414 l1 (ix l5)) + (jI W 914 t)).toInt64), vI (q47 + (kI 24)), vR t]) rfl ?_
    refine j_WV (j_callV (av := [vI (q47 + (kI 24)), vL (((jA W 414 l1 (ix l5)) + (jI W 914 t)).toInt64), vI (kI 8)]) (st := []) hx hr (Or.inl q1886) q1888 qs67 rfl md_fwr_set np_fwr_set (cwr_set t (q47 + (kI 24)) (((jA W 414 l1 (ix l5)) + (jI W 914 t)).toInt64) (kI 8) W) (by decide) (Nat.le_of_ble_eq_true rfl) h49 (by decide) (by decide +kernel)) (fun q50 _ => ?_)
    exact wwr_file_246 h l1 l3 l5 q50
  refine j_runA hx 3 (tb := [(184, .aload_n 0), (185, .aload_n 1), (186, .iload 5)]) (jtb_ok (by decide +kernel)) (pc' := 188) (lv' := [(0, vR t), (1, vR l1), (3, vI l3), (5, vI l5)]) (st' := [vI l5, vR l1, vR t]) rfl ?_
  refine j_OI (j_callV (av := [vI l5]) (st := [vR t]) hx hr (Or.inl q1891) q838 q839 rfl md_fsh_headOf np_fsh_headOf (csh_headOf l1 l5 W) (by decide) (Nat.le_of_ble_eq_true rfl) h45 (by decide) (by decide +kernel)) (fun q52 _ => ?_)
  refine j_runA hx 3 (tb := [(191, .bipush 32), (193, .iadd), (194, .aload_n 0)]) (jtb_ok (by decide +kernel)) (pc' := 195) (lv' := [(0, vR t), (1, vR l1), (3, vI l3), (5, vI l5)]) (st' := [vR t, vI (q52 + (kI 32)), vR t]) rfl ?_
  refine j_gd (fun h53 => ?_)
  refine j_getI hx flX14_120 kd912 h53 (by decide) (by decide +kernel) ?_
  refine j_runA hx 2 (tb := [(198, .i2l), (199, .bipush 8)]) (jtb_ok (by decide +kernel)) (pc' := 201) (lv' := [(0, vR t), (1, vR l1), (3, vI l3), (5, vI l5)]) (st' := [vI (kI 8), vL ((jI W 912 t).toInt64), vI (q52 + (kI 32)), vR t]) rfl ?_
  refine j_WV (j_callV (av := [vI (q52 + (kI 32)), vL ((jI W 912 t).toInt64), vI (kI 8)]) (st := []) hx hr (Or.inl q1886) q1888 qs67 rfl md_fwr_set np_fwr_set (cwr_set t (q52 + (kI 32)) ((jI W 912 t).toInt64) (kI 8) W) (by decide) (Nat.le_of_ble_eq_true rfl) h53 (by decide) (by decide +kernel)) (fun q54 _ => ?_)
  refine j_goto hx (off := 42) (by decide +kernel) (tgt := 246) (by decide) ?_
  exact wwr_file_246 h l1 l3 l5 q54
theorem wwr_file {x : jCx} {en : (fwr_file_S ⊕ (jW)) → Option (Outcome × jW)} {t : Nat} (h : hwr_file x en t) (W : jW) : jJ x 7 0 [(0, vR t)] [] W (fwr_file_0 t W) en := by
  have h0 := h
  obtain ⟨hx, hm, hr, he, k166, k255, k307, k361, k384⟩ := h0
  unfold fwr_file_0
  refine j_runA hx 1 (tb := [(0, .aload_n 0)]) (jtb_ok (by decide +kernel)) (pc' := 1) (lv' := [(0, vR t)]) (st' := [vR t]) rfl ?_
  refine j_gd (fun h1 => ?_)
  refine j_getR hx flX14_30 kl900 h1 (by decide) (by decide +kernel) ?_
  refine j_gd (fun h2 => ?_)
  refine j_getR hx flX14_181 kl201 h2 (by decide) (by decide +kernel) ?_
  refine j_runA hx 1 (tb := [(7, .astore_n 1)]) (jtb_ok (by decide +kernel)) (pc' := 8) (lv' := [(1, vR (jR W 201 (jR W 900 t))), (0, vR t)]) (st' := []) rfl ?_
  refine j_let (v := (jR W 201 (jR W 900 t))) (lv := fun v3 => [(1, vR v3), (0, vR t)]) (st := fun _ => []) (fun v3 => ?_)
  refine j_runA hx 1 (tb := [(8, .aload_n 0)]) (jtb_ok (by decide +kernel)) (pc' := 9) (lv' := [(1, vR v3), (0, vR t)]) (st' := [vR t]) rfl ?_
  refine j_getR hx flX14_30 kl900 h1 (by decide) (by decide +kernel) ?_
  refine j_getR hx flX14_215 kl202 h2 (by decide) (by decide +kernel) ?_
  refine j_gd (fun h4 => ?_)
  refine j_getR hx flX14_241 kl500 h4 (by decide) (by decide +kernel) ?_
  refine j_runA hx 2 (tb := [(18, .iconst 0), (19, .aload_n 0)]) (jtb_ok (by decide +kernel)) (pc' := 20) (lv' := [(1, vR v3), (0, vR t)]) (st' := [vR t, vI (kI 0), vR (jR W 500 (jR W 202 (jR W 900 t)))]) rfl ?_
  refine j_getR hx flX14_26 kl913 h1 (by decide) (by decide +kernel) ?_
  refine j_runA hx 2 (tb := [(23, .iconst 0), (24, .aload_n 0)]) (jtb_ok (by decide +kernel)) (pc' := 25) (lv' := [(1, vR v3), (0, vR t)]) (st' := [vR t, vI (kI 0), vR (jR W 913 t), vI (kI 0), vR (jR W 500 (jR W 202 (jR W 900 t)))]) rfl ?_
  refine j_getR hx flX14_30 kl900 h1 (by decide) (by decide +kernel) ?_
  refine j_getR hx flX14_215 kl202 h2 (by decide) (by decide +kernel) ?_
  refine j_getI hx flX14_218 kd501 h4 (by decide) (by decide +kernel) ?_
  refine j_gd (fun h5 => ?_)
  refine j_gd (fun h6 => ?_)
  refine j_gd (fun h7 => ?_)
  refine j_cpY (f := 500) (o := (jR W 202 (jR W 900 t))) (f2 := 913) (o2 := t) hx hr q1884 q735 q734 q245 (by decide +kernel) kd500 kd913 rfl rfl h5 h6 h7 (by decide) (Nat.le_of_ble_eq_true rfl) ?_
  refine j_ltw rfl (fun W8 hc9 => ?_)
  have h10 : jC W8 t = 9 := (congrFun hc9 _).trans h1
  have h11 : jC W8 (jR W 900 t) = 2 := (congrFun hc9 _).trans h2
  have h12 : jC W8 (jR W 202 (jR W 900 t)) = 5 := (congrFun hc9 _).trans h4
  refine j_runA hx 1 (tb := [(37, .aload_n 0)]) (jtb_ok (by decide +kernel)) (pc' := 38) (lv' := [(1, vR v3), (0, vR t)]) (st' := [vR t]) rfl ?_
  refine j_getI hx flX14_120 kd912 h10 (by decide) (by decide +kernel) ?_
  refine j_runA hx 2 (tb := [(41, .iconst 4), (42, .aload_n 0)]) (jtb_ok (by decide +kernel)) (pc' := 43) (lv' := [(1, vR v3), (0, vR t)]) (st' := [vR t, vI (kI 4), vI (jI W8 912 t)]) rfl ?_
  refine j_getR hx flX14_30 kl900 h10 (by decide) (by decide +kernel) ?_
  refine j_gd (fun h14 => ?_)
  refine j_getI hx flX14_230 kd203 h14 (by decide) (by decide +kernel) ?_
  refine j_runA hx 3 (tb := [(49, .imul), (50, .isub), (51, .istore_n 2)]) (jtb_ok (by decide +kernel)) (pc' := 52) (lv' := [(2, vI ((jI W8 912 t) - ((kI 4) * (jI W8 203 (jR W8 900 t))))), (1, vR v3), (0, vR t)]) (st' := []) rfl ?_
  refine j_let (v := ((jI W8 912 t) - ((kI 4) * (jI W8 203 (jR W8 900 t))))) (lv := fun v15 => [(2, vI v15), (1, vR v3), (0, vR t)]) (st := fun _ => []) (fun v15 => ?_)
  refine j_runA hx 7 (tb := [(52, .aload_n 0), (53, .iload_n 2), (54, .iload_n 2), (55, .ineg), (56, .bipush 15), (58, .iand), (59, .iadd)]) (jtb_ok (by decide +kernel)) (pc' := 60) (lv' := [(2, vI v15), (1, vR v3), (0, vR t)]) (st' := [vI (v15 + ((-v15) &&& (kI 15))), vR t]) rfl ?_
  refine j_putI hx fwX14_223 wf914 kd914 h10 (by decide) (by decide +kernel) (ni914 _) (fi914 _) ?_
  refine j_ltw rfl (fun W16 hc17 => ?_)
  have h18 : jC W16 t = 9 := (congrFun hc17 _).trans h10
  have h19 : jC W16 (jR W 900 t) = 2 := (congrFun hc17 _).trans h11
  have h20 : jC W16 (jR W 202 (jR W 900 t)) = 5 := (congrFun hc17 _).trans h12
  have h21 : jC W16 (jR W8 900 t) = 2 := (congrFun hc17 _).trans h14
  refine j_runA hx 1 (tb := [(63, .aload_n 1)]) (jtb_ok (by decide +kernel)) (pc' := 64) (lv' := [(2, vI v15), (1, vR v3), (0, vR t)]) (st' := [vR v3]) rfl ?_
  refine j_gd (fun h23 => ?_)
  refine j_OI (j_callV (av := []) (st := []) hx hr (Or.inl q788) q789 q790 rfl md_fsh_textOffset np_fsh_textOffset (csh_textOffset v3 W16) (by decide) (Nat.le_of_ble_eq_true rfl) h23 (by decide) (by decide +kernel)) (fun q24 _ => ?_)
  refine j_runA hx 2 (tb := [(67, .iconst 4), (68, .aload_n 0)]) (jtb_ok (by decide +kernel)) (pc' := 69) (lv' := [(2, vI v15), (1, vR v3), (0, vR t)]) (st' := [vR t, vI (kI 4), vI q24]) rfl ?_
  refine j_getR hx flX14_30 kl900 h18 (by decide) (by decide +kernel) ?_
  refine j_gd (fun h25 => ?_)
  refine j_getI hx flX14_230 kd203 h25 (by decide) (by decide +kernel) ?_
  refine j_runA hx 3 (tb := [(75, .imul), (76, .iadd), (77, .istore_n 3)]) (jtb_ok (by decide +kernel)) (pc' := 78) (lv' := [(3, vI (q24 + ((kI 4) * (jI W16 203 (jR W16 900 t))))), (2, vI v15), (1, vR v3), (0, vR t)]) (st' := []) rfl ?_
  refine j_let (v := (q24 + ((kI 4) * (jI W16 203 (jR W16 900 t))))) (lv := fun v26 => [(3, vI v26), (2, vI v15), (1, vR v3), (0, vR t)]) (st := fun _ => []) (fun v26 => ?_)
  refine j_runA hx 4 (tb := [(78, .aload_n 0), (79, .bipush 24), (81, .aload_n 0), (82, .aload_n 0)]) (jtb_ok (by decide +kernel)) (pc' := 83) (lv' := [(3, vI v26), (2, vI v15), (1, vR v3), (0, vR t)]) (st' := [vR t, vR t, vI (kI 24), vR t]) rfl ?_
  refine j_getR hx flX14_30 kl900 h18 (by decide) (by decide +kernel) ?_
  refine j_runA hx 1 (tb := [(86, .aload_n 1)]) (jtb_ok (by decide +kernel)) (pc' := 87) (lv' := [(3, vI v26), (2, vI v15), (1, vR v3), (0, vR t)]) (st' := [vR v3, vR (jR W16 900 t), vR t, vI (kI 24), vR t]) rfl ?_
  refine j_getL hx flX14_249 kd404 h23 (by decide) (by decide +kernel) ?_
  refine j_OI (j_callV (av := [vL (jL W16 404 v3)]) (st := [vR t, vI (kI 24), vR t]) hx hr (Or.inl q1885) q1036 q1037 rfl md_fpg_wordAt np_fpg_wordAt (cpg_wordAt (jR W16 900 t) (jL W16 404 v3) W16) (by decide) (Nat.le_of_ble_eq_true rfl) h25 (by decide) (by decide +kernel)) (fun q27 _ => ?_)
  refine j_OL (j_callV (av := [vI q27]) (st := [vI (kI 24), vR t]) hx hr (Or.inl q1838) q1839 q1840 rfl md_fwr_movedWord np_fwr_movedWord (cwr_movedWord t q27 W16) (by decide) (Nat.le_of_ble_eq_true rfl) h18 (by decide) (by decide +kernel)) (fun q28 _ => ?_)
  refine j_runA hx 1 (tb := [(96, .bipush 8)]) (jtb_ok (by decide +kernel)) (pc' := 98) (lv' := [(3, vI v26), (2, vI v15), (1, vR v3), (0, vR t)]) (st' := [vI (kI 8), vL q28, vI (kI 24), vR t]) rfl ?_
  refine j_WV (j_callV (av := [vI (kI 24), vL q28, vI (kI 8)]) (st := []) hx hr (Or.inl q1886) q1888 qs67 rfl md_fwr_set np_fwr_set (cwr_set t (kI 24) q28 (kI 8) W16) (by decide) (Nat.le_of_ble_eq_true rfl) h18 (by decide) (by decide +kernel)) (fun q29 _ => ?_)
  refine j_runA hx 3 (tb := [(101, .aload_n 0), (102, .bipush 40), (104, .aload_n 1)]) (jtb_ok (by decide +kernel)) (pc' := 105) (lv' := [(3, vI v26), (2, vI v15), (1, vR v3), (0, vR t)]) (st' := [vR v3, vI (kI 40), vR t]) rfl ?_
  refine j_gd (fun h31 => ?_)
  refine j_getI hx flX14_257 kd405 h31 (by decide) (by decide +kernel) ?_
  refine j_runA hx 1 (tb := [(108, .aload_n 0)]) (jtb_ok (by decide +kernel)) (pc' := 109) (lv' := [(3, vI v26), (2, vI v15), (1, vR v3), (0, vR t)]) (st' := [vR t, vI (jI q29 405 v3), vI (kI 40), vR t]) rfl ?_
  refine j_gd (fun h32 => ?_)
  refine j_getI hx flX14_223 kd914 h32 (by decide) (by decide +kernel) ?_
  refine j_runA hx 3 (tb := [(112, .iadd), (113, .i2l), (114, .bipush 8)]) (jtb_ok (by decide +kernel)) (pc' := 116) (lv' := [(3, vI v26), (2, vI v15), (1, vR v3), (0, vR t)]) (st' := [vI (kI 8), vL (((jI q29 405 v3) + (jI q29 914 t)).toInt64), vI (kI 40), vR t]) rfl ?_
  refine j_WV (j_callV (av := [vI (kI 40), vL (((jI q29 405 v3) + (jI q29 914 t)).toInt64), vI (kI 8)]) (st := []) hx hr (Or.inl q1886) q1888 qs67 rfl md_fwr_set np_fwr_set (cwr_set t (kI 40) (((jI q29 405 v3) + (jI q29 914 t)).toInt64) (kI 8) q29) (by decide) (Nat.le_of_ble_eq_true rfl) h32 (by decide) (by decide +kernel)) (fun q33 _ => ?_)
  refine j_runA hx 3 (tb := [(119, .bipush 64), (121, .bipush 56), (123, .aload_n 1)]) (jtb_ok (by decide +kernel)) (pc' := 124) (lv' := [(3, vI v26), (2, vI v15), (1, vR v3), (0, vR t)]) (st' := [vR v3, vI (kI 56), vI (kI 64)]) rfl ?_
  refine j_gd (fun h35 => ?_)
  refine j_OI (j_callV (av := []) (st := [vI (kI 56), vI (kI 64)]) hx hr (Or.inl q1890) q793 q794 rfl md_fsh_last np_fsh_last (csh_last v3 q33) (by decide) (Nat.le_of_ble_eq_true rfl) h35 (by decide) (by decide +kernel)) (fun q36 _ => ?_)
  refine j_runA hx 3 (tb := [(127, .imul), (128, .iadd), (129, .istore 4)]) (jtb_ok (by decide +kernel)) (pc' := 131) (lv' := [(4, vI ((kI 64) + ((kI 56) * q36))), (3, vI v26), (2, vI v15), (1, vR v3), (0, vR t)]) (st' := []) rfl ?_
  refine j_let (v := ((kI 64) + ((kI 56) * q36))) (lv := fun v37 => [(4, vI v37), (3, vI v26), (2, vI v15), (1, vR v3), (0, vR t)]) (st := fun _ => []) (fun v37 => ?_)
  refine j_runA hx 5 (tb := [(131, .aload_n 0), (132, .iload 4), (134, .bipush 32), (136, .iadd), (137, .aload_n 0)]) (jtb_ok (by decide +kernel)) (pc' := 138) (lv' := [(4, vI v37), (3, vI v26), (2, vI v15), (1, vR v3), (0, vR t)]) (st' := [vR t, vI (v37 + (kI 32)), vR t]) rfl ?_
  refine j_gd (fun h38 => ?_)
  refine j_getI hx flX14_120 kd912 h38 (by decide) (by decide +kernel) ?_
  refine j_runA hx 2 (tb := [(141, .i2l), (142, .bipush 8)]) (jtb_ok (by decide +kernel)) (pc' := 144) (lv' := [(4, vI v37), (3, vI v26), (2, vI v15), (1, vR v3), (0, vR t)]) (st' := [vI (kI 8), vL ((jI q33 912 t).toInt64), vI (v37 + (kI 32)), vR t]) rfl ?_
  refine j_WV (j_callV (av := [vI (v37 + (kI 32)), vL ((jI q33 912 t).toInt64), vI (kI 8)]) (st := []) hx hr (Or.inl q1886) q1888 qs67 rfl md_fwr_set np_fwr_set (cwr_set t (v37 + (kI 32)) ((jI q33 912 t).toInt64) (kI 8) q33) (by decide) (Nat.le_of_ble_eq_true rfl) h38 (by decide) (by decide +kernel)) (fun q39 _ => ?_)
  refine j_runA hx 5 (tb := [(147, .aload_n 0), (148, .iload 4), (150, .bipush 40), (152, .iadd), (153, .aload_n 0)]) (jtb_ok (by decide +kernel)) (pc' := 154) (lv' := [(4, vI v37), (3, vI v26), (2, vI v15), (1, vR v3), (0, vR t)]) (st' := [vR t, vI (v37 + (kI 40)), vR t]) rfl ?_
  refine j_gd (fun h41 => ?_)
  refine j_getI hx flX14_120 kd912 h41 (by decide) (by decide +kernel) ?_
  refine j_runA hx 2 (tb := [(157, .i2l), (158, .bipush 8)]) (jtb_ok (by decide +kernel)) (pc' := 160) (lv' := [(4, vI v37), (3, vI v26), (2, vI v15), (1, vR v3), (0, vR t)]) (st' := [vI (kI 8), vL ((jI q39 912 t).toInt64), vI (v37 + (kI 40)), vR t]) rfl ?_
  refine j_WV (j_callV (av := [vI (v37 + (kI 40)), vL ((jI q39 912 t).toInt64), vI (kI 8)]) (st := []) hx hr (Or.inl q1886) q1888 qs67 rfl md_fwr_set np_fwr_set (cwr_set t (v37 + (kI 40)) ((jI q39 912 t).toInt64) (kI 8) q39) (by decide) (Nat.le_of_ble_eq_true rfl) h41 (by decide) (by decide +kernel)) (fun q42 _ => ?_)
  refine j_runA hx 2 (tb := [(163, .iconst 1), (164, .istore 5)]) (jtb_ok (by decide +kernel)) (pc' := 166) (lv' := [(5, vI (kI 1)), (4, vI v37), (3, vI v26), (2, vI v15), (1, vR v3), (0, vR t)]) (st' := []) rfl ?_
  refine j_lv (lv' := [(0, vR t), (1, vR v3), (3, vI v26), (5, vI (kI 1))]) ⟨rfl, rfl, rfl, rfl, trivial⟩ ?_
  exact k166 v3 v26 (kI 1) q42
theorem cwr_file (t : Nat) (W : jW) : jM yX14_file cX14_file 7 (Option.none : Option Jvm.ClassFile.FieldType) [] 9 133 [vR t] W ((fwr_file t W).bind (fun q => some (.returned none, q))) := by
  refine jM.of (Nat.le_of_ble_eq_true rfl) (fun x hx hm hr => ?_)
  refine j_begin (P := (Sum.elim (fun s => (166, [(0, vR t), (1, vR s.1), (3, vI s.2.1), (5, vI s.2.2.1)], s.2.2.2)) (Sum.elim (fun s => (255, [(0, vR t), (1, vR s.1), (5, vI s.2.1)], s.2.2)) (Sum.elim (fun s => (307, [(0, vR t), (1, vR s.1), (5, vI s.2.1)], s.2.2)) (Sum.elim (fun s => (361, [(0, vR t), (1, vR s.1), (5, vI s.2.1)], s.2.2)) (fun s => (384, [(0, vR t), (1, vR s.1), (5, vI s.2.1), (6, vI s.2.2.1)], s.2.2.2))))))) (fun en he hk => ?_)
  have h : hwr_file x en t := ⟨hx, hm, hr, fun q => he _, fun l1 l3 l5 W => hk (.inl (l1, l3, l5, W)), fun l1 l5 W => hk (.inr (.inl (l1, l5, W))), fun l1 l5 W => hk (.inr (.inr (.inl (l1, l5, W)))), fun l1 l5 W => hk (.inr (.inr (.inr (.inl (l1, l5, W))))), fun l1 l5 l6 W => hk (.inr (.inr (.inr (.inr (l1, l5, l6, W)))))⟩
  refine ⟨fun s => ?_, wwr_file h W⟩
  rcases s with s | s | s | s | s
  · exact wwr_file_166 h s.1 s.2.1 s.2.2.1 s.2.2.2
  · exact wwr_file_255 h s.1 s.2.1 s.2.2
  · exact wwr_file_307 h s.1 s.2.1 s.2.2
  · exact wwr_file_361 h s.1 s.2.1 s.2.2
  · exact wwr_file_384 h s.1 s.2.1 s.2.2.1 s.2.2.2
def hwr_write (x : jCx) (en : (fwr_write_S ⊕ (jW)) → Option (Outcome × jW)) (t : Nat) (a1 : Nat) (a2 : Int32) (a3 : Int32) : Prop :=
  jOK x RX14 cX14_write 6 ∧
  jMt x "write" (Option.none : Option Jvm.ClassFile.FieldType) [] ∧
  jRm x 12 170 ∧
  (∀ q : jW, en (.inr q) = some (.returned none, q)) ∧
  (∀ (l4 : Int32) (W : jW), jJ x 6 71 [(0, vR t), (1, vR a1), (2, vI a2), (3, vI a3), (4, vI l4)] [] W (some (.inl (.inl (l4, W)))) en) ∧
  (∀ (l4 : Int32) (W : jW), jJ x 6 153 [(0, vR t), (1, vR a1), (2, vI a2), (3, vI a3), (4, vI l4)] [] W (some (.inl (.inr (.inl (l4, W))))) en) ∧
  (∀ (l4 : Int32) (l5 : Int32) (W : jW), jJ x 6 164 [(0, vR t), (1, vR a1), (2, vI a2), (3, vI a3), (4, vI l4), (5, vI l5)] [] W (some (.inl (.inr (.inr (.inl (l4, l5, W)))))) en) ∧
  (∀ (l4 : Int32) (l5 : Int32) (W : jW), jJ x 6 204 [(0, vR t), (1, vR a1), (2, vI a2), (3, vI a3), (4, vI l4), (5, vI l5)] [] W (some (.inl (.inr (.inr (.inr (l4, l5, W)))))) en)
theorem wwr_write_126 {x : jCx} {en : (fwr_write_S ⊕ (jW)) → Option (Outcome × jW)} {t : Nat} {a1 : Nat} {a2 : Int32} {a3 : Int32} (h : hwr_write x en t a1 a2 a3) (l4 : Int32) (s0 : Int32) (s1 : Int32) (s2 : Nat) (W : jW) : jJ x 6 126 [(0, vR t), (1, vR a1), (2, vI a2), (3, vI a3), (4, vI l4)] [vI s0, vI s1, vR s2] W (fwr_write_126 t a1 a2 a3 l4 s0 s1 s2 W) en := by
  have h0 := h
  obtain ⟨hx, hm, hr, he, k71, k153, k164, k204⟩ := h0
  unfold fwr_write_126
  refine j_gd (fun h51 => ?_)
  refine j_gd (fun h52 => ?_)
  refine j_iast hx (f := 906) (o := t) kd906 h51 (by decide +kernel) h52 ?_
  refine j_ltw rfl (fun W53 hc54 => ?_)
  refine j_runA hx 1 (tb := [(127, .aload_n 0)]) (jtb_ok (by decide +kernel)) (pc' := 128) (lv' := [(0, vR t), (1, vR a1), (2, vI a2), (3, vI a3), (4, vI l4)]) (st' := [vR t]) rfl ?_
  refine j_gd (fun h56 => ?_)
  refine j_getR hx flX14_18 kl907 h56 (by decide) (by decide +kernel) ?_
  refine j_runA hx 1 (tb := [(131, .aload_n 0)]) (jtb_ok (by decide +kernel)) (pc' := 132) (lv' := [(0, vR t), (1, vR a1), (2, vI a2), (3, vI a3), (4, vI l4)]) (st' := [vR t, vR (jR W53 907 t)]) rfl ?_
  refine j_getR hx flX14_34 kl901 h56 (by decide) (by decide +kernel) ?_
  refine j_runA hx 1 (tb := [(135, .iload 4)]) (jtb_ok (by decide +kernel)) (pc' := 137) (lv' := [(0, vR t), (1, vR a1), (2, vI a2), (3, vI a3), (4, vI l4)]) (st' := [vI l4, vR (jR W53 901 t), vR (jR W53 907 t)]) rfl ?_
  refine j_gd (fun h57 => ?_)
  refine j_gd (fun h58 => ?_)
  refine j_iald hx (f := 9003) (o := (jR W53 901 t)) kd9003 h57 (by decide +kernel) h58 ?_
  refine j_runA hx 1 (tb := [(138, .iconst 0)]) (jtb_ok (by decide +kernel)) (pc' := 139) (lv' := [(0, vR t), (1, vR a1), (2, vI a2), (3, vI a3), (4, vI l4)]) (st' := [vI (kI 0), vI (jA W53 9003 (jR W53 901 t) (ix l4)), vR (jR W53 907 t)]) rfl ?_
  refine j_gd (fun h59 => ?_)
  refine j_zast hx (f := 907) (o := t) kd907 rfl (by decide +kernel) h59 ?_
  refine j_ltw rfl (fun W60 hc61 => ?_)
  have h62 : jC W60 t = 9 := (congrFun hc61 _).trans h56
  refine j_runA hx 1 (tb := [(140, .iinc 4 1)]) (jtb_ok (by decide +kernel)) (pc' := 143) (lv' := [(4, vI (l4 + (kI 1))), (0, vR t), (1, vR a1), (2, vI a2), (3, vI a3)]) (st' := []) rfl ?_
  refine j_let (v := (l4 + (kI 1))) (lv := fun v64 => [(4, vI v64), (0, vR t), (1, vR a1), (2, vI a2), (3, vI a3)]) (st := fun _ => []) (fun v64 => ?_)
  refine j_goto hx (off := -72) (by decide +kernel) (tgt := 71) (by decide) ?_
  refine j_lv (lv' := [(0, vR t), (1, vR a1), (2, vI a2), (3, vI a3), (4, vI v64)]) ⟨rfl, rfl, rfl, rfl, rfl, trivial⟩ ?_
  exact k71 v64 W60
theorem wwr_write_125 {x : jCx} {en : (fwr_write_S ⊕ (jW)) → Option (Outcome × jW)} {t : Nat} {a1 : Nat} {a2 : Int32} {a3 : Int32} (h : hwr_write x en t a1 a2 a3) (l4 : Int32) (s0 : Int32) (s1 : Nat) (W : jW) : jJ x 6 125 [(0, vR t), (1, vR a1), (2, vI a2), (3, vI a3), (4, vI l4)] [vI s0, vR s1] W (fwr_write_125 t a1 a2 a3 l4 s0 s1 W) en := by
  have h0 := h
  obtain ⟨hx, hm, hr, he, k71, k153, k164, k204⟩ := h0
  unfold fwr_write_125
  refine j_runA hx 1 (tb := [(125, .iconst (-1))]) (jtb_ok (by decide +kernel)) (pc' := 126) (lv' := [(0, vR t), (1, vR a1), (2, vI a2), (3, vI a3), (4, vI l4)]) (st' := [vI (kI (-1)), vI s0, vR s1]) rfl ?_
  exact wwr_write_126 h l4 (kI (-1)) s0 s1 W
theorem wwr_write_195 {x : jCx} {en : (fwr_write_S ⊕ (jW)) → Option (Outcome × jW)} {t : Nat} {a1 : Nat} {a2 : Int32} {a3 : Int32} (h : hwr_write x en t a1 a2 a3) (l4 : Int32) (l5 : Int32) (W : jW) : jJ x 6 195 [(0, vR t), (1, vR a1), (2, vI a2), (3, vI a3), (4, vI l4), (5, vI l5)] [] W (fwr_write_195 t a1 a2 a3 l4 l5 W) en := by
  have h0 := h
  obtain ⟨hx, hm, hr, he, k71, k153, k164, k204⟩ := h0
  unfold fwr_write_195
  refine j_runA hx 1 (tb := [(195, .iinc 5 1)]) (jtb_ok (by decide +kernel)) (pc' := 198) (lv' := [(5, vI (l5 + (kI 1))), (0, vR t), (1, vR a1), (2, vI a2), (3, vI a3), (4, vI l4)]) (st' := []) rfl ?_
  refine j_let (v := (l5 + (kI 1))) (lv := fun v79 => [(5, vI v79), (0, vR t), (1, vR a1), (2, vI a2), (3, vI a3), (4, vI l4)]) (st := fun _ => []) (fun v79 => ?_)
  refine j_goto hx (off := -34) (by decide +kernel) (tgt := 164) (by decide) ?_
  refine j_lv (lv' := [(0, vR t), (1, vR a1), (2, vI a2), (3, vI a3), (4, vI l4), (5, vI v79)]) ⟨rfl, rfl, rfl, rfl, rfl, rfl, trivial⟩ ?_
  exact k164 l4 v79 W
theorem wwr_write_235 {x : jCx} {en : (fwr_write_S ⊕ (jW)) → Option (Outcome × jW)} {t : Nat} {a1 : Nat} {a2 : Int32} {a3 : Int32} (h : hwr_write x en t a1 a2 a3) (l4 : Int32) (l5 : Int32) (W : jW) : jJ x 6 235 [(0, vR t), (1, vR a1), (2, vI a2), (3, vI a3), (4, vI l4), (5, vI l5)] [] W (fwr_write_235 t a1 a2 a3 l4 l5 W) en := by
  have h0 := h
  obtain ⟨hx, hm, hr, he, k71, k153, k164, k204⟩ := h0
  unfold fwr_write_235
  refine j_runA hx 1 (tb := [(235, .iinc 5 1)]) (jtb_ok (by decide +kernel)) (pc' := 238) (lv' := [(5, vI (l5 + (kI 1))), (0, vR t), (1, vR a1), (2, vI a2), (3, vI a3), (4, vI l4)]) (st' := []) rfl ?_
  refine j_let (v := (l5 + (kI 1))) (lv := fun v89 => [(5, vI v89), (0, vR t), (1, vR a1), (2, vI a2), (3, vI a3), (4, vI l4)]) (st := fun _ => []) (fun v89 => ?_)
  refine j_goto hx (off := -34) (by decide +kernel) (tgt := 204) (by decide) ?_
  refine j_lv (lv' := [(0, vR t), (1, vR a1), (2, vI a2), (3, vI a3), (4, vI l4), (5, vI v89)]) ⟨rfl, rfl, rfl, rfl, rfl, rfl, trivial⟩ ?_
  exact k204 l4 v89 W
theorem wwr_write_241 {x : jCx} {en : (fwr_write_S ⊕ (jW)) → Option (Outcome × jW)} {t : Nat} {a1 : Nat} {a2 : Int32} {a3 : Int32} (h : hwr_write x en t a1 a2 a3) (l4 : Int32) (W : jW) : jJ x 6 241 [(0, vR t), (1, vR a1), (2, vI a2), (3, vI a3), (4, vI l4)] [] W (fwr_write_241 t a1 a2 a3 l4 W) en := by
  have h0 := h
  obtain ⟨hx, hm, hr, he, k71, k153, k164, k204⟩ := h0
  unfold fwr_write_241
  refine j_runA hx 1 (tb := [(241, .iload 4)]) (jtb_ok (by decide +kernel)) (pc' := 243) (lv' := [(0, vR t), (1, vR a1), (2, vI a2), (3, vI a3), (4, vI l4)]) (st' := [vI l4]) rfl ?_
  refine j_if_eq hx (off := -90) (tgt := 153) (by decide +kernel) (by decide) (fun _ => ?_) (fun _ => ?_)
  · exact k153 l4 W
  refine j_runA hx 1 (tb := [(246, .aload_n 0)]) (jtb_ok (by decide +kernel)) (pc' := 247) (lv' := [(0, vR t), (1, vR a1), (2, vI a2), (3, vI a3), (4, vI l4)]) (st' := [vR t]) rfl ?_
  refine j_gd (fun h91 => ?_)
  refine j_WV (j_callV (av := []) (st := []) hx hr (Or.inl q1784) q1786 qs52 rfl md_fwr_place np_fwr_place (cwr_place t W) (by decide) (Nat.le_of_ble_eq_true rfl) h91 (by decide) (by decide +kernel)) (fun q92 _ => ?_)
  refine j_goto hx (off := -97) (by decide +kernel) (tgt := 153) (by decide) ?_
  exact k153 l4 q92
theorem wwr_write_204 {x : jCx} {en : (fwr_write_S ⊕ (jW)) → Option (Outcome × jW)} {t : Nat} {a1 : Nat} {a2 : Int32} {a3 : Int32} (h : hwr_write x en t a1 a2 a3) (l4 : Int32) (l5 : Int32) (W : jW) : jJ x 6 204 [(0, vR t), (1, vR a1), (2, vI a2), (3, vI a3), (4, vI l4), (5, vI l5)] [] W (fwr_write_204 t a1 a2 a3 l4 l5 W) en := by
  have h0 := h
  obtain ⟨hx, hm, hr, he, k71, k153, k164, k204⟩ := h0
  unfold fwr_write_204
  refine j_runA hx 2 (tb := [(204, .iload 5), (206, .aload_n 0)]) (jtb_ok (by decide +kernel)) (pc' := 207) (lv' := [(0, vR t), (1, vR a1), (2, vI a2), (3, vI a3), (4, vI l4), (5, vI l5)]) (st' := [vR t, vI l5]) rfl ?_
  refine j_gd (fun h81 => ?_)
  refine j_getI hx flX14_43 kd902 h81 (by decide) (by decide +kernel) ?_
  refine j_icmp_ge hx (off := 31) (tgt := 241) (by decide +kernel) (by decide) (fun _ => ?_) (fun _ => ?_)
  · refine j_lv (lv' := [(0, vR t), (1, vR a1), (2, vI a2), (3, vI a3), (4, vI l4)]) ⟨rfl, rfl, rfl, rfl, rfl, trivial⟩ ?_
    exact wwr_write_241 h l4 W
  refine j_runA hx 1 (tb := [(213, .iload 4)]) (jtb_ok (by decide +kernel)) (pc' := 215) (lv' := [(0, vR t), (1, vR a1), (2, vI a2), (3, vI a3), (4, vI l4), (5, vI l5)]) (st' := [vI l4]) rfl ?_
  refine j_if_eq hx (off := 26) (tgt := 241) (by decide +kernel) (by decide) (fun _ => ?_) (fun _ => ?_)
  · refine j_lv (lv' := [(0, vR t), (1, vR a1), (2, vI a2), (3, vI a3), (4, vI l4)]) ⟨rfl, rfl, rfl, rfl, rfl, trivial⟩ ?_
    exact wwr_write_241 h l4 W
  refine j_runA hx 2 (tb := [(218, .aload_n 0), (219, .iload 5)]) (jtb_ok (by decide +kernel)) (pc' := 221) (lv' := [(0, vR t), (1, vR a1), (2, vI a2), (3, vI a3), (4, vI l4), (5, vI l5)]) (st' := [vI l5, vR t]) rfl ?_
  refine j_OI (j_callV (av := [vI l5]) (st := []) hx hr (Or.inl q1807) q1809 qs57 rfl md_fwr_reaches np_fwr_reaches (cwr_reaches t l5 W) (by decide) (Nat.le_of_ble_eq_true rfl) h81 (by decide) (by decide +kernel)) (fun q82 _ => ?_)
  refine j_if_ne hx (off := 11) (tgt := 235) (by decide +kernel) (by decide) (fun _ => ?_) (fun _ => ?_)
  · exact wwr_write_235 h l4 l5 W
  refine j_runA hx 1 (tb := [(227, .aload_n 0)]) (jtb_ok (by decide +kernel)) (pc' := 228) (lv' := [(0, vR t), (1, vR a1), (2, vI a2), (3, vI a3), (4, vI l4), (5, vI l5)]) (st' := [vR t]) rfl ?_
  refine j_getR hx flX14_18 kl907 h81 (by decide) (by decide +kernel) ?_
  refine j_runA hx 2 (tb := [(231, .iload 5), (233, .iconst 1)]) (jtb_ok (by decide +kernel)) (pc' := 234) (lv' := [(0, vR t), (1, vR a1), (2, vI a2), (3, vI a3), (4, vI l4), (5, vI l5)]) (st' := [vI (kI 1), vI l5, vR (jR W 907 t)]) rfl ?_
  refine j_gd (fun h83 => ?_)
  refine j_zast hx (f := 907) (o := t) kd907 rfl (by decide +kernel) h83 ?_
  refine j_ltw rfl (fun W84 hc85 => ?_)
  have h86 : jC W84 t = 9 := (congrFun hc85 _).trans h81
  exact wwr_write_235 h l4 l5 W84
theorem wwr_write_164 {x : jCx} {en : (fwr_write_S ⊕ (jW)) → Option (Outcome × jW)} {t : Nat} {a1 : Nat} {a2 : Int32} {a3 : Int32} (h : hwr_write x en t a1 a2 a3) (l4 : Int32) (l5 : Int32) (W : jW) : jJ x 6 164 [(0, vR t), (1, vR a1), (2, vI a2), (3, vI a3), (4, vI l4), (5, vI l5)] [] W (fwr_write_164 t a1 a2 a3 l4 l5 W) en := by
  have h0 := h
  obtain ⟨hx, hm, hr, he, k71, k153, k164, k204⟩ := h0
  unfold fwr_write_164
  refine j_runA hx 2 (tb := [(164, .iload 5), (166, .aload_n 0)]) (jtb_ok (by decide +kernel)) (pc' := 167) (lv' := [(0, vR t), (1, vR a1), (2, vI a2), (3, vI a3), (4, vI l4), (5, vI l5)]) (st' := [vR t, vI l5]) rfl ?_
  refine j_gd (fun h75 => ?_)
  refine j_getI hx flX14_43 kd902 h75 (by decide) (by decide +kernel) ?_
  refine j_icmp_ge hx (off := 31) (tgt := 201) (by decide +kernel) (by decide) (fun _ => ?_) (fun _ => ?_)
  · refine j_runA hx 2 (tb := [(201, .iconst 0), (202, .istore 5)]) (jtb_ok (by decide +kernel)) (pc' := 204) (lv' := [(5, vI (kI 0)), (0, vR t), (1, vR a1), (2, vI a2), (3, vI a3), (4, vI l4)]) (st' := []) rfl ?_
    refine j_lv (lv' := [(0, vR t), (1, vR a1), (2, vI a2), (3, vI a3), (4, vI l4), (5, vI (kI 0))]) ⟨rfl, rfl, rfl, rfl, rfl, rfl, trivial⟩ ?_
    exact k204 l4 (kI 0) W
  refine j_runA hx 1 (tb := [(173, .aload_n 0)]) (jtb_ok (by decide +kernel)) (pc' := 174) (lv' := [(0, vR t), (1, vR a1), (2, vI a2), (3, vI a3), (4, vI l4), (5, vI l5)]) (st' := [vR t]) rfl ?_
  refine j_getR hx flX14_18 kl907 h75 (by decide) (by decide +kernel) ?_
  refine j_runA hx 1 (tb := [(177, .iload 5)]) (jtb_ok (by decide +kernel)) (pc' := 179) (lv' := [(0, vR t), (1, vR a1), (2, vI a2), (3, vI a3), (4, vI l4), (5, vI l5)]) (st' := [vI l5, vR (jR W 907 t)]) rfl ?_
  refine j_gd (fun h76 => ?_)
  refine j_zald hx (f := 907) (o := t) kd907 rfl (by decide +kernel) h76 ?_
  refine j_if_ne hx (off := 15) (tgt := 195) (by decide +kernel) (by decide) (fun _ => ?_) (fun _ => ?_)
  · exact wwr_write_195 h l4 l5 W
  refine j_runA hx 2 (tb := [(183, .aload_n 0), (184, .iload 5)]) (jtb_ok (by decide +kernel)) (pc' := 186) (lv' := [(0, vR t), (1, vR a1), (2, vI a2), (3, vI a3), (4, vI l4), (5, vI l5)]) (st' := [vI l5, vR t]) rfl ?_
  refine j_OI (j_callV (av := [vI l5]) (st := []) hx hr (Or.inl q1807) q1809 qs57 rfl md_fwr_reaches np_fwr_reaches (cwr_reaches t l5 W) (by decide) (Nat.le_of_ble_eq_true rfl) h75 (by decide) (by decide +kernel)) (fun q77 _ => ?_)
  refine j_if_ne hx (off := 6) (tgt := 195) (by decide +kernel) (by decide) (fun _ => ?_) (fun _ => ?_)
  · exact wwr_write_195 h l4 l5 W
  refine j_runA hx 2 (tb := [(192, .iconst 1), (193, .istore 4)]) (jtb_ok (by decide +kernel)) (pc' := 195) (lv' := [(4, vI (kI 1)), (0, vR t), (1, vR a1), (2, vI a2), (3, vI a3), (5, vI l5)]) (st' := []) rfl ?_
  refine j_lv (lv' := [(0, vR t), (1, vR a1), (2, vI a2), (3, vI a3), (4, vI (kI 1)), (5, vI l5)]) ⟨rfl, rfl, rfl, rfl, rfl, rfl, trivial⟩ ?_
  exact wwr_write_195 h (kI 1) l5 W
theorem wwr_write_283 {x : jCx} {en : (fwr_write_S ⊕ (jW)) → Option (Outcome × jW)} {t : Nat} {a1 : Nat} {a2 : Int32} {a3 : Int32} (h : hwr_write x en t a1 a2 a3) (W : jW) : jJ x 6 283 [(0, vR t), (1, vR a1), (2, vI a2), (3, vI a3)] [] W (fwr_write_283 t a1 a2 a3 W) en := by
  have h0 := h
  obtain ⟨hx, hm, hr, he, k71, k153, k164, k204⟩ := h0
  unfold fwr_write_283
  refine j_runA hx 1 (tb := [(283, .aload_n 0)]) (jtb_ok (by decide +kernel)) (pc' := 284) (lv' := [(0, vR t), (1, vR a1), (2, vI a2), (3, vI a3)]) (st' := [vR t]) rfl ?_
  refine j_gd (fun h95 => ?_)
  refine j_WV (j_callV (av := []) (st := []) hx hr (Or.inl q1824) q1826 qs60 rfl md_fwr_emitAll np_fwr_emitAll (cwr_emitAll t W) (by decide) (Nat.le_of_ble_eq_true rfl) h95 (by decide) (by decide +kernel)) (fun q96 _ => ?_)
  refine j_runA hx 1 (tb := [(287, .aload_n 0)]) (jtb_ok (by decide +kernel)) (pc' := 288) (lv' := [(0, vR t), (1, vR a1), (2, vI a2), (3, vI a3)]) (st' := [vR t]) rfl ?_
  refine j_gd (fun h98 => ?_)
  refine j_WV (j_callV (av := []) (st := []) hx hr (Or.inl q1880) q1882 qs66 rfl md_fwr_file np_fwr_file (cwr_file t q96) (by decide) (Nat.le_of_ble_eq_true rfl) h98 (by decide) (by decide +kernel)) (fun q99 _ => ?_)
  exact j_vret hx hm (by decide +kernel) (he _)
theorem wwr_write_153 {x : jCx} {en : (fwr_write_S ⊕ (jW)) → Option (Outcome × jW)} {t : Nat} {a1 : Nat} {a2 : Int32} {a3 : Int32} (h : hwr_write x en t a1 a2 a3) (l4 : Int32) (W : jW) : jJ x 6 153 [(0, vR t), (1, vR a1), (2, vI a2), (3, vI a3), (4, vI l4)] [] W (fwr_write_153 t a1 a2 a3 l4 W) en := by
  have h0 := h
  obtain ⟨hx, hm, hr, he, k71, k153, k164, k204⟩ := h0
  unfold fwr_write_153
  refine j_runA hx 1 (tb := [(153, .iload 4)]) (jtb_ok (by decide +kernel)) (pc' := 155) (lv' := [(0, vR t), (1, vR a1), (2, vI a2), (3, vI a3), (4, vI l4)]) (st' := [vI l4]) rfl ?_
  refine j_if_eq hx (off := 98) (tgt := 253) (by decide +kernel) (by decide) (fun _ => ?_) (fun _ => ?_)
  · refine j_runA hx 1 (tb := [(253, .aload_n 0)]) (jtb_ok (by decide +kernel)) (pc' := 254) (lv' := [(0, vR t), (1, vR a1), (2, vI a2), (3, vI a3), (4, vI l4)]) (st' := [vR t]) rfl ?_
    refine j_gd (fun h67 => ?_)
    refine j_getR hx flX14_22 kl908 h67 (by decide) (by decide +kernel) ?_
    refine j_gd (fun h68 => ?_)
    refine j_alen hx (f := 908) (o := t) kg908 kh908 rfl (by decide +kernel) h68 ?_
    refine j_runA hx 1 (tb := [(258, .aload_n 0)]) (jtb_ok (by decide +kernel)) (pc' := 259) (lv' := [(0, vR t), (1, vR a1), (2, vI a2), (3, vI a3), (4, vI l4)]) (st' := [vR t, vI (nI (jN W 908 t))]) rfl ?_
    refine j_getI hx flX14_59 kd909 h67 (by decide) (by decide +kernel) ?_
    refine j_icmp_ge hx (off := 21) (tgt := 283) (by decide +kernel) (by decide) (fun _ => ?_) (fun _ => ?_)
    · refine j_lv (lv' := [(0, vR t), (1, vR a1), (2, vI a2), (3, vI a3)]) ⟨rfl, rfl, rfl, rfl, trivial⟩ ?_
      exact wwr_write_283 h W
    refine j_runA hx 2 (tb := [(265, .aload_n 0), (266, .aload_n 0)]) (jtb_ok (by decide +kernel)) (pc' := 267) (lv' := [(0, vR t), (1, vR a1), (2, vI a2), (3, vI a3), (4, vI l4)]) (st' := [vR t, vR t]) rfl ?_
    refine j_getI hx flX14_59 kd909 h67 (by decide) (by decide +kernel) ?_
    refine j_runA hx 1 (tb := [(270, .aload_n 0)]) (jtb_ok (by decide +kernel)) (pc' := 271) (lv' := [(0, vR t), (1, vR a1), (2, vI a2), (3, vI a3), (4, vI l4)]) (st' := [vR t, vI (jI W 909 t), vR t]) rfl ?_
    refine j_getI hx flX14_59 kd909 h67 (by decide) (by decide +kernel) ?_
    refine j_runA hx 1 (tb := [(274, .bipush 8)]) (jtb_ok (by decide +kernel)) (pc' := 276) (lv' := [(0, vR t), (1, vR a1), (2, vI a2), (3, vI a3), (4, vI l4)]) (st' := [vI (kI 8), vI (jI W 909 t), vI (jI W 909 t), vR t]) rfl ?_
    refine j_idiv hx (by decide +kernel) (by decide +kernel) ?_
    refine j_runA hx 1 (tb := [(277, .iadd)]) (jtb_ok (by decide +kernel)) (pc' := 278) (lv' := [(0, vR t), (1, vR a1), (2, vI a2), (3, vI a3), (4, vI l4)]) (st' := [vI ((jI W 909 t) + ((jI W 909 t) / (kI 8))), vR t]) rfl ?_
    refine j_gd (fun h69 => ?_)
    refine j_nwA hx fwX14_22 wf908 ka908 ja908_3 h67 (by decide) nr908 fr908 (by decide +kernel) (by decide +kernel) h69 ?_
    refine j_ltw rfl (fun W70 hc71 => ?_)
    have h72 : jC W70 t = 9 := (congrFun hc71 _).trans h67
    refine j_lv (lv' := [(0, vR t), (1, vR a1), (2, vI a2), (3, vI a3)]) ⟨rfl, rfl, rfl, rfl, trivial⟩ ?_
    exact wwr_write_283 h W70
  refine j_runA hx 4 (tb := [(158, .iconst 0), (159, .istore 4), (161, .iconst 0), (162, .istore 5)]) (jtb_ok (by decide +kernel)) (pc' := 164) (lv' := [(5, vI (kI 0)), (4, vI (kI 0)), (0, vR t), (1, vR a1), (2, vI a2), (3, vI a3)]) (st' := []) rfl ?_
  refine j_lv (lv' := [(0, vR t), (1, vR a1), (2, vI a2), (3, vI a3), (4, vI (kI 0)), (5, vI (kI 0))]) ⟨rfl, rfl, rfl, rfl, rfl, rfl, trivial⟩ ?_
  exact k164 (kI 0) (kI 0) W
theorem wwr_write_71 {x : jCx} {en : (fwr_write_S ⊕ (jW)) → Option (Outcome × jW)} {t : Nat} {a1 : Nat} {a2 : Int32} {a3 : Int32} (h : hwr_write x en t a1 a2 a3) (l4 : Int32) (W : jW) : jJ x 6 71 [(0, vR t), (1, vR a1), (2, vI a2), (3, vI a3), (4, vI l4)] [] W (fwr_write_71 t a1 a2 a3 l4 W) en := by
  have h0 := h
  obtain ⟨hx, hm, hr, he, k71, k153, k164, k204⟩ := h0
  unfold fwr_write_71
  refine j_runA hx 2 (tb := [(71, .iload 4), (73, .aload_n 0)]) (jtb_ok (by decide +kernel)) (pc' := 74) (lv' := [(0, vR t), (1, vR a1), (2, vI a2), (3, vI a3), (4, vI l4)]) (st' := [vR t, vI l4]) rfl ?_
  refine j_gd (fun h43 => ?_)
  refine j_getI hx flX14_43 kd902 h43 (by decide) (by decide +kernel) ?_
  refine j_icmp_ge hx (off := 69) (tgt := 146) (by decide +kernel) (by decide) (fun _ => ?_) (fun _ => ?_)
  · refine j_runA hx 1 (tb := [(146, .aload_n 0)]) (jtb_ok (by decide +kernel)) (pc' := 147) (lv' := [(0, vR t), (1, vR a1), (2, vI a2), (3, vI a3), (4, vI l4)]) (st' := [vR t]) rfl ?_
    refine j_WV (j_callV (av := []) (st := []) hx hr (Or.inl q1784) q1786 qs52 rfl md_fwr_place np_fwr_place (cwr_place t W) (by decide) (Nat.le_of_ble_eq_true rfl) h43 (by decide) (by decide +kernel)) (fun q44 _ => ?_)
    refine j_runA hx 2 (tb := [(150, .iconst 1), (151, .istore 4)]) (jtb_ok (by decide +kernel)) (pc' := 153) (lv' := [(4, vI (kI 1)), (0, vR t), (1, vR a1), (2, vI a2), (3, vI a3)]) (st' := []) rfl ?_
    refine j_lv (lv' := [(0, vR t), (1, vR a1), (2, vI a2), (3, vI a3), (4, vI (kI 1))]) ⟨rfl, rfl, rfl, rfl, rfl, trivial⟩ ?_
    exact k153 (kI 1) q44
  refine j_runA hx 1 (tb := [(80, .aload_n 0)]) (jtb_ok (by decide +kernel)) (pc' := 81) (lv' := [(0, vR t), (1, vR a1), (2, vI a2), (3, vI a3), (4, vI l4)]) (st' := [vR t]) rfl ?_
  refine j_getR hx flX14_15 kl906 h43 (by decide) (by decide +kernel) ?_
  refine j_runA hx 1 (tb := [(84, .aload_n 0)]) (jtb_ok (by decide +kernel)) (pc' := 85) (lv' := [(0, vR t), (1, vR a1), (2, vI a2), (3, vI a3), (4, vI l4)]) (st' := [vR t, vR (jR W 906 t)]) rfl ?_
  refine j_getR hx flX14_34 kl901 h43 (by decide) (by decide +kernel) ?_
  refine j_runA hx 1 (tb := [(88, .iload 4)]) (jtb_ok (by decide +kernel)) (pc' := 90) (lv' := [(0, vR t), (1, vR a1), (2, vI a2), (3, vI a3), (4, vI l4)]) (st' := [vI l4, vR (jR W 901 t), vR (jR W 906 t)]) rfl ?_
  refine j_gd (fun h46 => ?_)
  refine j_gd (fun h47 => ?_)
  refine j_iald hx (f := 9003) (o := (jR W 901 t)) kd9003 h46 (by decide +kernel) h47 ?_
  refine j_runA hx 4 (tb := [(91, .iload 4), (93, .iconst 1), (94, .iadd), (95, .aload_n 0)]) (jtb_ok (by decide +kernel)) (pc' := 96) (lv' := [(0, vR t), (1, vR a1), (2, vI a2), (3, vI a3), (4, vI l4)]) (st' := [vR t, vI (l4 + (kI 1)), vI (jA W 9003 (jR W 901 t) (ix l4)), vR (jR W 906 t)]) rfl ?_
  refine j_getI hx flX14_43 kd902 h43 (by decide) (by decide +kernel) ?_
  refine j_icmp_ge hx (off := 26) (tgt := 125) (by decide +kernel) (by decide) (fun _ => ?_) (fun _ => ?_)
  · exact wwr_write_125 h l4 (jA W 9003 (jR W 901 t) (ix l4)) (jR W 906 t) W
  refine j_runA hx 4 (tb := [(102, .iload 4), (104, .iconst 1), (105, .iadd), (106, .aload_n 0)]) (jtb_ok (by decide +kernel)) (pc' := 107) (lv' := [(0, vR t), (1, vR a1), (2, vI a2), (3, vI a3), (4, vI l4)]) (st' := [vR t, vI (l4 + (kI 1)), vI (jA W 9003 (jR W 901 t) (ix l4)), vR (jR W 906 t)]) rfl ?_
  refine j_getI hx flX14_46 kd903 h43 (by decide) (by decide +kernel) ?_
  refine j_icmp_eq hx (off := 15) (tgt := 125) (by decide +kernel) (by decide) (fun _ => ?_) (fun _ => ?_)
  · exact wwr_write_125 h l4 (jA W 9003 (jR W 901 t) (ix l4)) (jR W 906 t) W
  refine j_runA hx 1 (tb := [(113, .aload_n 0)]) (jtb_ok (by decide +kernel)) (pc' := 114) (lv' := [(0, vR t), (1, vR a1), (2, vI a2), (3, vI a3), (4, vI l4)]) (st' := [vR t, vI (jA W 9003 (jR W 901 t) (ix l4)), vR (jR W 906 t)]) rfl ?_
  refine j_getR hx flX14_34 kl901 h43 (by decide) (by decide +kernel) ?_
  refine j_runA hx 3 (tb := [(117, .iload 4), (119, .iconst 1), (120, .iadd)]) (jtb_ok (by decide +kernel)) (pc' := 121) (lv' := [(0, vR t), (1, vR a1), (2, vI a2), (3, vI a3), (4, vI l4)]) (st' := [vI (l4 + (kI 1)), vR (jR W 901 t), vI (jA W 9003 (jR W 901 t) (ix l4)), vR (jR W 906 t)]) rfl ?_
  refine j_gd (fun h48 => ?_)
  refine j_gd (fun h49 => ?_)
  refine j_iald hx (f := 9003) (o := (jR W 901 t)) kd9003 h48 (by decide +kernel) h49 ?_
  refine j_goto hx (off := 4) (by decide +kernel) (tgt := 126) (by decide) ?_
  exact wwr_write_126 h l4 (jA W 9003 (jR W 901 t) (ix (l4 + (kI 1)))) (jA W 9003 (jR W 901 t) (ix l4)) (jR W 906 t) W
theorem wwr_write_68 {x : jCx} {en : (fwr_write_S ⊕ (jW)) → Option (Outcome × jW)} {t : Nat} {a1 : Nat} {a2 : Int32} {a3 : Int32} (h : hwr_write x en t a1 a2 a3) (W : jW) : jJ x 6 68 [(0, vR t), (1, vR a1), (2, vI a2), (3, vI a3)] [] W (fwr_write_68 t a1 a2 a3 W) en := by
  have h0 := h
  obtain ⟨hx, hm, hr, he, k71, k153, k164, k204⟩ := h0
  unfold fwr_write_68
  refine j_runA hx 2 (tb := [(68, .iconst 0), (69, .istore 4)]) (jtb_ok (by decide +kernel)) (pc' := 71) (lv' := [(4, vI (kI 0)), (0, vR t), (1, vR a1), (2, vI a2), (3, vI a3)]) (st' := []) rfl ?_
  refine j_lv (lv' := [(0, vR t), (1, vR a1), (2, vI a2), (3, vI a3), (4, vI (kI 0))]) ⟨rfl, rfl, rfl, rfl, rfl, trivial⟩ ?_
  exact k71 (kI 0) W
theorem wwr_write {x : jCx} {en : (fwr_write_S ⊕ (jW)) → Option (Outcome × jW)} {t : Nat} {a1 : Nat} {a2 : Int32} {a3 : Int32} (h : hwr_write x en t a1 a2 a3) (W : jW) : jJ x 6 0 [(0, vR t), (1, vR a1), (2, vI a2), (3, vI a3)] [] W (fwr_write_0 t a1 a2 a3 W) en := by
  have h0 := h
  obtain ⟨hx, hm, hr, he, k71, k153, k164, k204⟩ := h0
  unfold fwr_write_0
  refine j_runA hx 2 (tb := [(0, .aload_n 0), (1, .aload_n 1)]) (jtb_ok (by decide +kernel)) (pc' := 2) (lv' := [(0, vR t), (1, vR a1), (2, vI a2), (3, vI a3)]) (st' := [vR a1, vR t]) rfl ?_
  refine j_gd (fun h1 => ?_)
  refine j_putR hx fwX14_34 wf901 kd901 h1 (by decide) (by decide +kernel) nr901 fr901 ?_
  refine j_ltw rfl (fun W2 hc3 => ?_)
  have h4 : jC W2 t = 9 := (congrFun hc3 _).trans h1
  refine j_runA hx 2 (tb := [(5, .aload_n 0), (6, .aload_n 0)]) (jtb_ok (by decide +kernel)) (pc' := 7) (lv' := [(0, vR t), (1, vR a1), (2, vI a2), (3, vI a3)]) (st' := [vR t, vR t]) rfl ?_
  refine j_getR hx flX14_30 kl900 h4 (by decide) (by decide +kernel) ?_
  refine j_gd (fun h6 => ?_)
  refine j_getI hx flX14_37 kd217 h6 (by decide) (by decide +kernel) ?_
  refine j_putI hx fwX14_43 wf902 kd902 h4 (by decide) (by decide +kernel) (ni902 _) (fi902 _) ?_
  refine j_ltw rfl (fun W7 hc8 => ?_)
  have h9 : jC W7 t = 9 := (congrFun hc8 _).trans h4
  have h10 : jC W7 (jR W2 900 t) = 2 := (congrFun hc8 _).trans h6
  refine j_runA hx 2 (tb := [(16, .aload_n 0), (17, .iload_n 2)]) (jtb_ok (by decide +kernel)) (pc' := 18) (lv' := [(0, vR t), (1, vR a1), (2, vI a2), (3, vI a3)]) (st' := [vI a2, vR t]) rfl ?_
  refine j_putI hx fwX14_46 wf903 kd903 h9 (by decide) (by decide +kernel) (ni903 _) (fi903 _) ?_
  refine j_ltw rfl (fun W12 hc13 => ?_)
  have h14 : jC W12 t = 9 := (congrFun hc13 _).trans h9
  have h15 : jC W12 (jR W2 900 t) = 2 := (congrFun hc13 _).trans h10
  refine j_runA hx 2 (tb := [(21, .aload_n 0), (22, .iload_n 3)]) (jtb_ok (by decide +kernel)) (pc' := 23) (lv' := [(0, vR t), (1, vR a1), (2, vI a2), (3, vI a3)]) (st' := [vI a3, vR t]) rfl ?_
  refine j_putI hx fwX14_49 wf904 kd904 h14 (by decide) (by decide +kernel) (ni904 _) (fi904 _) ?_
  refine j_ltw rfl (fun W17 hc18 => ?_)
  have h19 : jC W17 t = 9 := (congrFun hc18 _).trans h14
  have h20 : jC W17 (jR W2 900 t) = 2 := (congrFun hc18 _).trans h15
  refine j_runA hx 1 (tb := [(26, .aload_n 0)]) (jtb_ok (by decide +kernel)) (pc' := 27) (lv' := [(0, vR t), (1, vR a1), (2, vI a2), (3, vI a3)]) (st' := [vR t]) rfl ?_
  refine j_getR hx flX14_9 kl905 h19 (by decide) (by decide +kernel) ?_
  refine j_gd (fun h22 => ?_)
  refine j_alen hx (f := 905) (o := t) kg905 kh905 rfl (by decide +kernel) h22 ?_
  refine j_runA hx 1 (tb := [(31, .aload_n 0)]) (jtb_ok (by decide +kernel)) (pc' := 32) (lv' := [(0, vR t), (1, vR a1), (2, vI a2), (3, vI a3)]) (st' := [vR t, vI (nI (jN W17 905 t))]) rfl ?_
  refine j_getI hx flX14_43 kd902 h19 (by decide) (by decide +kernel) ?_
  refine j_icmp_ge hx (off := 33) (tgt := 68) (by decide +kernel) (by decide) (fun _ => ?_) (fun _ => ?_)
  · exact wwr_write_68 h W17
  refine j_runA hx 2 (tb := [(38, .aload_n 0), (39, .aload_n 0)]) (jtb_ok (by decide +kernel)) (pc' := 40) (lv' := [(0, vR t), (1, vR a1), (2, vI a2), (3, vI a3)]) (st' := [vR t, vR t]) rfl ?_
  refine j_getI hx flX14_43 kd902 h19 (by decide) (by decide +kernel) ?_
  refine j_gd (fun h23 => ?_)
  refine j_nwA hx fwX14_9 wf905 ka905 ja905_3 h19 (by decide) nr905 fr905 (by decide +kernel) (by decide +kernel) h23 ?_
  refine j_ltw rfl (fun W24 hc25 => ?_)
  have h26 : jC W24 t = 9 := (congrFun hc25 _).trans h19
  have h27 : jC W24 (jR W2 900 t) = 2 := (congrFun hc25 _).trans h20
  refine j_runA hx 2 (tb := [(48, .aload_n 0), (49, .aload_n 0)]) (jtb_ok (by decide +kernel)) (pc' := 50) (lv' := [(0, vR t), (1, vR a1), (2, vI a2), (3, vI a3)]) (st' := [vR t, vR t]) rfl ?_
  refine j_getI hx flX14_43 kd902 h26 (by decide) (by decide +kernel) ?_
  refine j_gd (fun h29 => ?_)
  refine j_nwA hx fwX14_15 wf906 ka906 ja906_3 h26 (by decide) nr906 fr906 (by decide +kernel) (by decide +kernel) h29 ?_
  refine j_ltw rfl (fun W30 hc31 => ?_)
  have h32 : jC W30 t = 9 := (congrFun hc31 _).trans h26
  have h33 : jC W30 (jR W2 900 t) = 2 := (congrFun hc31 _).trans h27
  refine j_runA hx 2 (tb := [(58, .aload_n 0), (59, .aload_n 0)]) (jtb_ok (by decide +kernel)) (pc' := 60) (lv' := [(0, vR t), (1, vR a1), (2, vI a2), (3, vI a3)]) (st' := [vR t, vR t]) rfl ?_
  refine j_getI hx flX14_43 kd902 h32 (by decide) (by decide +kernel) ?_
  refine j_gd (fun h35 => ?_)
  refine j_nwA hx fwX14_18 wf907 ka907 ja907_5 h32 (by decide) nr907 fr907 (by decide +kernel) (by decide +kernel) h35 ?_
  refine j_ltw rfl (fun W36 hc37 => ?_)
  have h38 : jC W36 t = 9 := (congrFun hc37 _).trans h32
  have h39 : jC W36 (jR W2 900 t) = 2 := (congrFun hc37 _).trans h33
  exact wwr_write_68 h W36
theorem cwr_write (t : Nat) (a1 : Nat) (a2 : Int32) (a3 : Int32) (W : jW) : jM yX14_write cX14_write 6 (Option.none : Option Jvm.ClassFile.FieldType) [] 12 170 [vR t, vR a1, vI a2, vI a3] W ((fwr_write t a1 a2 a3 W).bind (fun q => some (.returned none, q))) := by
  refine jM.of (Nat.le_of_ble_eq_true rfl) (fun x hx hm hr => ?_)
  refine j_begin (P := (Sum.elim (fun s => (71, [(0, vR t), (1, vR a1), (2, vI a2), (3, vI a3), (4, vI s.1)], s.2)) (Sum.elim (fun s => (153, [(0, vR t), (1, vR a1), (2, vI a2), (3, vI a3), (4, vI s.1)], s.2)) (Sum.elim (fun s => (164, [(0, vR t), (1, vR a1), (2, vI a2), (3, vI a3), (4, vI s.1), (5, vI s.2.1)], s.2.2)) (fun s => (204, [(0, vR t), (1, vR a1), (2, vI a2), (3, vI a3), (4, vI s.1), (5, vI s.2.1)], s.2.2)))))) (fun en he hk => ?_)
  have h : hwr_write x en t a1 a2 a3 := ⟨hx, hm, hr, fun q => he _, fun l4 W => hk (.inl (l4, W)), fun l4 W => hk (.inr (.inl (l4, W))), fun l4 l5 W => hk (.inr (.inr (.inl (l4, l5, W)))), fun l4 l5 W => hk (.inr (.inr (.inr (l4, l5, W))))⟩
  refine ⟨fun s => ?_, wwr_write h W⟩
  rcases s with s | s | s | s
  · exact wwr_write_71 h s.1 s.2
  · exact wwr_write_153 h s.1 s.2
  · exact wwr_write_164 h s.1 s.2.1 s.2.2
  · exact wwr_write_204 h s.1 s.2.1 s.2.2
def hcl_lay (x : jCx) (en : (Int32 × jW) → Option (Outcome × jW)) (t : Nat) (a1 : Int32) (a2 : Int32) : Prop :=
  jOK x RX0 cX0_lay 3 ∧
  jMt x "lay" (Option.some Jvm.ClassFile.FieldType.int) [] ∧
  jRm x 13 187 ∧
  (∀ q : Int32 × jW, en q = some (.returned (some (.int q.1)), q.2))
theorem wcl_lay_42 {x : jCx} {en : (Int32 × jW) → Option (Outcome × jW)} {t : Nat} {a1 : Int32} {a2 : Int32} (h : hcl_lay x en t a1 a2) (W : jW) : jJ x 3 42 [(0, vR t), (1, vI a1), (2, vI a2)] [] W (fcl_lay_42 t a1 a2 W) en := by
  have h0 := h
  obtain ⟨hx, hm, hr, he⟩ := h0
  unfold fcl_lay_42
  refine j_runA hx 1 (tb := [(42, .iconst (-1))]) (jtb_ok (by decide +kernel)) (pc' := 43) (lv' := [(0, vR t), (1, vI a1), (2, vI a2)]) (st' := [vI (kI (-1))]) rfl ?_
  exact j_iret hx hm (by decide +kernel) rfl (he _)
theorem wcl_lay {x : jCx} {en : (Int32 × jW) → Option (Outcome × jW)} {t : Nat} {a1 : Int32} {a2 : Int32} (h : hcl_lay x en t a1 a2) (W : jW) : jJ x 3 0 [(0, vR t), (1, vI a1), (2, vI a2)] [] W (fcl_lay t a1 a2 W) en := by
  have h0 := h
  obtain ⟨hx, hm, hr, he⟩ := h0
  unfold fcl_lay
  refine j_runA hx 1 (tb := [(0, .aload_n 0)]) (jtb_ok (by decide +kernel)) (pc' := 1) (lv' := [(0, vR t), (1, vI a1), (2, vI a2)]) (st' := [vR t]) rfl ?_
  refine j_gd (fun h1 => ?_)
  refine j_getI hx flX0_128 kd106 h1 (by decide) (by decide +kernel) ?_
  refine j_if_ne hx (off := 6) (tgt := 10) (by decide +kernel) (by decide) (fun _ => ?_) (fun _ => ?_)
  · refine j_runA hx 2 (tb := [(10, .iload_n 1), (11, .iconst 4)]) (jtb_ok (by decide +kernel)) (pc' := 12) (lv' := [(0, vR t), (1, vI a1), (2, vI a2)]) (st' := [vI (kI 4), vI a1]) rfl ?_
    refine j_icmp_lt hx (off := 30) (tgt := 42) (by decide +kernel) (by decide) (fun _ => ?_) (fun _ => ?_)
    · exact wcl_lay_42 h W
    refine j_runA hx 1 (tb := [(15, .iload_n 1)]) (jtb_ok (by decide +kernel)) (pc' := 16) (lv' := [(0, vR t), (1, vI a1), (2, vI a2)]) (st' := [vI a1]) rfl ?_
    refine j_ldcw hx (v := (kI 65536)) (jkc q1690 (by decide +kernel)) (by decide +kernel) ?_
    refine j_icmp_gt hx (off := 23) (tgt := 42) (by decide +kernel) (by decide) (fun _ => ?_) (fun _ => ?_)
    · exact wcl_lay_42 h W
    refine j_runA hx 2 (tb := [(22, .iload_n 2), (23, .iconst 4)]) (jtb_ok (by decide +kernel)) (pc' := 24) (lv' := [(0, vR t), (1, vI a1), (2, vI a2)]) (st' := [vI (kI 4), vI a2]) rfl ?_
    refine j_icmp_lt hx (off := 18) (tgt := 42) (by decide +kernel) (by decide) (fun _ => ?_) (fun _ => ?_)
    · exact wcl_lay_42 h W
    refine j_runA hx 1 (tb := [(27, .iload_n 2)]) (jtb_ok (by decide +kernel)) (pc' := 28) (lv' := [(0, vR t), (1, vI a1), (2, vI a2)]) (st' := [vI a2]) rfl ?_
    refine j_ldcw hx (v := (kI 2097152)) (jkc q1691 (by decide +kernel)) (by decide +kernel) ?_
    refine j_icmp_gt hx (off := 11) (tgt := 42) (by decide +kernel) (by decide) (fun _ => ?_) (fun _ => ?_)
    · exact wcl_lay_42 h W
    refine j_runA hx 5 (tb := [(34, .iload_n 2), (35, .iload_n 2), (36, .iconst 1), (37, .isub), (38, .iand)]) (jtb_ok (by decide +kernel)) (pc' := 39) (lv' := [(0, vR t), (1, vI a1), (2, vI a2)]) (st' := [vI (a2 &&& (a2 - (kI 1)))]) rfl ?_
    refine j_if_eq hx (off := 5) (tgt := 44) (by decide +kernel) (by decide) (fun _ => ?_) (fun _ => ?_)
    · refine j_runA hx 1 (tb := [(44, .aload_n 0)]) (jtb_ok (by decide +kernel)) (pc' := 45) (lv' := [(0, vR t), (1, vI a1), (2, vI a2)]) (st' := [vR t]) rfl ?_
      refine j_WV (j_callV (av := []) (st := []) hx hr (Or.inl q1582) q1584 qs28 rfl md_fcl_counted np_fcl_counted (ccl_counted t W) (by decide) (Nat.le_of_ble_eq_true rfl) h1 (by decide) (by decide +kernel)) (fun q2 _ => ?_)
      refine j_runA hx 1 (tb := [(48, .aload_n 0)]) (jtb_ok (by decide +kernel)) (pc' := 49) (lv' := [(0, vR t), (1, vI a1), (2, vI a2)]) (st' := [vR t]) rfl ?_
      refine j_gd (fun h4 => ?_)
      refine j_getR hx flX0_171 kl111 h4 (by decide) (by decide +kernel) ?_
      refine j_runA hx 1 (tb := [(52, .iload_n 1)]) (jtb_ok (by decide +kernel)) (pc' := 53) (lv' := [(0, vR t), (1, vI a1), (2, vI a2)]) (st' := [vI a1, vR (jR q2 111 t)]) rfl ?_
      refine j_gd (fun h5 => ?_)
      refine j_WV (j_callV (av := [vI a1]) (st := []) hx hr (Or.inl q1692) q1693 q1694 rfl md_fog_lay np_fog_lay (cog_lay (jR q2 111 t) a1 q2) (by decide) (Nat.le_of_ble_eq_true rfl) h5 (by decide) (by decide +kernel)) (fun q6 _ => ?_)
      refine j_runA hx 1 (tb := [(56, .aload_n 0)]) (jtb_ok (by decide +kernel)) (pc' := 57) (lv' := [(0, vR t), (1, vI a1), (2, vI a2)]) (st' := [vR t]) rfl ?_
      refine j_gd (fun h8 => ?_)
      refine j_getR hx flX0_175 kl112 h8 (by decide) (by decide +kernel) ?_
      refine j_runA hx 1 (tb := [(60, .aload_n 0)]) (jtb_ok (by decide +kernel)) (pc' := 61) (lv' := [(0, vR t), (1, vI a1), (2, vI a2)]) (st' := [vR t, vR (jR q6 112 t)]) rfl ?_
      refine j_getR hx flX0_171 kl111 h8 (by decide) (by decide +kernel) ?_
      refine j_gd (fun h9 => ?_)
      refine j_getR hx flX0_304 kl804 h9 (by decide) (by decide +kernel) ?_
      refine j_runA hx 1 (tb := [(67, .aload_n 0)]) (jtb_ok (by decide +kernel)) (pc' := 68) (lv' := [(0, vR t), (1, vI a1), (2, vI a2)]) (st' := [vR t, vR (jR q6 804 (jR q6 111 t)), vR (jR q6 112 t)]) rfl ?_
      refine j_getR hx flX0_171 kl111 h8 (by decide) (by decide +kernel) ?_
      refine j_getI hx flX0_307 kd805 h9 (by decide) (by decide +kernel) ?_
      refine j_runA hx 1 (tb := [(74, .iload_n 2)]) (jtb_ok (by decide +kernel)) (pc' := 75) (lv' := [(0, vR t), (1, vI a1), (2, vI a2)]) (st' := [vI a2, vI (jI q6 805 (jR q6 111 t)), vR (jR q6 804 (jR q6 111 t)), vR (jR q6 112 t)]) rfl ?_
      refine j_gd (fun h10 => ?_)
      refine j_WV (j_callV (av := [vR (jR q6 804 (jR q6 111 t)), vI (jI q6 805 (jR q6 111 t)), vI a2]) (st := []) hx hr (Or.inl q1780) q1781 q1782 rfl md_fwr_write np_fwr_write (cwr_write (jR q6 112 t) (jR q6 804 (jR q6 111 t)) (jI q6 805 (jR q6 111 t)) a2 q6) (by decide) (Nat.le_of_ble_eq_true rfl) h10 (by decide) (by decide +kernel)) (fun q11 _ => ?_)
      refine j_runA hx 2 (tb := [(78, .aload_n 0), (79, .dup)]) (jtb_ok (by decide +kernel)) (pc' := 80) (lv' := [(0, vR t), (1, vI a1), (2, vI a2)]) (st' := [vR t, vR t]) rfl ?_
      refine j_gd (fun h13 => ?_)
      refine j_getI hx flX0_314 kd123 h13 (by decide) (by decide +kernel) ?_
      refine j_runA hx 1 (tb := [(83, .aload_n 0)]) (jtb_ok (by decide +kernel)) (pc' := 84) (lv' := [(0, vR t), (1, vI a1), (2, vI a2)]) (st' := [vR t, vI (jI q11 123 t), vR t]) rfl ?_
      refine j_getR hx flX0_175 kl112 h13 (by decide) (by decide +kernel) ?_
      refine j_gd (fun h14 => ?_)
      refine j_getI hx flX0_317 kd919 h14 (by decide) (by decide +kernel) ?_
      refine j_runA hx 1 (tb := [(90, .iadd)]) (jtb_ok (by decide +kernel)) (pc' := 91) (lv' := [(0, vR t), (1, vI a1), (2, vI a2)]) (st' := [vI ((jI q11 123 t) + (jI q11 919 (jR q11 112 t))), vR t]) rfl ?_
      refine j_putI hx fwX0_314 wf123 kd123 h13 (by decide) (by decide +kernel) (ni123 _) (fi123 _) ?_
      refine j_ltw rfl (fun W15 hc16 => ?_)
      have h17 : jC W15 t = 1 := (congrFun hc16 _).trans h13
      have h18 : jC W15 (jR q11 112 t) = 9 := (congrFun hc16 _).trans h14
      refine j_runA hx 2 (tb := [(94, .aload_n 0), (95, .iconst 1)]) (jtb_ok (by decide +kernel)) (pc' := 96) (lv' := [(0, vR t), (1, vI a1), (2, vI a2)]) (st' := [vI (kI 1), vR t]) rfl ?_
      refine j_putI hx fwX0_132 wf107 kd107 h17 (by decide) (by decide +kernel) (nz107 jz1) (fz107 jz1) ?_
      refine j_ltw rfl (fun W20 hc21 => ?_)
      have h22 : jC W20 t = 1 := (congrFun hc21 _).trans h17
      have h23 : jC W20 (jR q11 112 t) = 9 := (congrFun hc21 _).trans h18
      refine j_runA hx 1 (tb := [(99, .aload_n 0)]) (jtb_ok (by decide +kernel)) (pc' := 100) (lv' := [(0, vR t), (1, vI a1), (2, vI a2)]) (st' := [vR t]) rfl ?_
      refine j_WV (j_callV (av := []) (st := []) hx hr (Or.inl q1553) q1555 qs26 rfl md_fcl_forgetRuns np_fcl_forgetRuns (ccl_forgetRuns t W20) (by decide) (Nat.le_of_ble_eq_true rfl) h22 (by decide) (by decide +kernel)) (fun q25 _ => ?_)
      refine j_runA hx 1 (tb := [(103, .aload_n 0)]) (jtb_ok (by decide +kernel)) (pc' := 104) (lv' := [(0, vR t), (1, vI a1), (2, vI a2)]) (st' := [vR t]) rfl ?_
      refine j_gd (fun h27 => ?_)
      refine j_getR hx flX0_175 kl112 h27 (by decide) (by decide +kernel) ?_
      refine j_gd (fun h28 => ?_)
      refine j_getI hx flX0_320 kd912 h28 (by decide) (by decide +kernel) ?_
      exact j_iret hx hm (by decide +kernel) rfl (he _)
    exact wcl_lay_42 h W
  refine j_runA hx 1 (tb := [(7, .bipush (-14))]) (jtb_ok (by decide +kernel)) (pc' := 9) (lv' := [(0, vR t), (1, vI a1), (2, vI a2)]) (st' := [vI (kI (-14))]) rfl ?_
  exact j_iret hx hm (by decide +kernel) rfl (he _)
theorem ccl_lay (t : Nat) (a1 : Int32) (a2 : Int32) (W : jW) : jM yX0_lay cX0_lay 3 (Option.some Jvm.ClassFile.FieldType.int) [] 13 187 [vR t, vI a1, vI a2] W ((fcl_lay t a1 a2 W).bind (fun q => some (.returned (some (.int q.1)), q.2))) := 
  jM.of (Nat.le_of_ble_eq_true rfl) (fun x hx hm hr => wcl_lay ⟨hx, hm, hr, fun _ => rfl⟩ W)
def hcl_order (x : jCx) (en : (Int32) → Option (Outcome × jW)) (t : Nat) (a1 : Int32) (W : jW) : Prop :=
  jOK x RX0 cX0_order 2 ∧
  jMt x "order" (Option.some Jvm.ClassFile.FieldType.int) [] ∧
  jRm x 0 0 ∧
  (∀ q : Int32, en q = some (.returned (some (.int q)), W))
theorem wcl_order_34 {x : jCx} {en : (Int32) → Option (Outcome × jW)} {W : jW} {t : Nat} {a1 : Int32} (h : hcl_order x en t a1 W) : jJ x 2 34 [(0, vR t), (1, vI a1)] [] W (fcl_order_34 t a1 W) en := by
  have h0 := h
  obtain ⟨hx, hm, hr, he⟩ := h0
  unfold fcl_order_34
  refine j_runA hx 1 (tb := [(34, .iconst (-1))]) (jtb_ok (by decide +kernel)) (pc' := 35) (lv' := [(0, vR t), (1, vI a1)]) (st' := [vI (kI (-1))]) rfl ?_
  exact j_iret hx hm (by decide +kernel) rfl (he _)
theorem wcl_order {x : jCx} {en : (Int32) → Option (Outcome × jW)} {W : jW} {t : Nat} {a1 : Int32} (h : hcl_order x en t a1 W) : jJ x 2 0 [(0, vR t), (1, vI a1)] [] W (fcl_order t a1 W) en := by
  have h0 := h
  obtain ⟨hx, hm, hr, he⟩ := h0
  unfold fcl_order
  refine j_runA hx 1 (tb := [(0, .aload_n 0)]) (jtb_ok (by decide +kernel)) (pc' := 1) (lv' := [(0, vR t), (1, vI a1)]) (st' := [vR t]) rfl ?_
  refine j_gd (fun h1 => ?_)
  refine j_getI hx flX0_132 kd107 h1 (by decide) (by decide +kernel) ?_
  refine j_if_eq hx (off := 30) (tgt := 34) (by decide +kernel) (by decide) (fun _ => ?_) (fun _ => ?_)
  · exact wcl_order_34 h
  refine j_runA hx 1 (tb := [(7, .iload_n 1)]) (jtb_ok (by decide +kernel)) (pc' := 8) (lv' := [(0, vR t), (1, vI a1)]) (st' := [vI a1]) rfl ?_
  refine j_if_lt hx (off := 26) (tgt := 34) (by decide +kernel) (by decide) (fun _ => ?_) (fun _ => ?_)
  · exact wcl_order_34 h
  refine j_runA hx 2 (tb := [(11, .iload_n 1), (12, .aload_n 0)]) (jtb_ok (by decide +kernel)) (pc' := 13) (lv' := [(0, vR t), (1, vI a1)]) (st' := [vR t, vI a1]) rfl ?_
  refine j_getR hx flX0_29 kl104 h1 (by decide) (by decide +kernel) ?_
  refine j_gd (fun h2 => ?_)
  refine j_getI hx flX0_188 kd217 h2 (by decide) (by decide +kernel) ?_
  refine j_icmp_ge hx (off := 15) (tgt := 34) (by decide +kernel) (by decide) (fun _ => ?_) (fun _ => ?_)
  · exact wcl_order_34 h
  refine j_runA hx 1 (tb := [(22, .aload_n 0)]) (jtb_ok (by decide +kernel)) (pc' := 23) (lv' := [(0, vR t), (1, vI a1)]) (st' := [vR t]) rfl ?_
  refine j_getR hx flX0_171 kl111 h1 (by decide) (by decide +kernel) ?_
  refine j_gd (fun h3 => ?_)
  refine j_getR hx flX0_304 kl804 h3 (by decide) (by decide +kernel) ?_
  refine j_runA hx 1 (tb := [(29, .iload_n 1)]) (jtb_ok (by decide +kernel)) (pc' := 30) (lv' := [(0, vR t), (1, vI a1)]) (st' := [vI a1, vR (jR W 804 (jR W 111 t))]) rfl ?_
  refine j_gd (fun h4 => ?_)
  refine j_gd (fun h5 => ?_)
  refine j_iald hx (f := 9003) (o := (jR W 804 (jR W 111 t))) kd9003 h4 (by decide +kernel) h5 ?_
  refine j_goto hx (off := 4) (by decide +kernel) (tgt := 35) (by decide) ?_
  exact j_iret hx hm (by decide +kernel) rfl (he _)
theorem ccl_order (t : Nat) (a1 : Int32) (W : jW) : jM yX0_order cX0_order 2 (Option.some Jvm.ClassFile.FieldType.int) [] 0 0 [vR t, vI a1] W ((fcl_order t a1 W).bind (fun q => some (.returned (some (.int q)), W))) := 
  jM.of (Nat.le_of_ble_eq_true rfl) (fun x hx hm hr => wcl_order ⟨hx, hm, hr, fun _ => rfl⟩)
def hcl_laid (x : jCx) (en : (Int32) → Option (Outcome × jW)) (t : Nat) (a1 : Int32) (W : jW) : Prop :=
  jOK x RX0 cX0_laid 2 ∧
  jMt x "laid" (Option.some Jvm.ClassFile.FieldType.int) [] ∧
  jRm x 0 0 ∧
  (∀ q : Int32, en q = some (.returned (some (.int q)), W))
theorem wcl_laid_16 {x : jCx} {en : (Int32) → Option (Outcome × jW)} {W : jW} {t : Nat} {a1 : Int32} (h : hcl_laid x en t a1 W) : jJ x 2 16 [(0, vR t), (1, vI a1)] [] W (fcl_laid_16 t a1 W) en := by
  have h0 := h
  obtain ⟨hx, hm, hr, he⟩ := h0
  unfold fcl_laid_16
  refine j_runA hx 1 (tb := [(16, .bipush (-14))]) (jtb_ok (by decide +kernel)) (pc' := 18) (lv' := [(0, vR t), (1, vI a1)]) (st' := [vI (kI (-14))]) rfl ?_
  exact j_iret hx hm (by decide +kernel) rfl (he _)
theorem wcl_laid {x : jCx} {en : (Int32) → Option (Outcome × jW)} {W : jW} {t : Nat} {a1 : Int32} (h : hcl_laid x en t a1 W) : jJ x 2 0 [(0, vR t), (1, vI a1)] [] W (fcl_laid t a1 W) en := by
  have h0 := h
  obtain ⟨hx, hm, hr, he⟩ := h0
  unfold fcl_laid
  refine j_runA hx 1 (tb := [(0, .aload_n 0)]) (jtb_ok (by decide +kernel)) (pc' := 1) (lv' := [(0, vR t), (1, vI a1)]) (st' := [vR t]) rfl ?_
  refine j_gd (fun h1 => ?_)
  refine j_getI hx flX0_132 kd107 h1 (by decide) (by decide +kernel) ?_
  refine j_if_eq hx (off := 12) (tgt := 16) (by decide +kernel) (by decide) (fun _ => ?_) (fun _ => ?_)
  · exact wcl_laid_16 h
  refine j_runA hx 1 (tb := [(7, .iload_n 1)]) (jtb_ok (by decide +kernel)) (pc' := 8) (lv' := [(0, vR t), (1, vI a1)]) (st' := [vI a1]) rfl ?_
  refine j_if_lt hx (off := 8) (tgt := 16) (by decide +kernel) (by decide) (fun _ => ?_) (fun _ => ?_)
  · exact wcl_laid_16 h
  refine j_runA hx 2 (tb := [(11, .iload_n 1), (12, .iconst 4)]) (jtb_ok (by decide +kernel)) (pc' := 13) (lv' := [(0, vR t), (1, vI a1)]) (st' := [vI (kI 4), vI a1]) rfl ?_
  refine j_icmp_le hx (off := 6) (tgt := 19) (by decide +kernel) (by decide) (fun _ => ?_) (fun _ => ?_)
  · refine j_runA hx 1 (tb := [(19, .iload_n 1)]) (jtb_ok (by decide +kernel)) (pc' := 20) (lv' := [(0, vR t), (1, vI a1)]) (st' := [vI a1]) rfl ?_
    refine j_if_ne hx (off := 13) (tgt := 33) (by decide +kernel) (by decide) (fun _ => ?_) (fun _ => ?_)
    · refine j_runA hx 2 (tb := [(33, .iload_n 1), (34, .iconst 1)]) (jtb_ok (by decide +kernel)) (pc' := 35) (lv' := [(0, vR t), (1, vI a1)]) (st' := [vI (kI 1), vI a1]) rfl ?_
      refine j_icmp_ne hx (off := 13) (tgt := 48) (by decide +kernel) (by decide) (fun _ => ?_) (fun _ => ?_)
      · refine j_runA hx 2 (tb := [(48, .iload_n 1), (49, .iconst 2)]) (jtb_ok (by decide +kernel)) (pc' := 50) (lv' := [(0, vR t), (1, vI a1)]) (st' := [vI (kI 2), vI a1]) rfl ?_
        refine j_icmp_ne hx (off := 13) (tgt := 63) (by decide +kernel) (by decide) (fun _ => ?_) (fun _ => ?_)
        · refine j_runA hx 2 (tb := [(63, .iload_n 1), (64, .iconst 3)]) (jtb_ok (by decide +kernel)) (pc' := 65) (lv' := [(0, vR t), (1, vI a1)]) (st' := [vI (kI 3), vI a1]) rfl ?_
          refine j_icmp_ne hx (off := 13) (tgt := 78) (by decide +kernel) (by decide) (fun _ => ?_) (fun _ => ?_)
          · refine j_runA hx 1 (tb := [(78, .aload_n 0)]) (jtb_ok (by decide +kernel)) (pc' := 79) (lv' := [(0, vR t), (1, vI a1)]) (st' := [vR t]) rfl ?_
            refine j_getR hx flX0_175 kl112 h1 (by decide) (by decide +kernel) ?_
            refine j_gd (fun h2 => ?_)
            refine j_getI hx flX0_331 kd918 h2 (by decide) (by decide +kernel) ?_
            exact j_iret hx hm (by decide +kernel) rfl (he _)
          refine j_runA hx 1 (tb := [(68, .aload_n 0)]) (jtb_ok (by decide +kernel)) (pc' := 69) (lv' := [(0, vR t), (1, vI a1)]) (st' := [vR t]) rfl ?_
          refine j_getR hx flX0_175 kl112 h1 (by decide) (by decide +kernel) ?_
          refine j_gd (fun h3 => ?_)
          refine j_getI hx flX0_328 kd917 h3 (by decide) (by decide +kernel) ?_
          refine j_goto hx (off := 10) (by decide +kernel) (tgt := 85) (by decide) ?_
          exact j_iret hx hm (by decide +kernel) rfl (he _)
        refine j_runA hx 1 (tb := [(53, .aload_n 0)]) (jtb_ok (by decide +kernel)) (pc' := 54) (lv' := [(0, vR t), (1, vI a1)]) (st' := [vR t]) rfl ?_
        refine j_getR hx flX0_175 kl112 h1 (by decide) (by decide +kernel) ?_
        refine j_gd (fun h4 => ?_)
        refine j_getI hx flX0_325 kd916 h4 (by decide) (by decide +kernel) ?_
        refine j_goto hx (off := 25) (by decide +kernel) (tgt := 85) (by decide) ?_
        exact j_iret hx hm (by decide +kernel) rfl (he _)
      refine j_runA hx 1 (tb := [(38, .aload_n 0)]) (jtb_ok (by decide +kernel)) (pc' := 39) (lv' := [(0, vR t), (1, vI a1)]) (st' := [vR t]) rfl ?_
      refine j_getR hx flX0_175 kl112 h1 (by decide) (by decide +kernel) ?_
      refine j_gd (fun h5 => ?_)
      refine j_getI hx flX0_322 kd915 h5 (by decide) (by decide +kernel) ?_
      refine j_goto hx (off := 40) (by decide +kernel) (tgt := 85) (by decide) ?_
      exact j_iret hx hm (by decide +kernel) rfl (he _)
    refine j_runA hx 1 (tb := [(23, .aload_n 0)]) (jtb_ok (by decide +kernel)) (pc' := 24) (lv' := [(0, vR t), (1, vI a1)]) (st' := [vR t]) rfl ?_
    refine j_getR hx flX0_171 kl111 h1 (by decide) (by decide +kernel) ?_
    refine j_gd (fun h6 => ?_)
    refine j_getI hx flX0_307 kd805 h6 (by decide) (by decide +kernel) ?_
    refine j_goto hx (off := 55) (by decide +kernel) (tgt := 85) (by decide) ?_
    exact j_iret hx hm (by decide +kernel) rfl (he _)
  exact wcl_laid_16 h
theorem ccl_laid (t : Nat) (a1 : Int32) (W : jW) : jM yX0_laid cX0_laid 2 (Option.some Jvm.ClassFile.FieldType.int) [] 0 0 [vR t, vI a1] W ((fcl_laid t a1 W).bind (fun q => some (.returned (some (.int q)), W))) := 
  jM.of (Nat.le_of_ble_eq_true rfl) (fun x hx hm hr => wcl_laid ⟨hx, hm, hr, fun _ => rfl⟩)
def hog_weight (x : jCx) (en : (Int64) → Option (Outcome × jW)) (t : Nat) (a1 : Int32) (a2 : Int32) (W : jW) : Prop :=
  jOK x RX13 cX13_weight 3 ∧
  jMt x "weight" (Option.some Jvm.ClassFile.FieldType.long) [] ∧
  jRm x 0 0 ∧
  (∀ q : Int64, en q = some (.returned (some (.long q)), W))
theorem wog_weight {x : jCx} {en : (Int64) → Option (Outcome × jW)} {W : jW} {t : Nat} {a1 : Int32} {a2 : Int32} (h : hog_weight x en t a1 a2 W) : jJ x 3 0 [(0, vR t), (1, vI a1), (2, vI a2)] [] W (fog_weight t a1 a2 W) en := by
  have h0 := h
  obtain ⟨hx, hm, hr, he⟩ := h0
  unfold fog_weight
  refine j_runA hx 1 (tb := [(0, .iload_n 2)]) (jtb_ok (by decide +kernel)) (pc' := 1) (lv' := [(0, vR t), (1, vI a1), (2, vI a2)]) (st' := [vI a2]) rfl ?_
  refine j_if_eq hx (off := 12) (tgt := 13) (by decide +kernel) (by decide) (fun _ => ?_) (fun _ => ?_)
  · refine j_runA hx 1 (tb := [(13, .aload_n 0)]) (jtb_ok (by decide +kernel)) (pc' := 14) (lv' := [(0, vR t), (1, vI a1), (2, vI a2)]) (st' := [vR t]) rfl ?_
    refine j_gd (fun h1 => ?_)
    refine j_getR hx flX13_76 kl824 h1 (by decide) (by decide +kernel) ?_
    refine j_runA hx 1 (tb := [(17, .iload_n 1)]) (jtb_ok (by decide +kernel)) (pc' := 18) (lv' := [(0, vR t), (1, vI a1), (2, vI a2)]) (st' := [vI a1, vR (jR W 824 t)]) rfl ?_
    refine j_gd (fun h2 => ?_)
    refine j_lald hx (f := 824) (o := t) kd824 rfl (by decide +kernel) h2 ?_
    exact j_lret hx hm (by decide +kernel) (he _)
  refine j_runA hx 1 (tb := [(4, .aload_n 0)]) (jtb_ok (by decide +kernel)) (pc' := 5) (lv' := [(0, vR t), (1, vI a1), (2, vI a2)]) (st' := [vR t]) rfl ?_
  refine j_gd (fun h3 => ?_)
  refine j_getR hx flX13_79 kl825 h3 (by decide) (by decide +kernel) ?_
  refine j_runA hx 1 (tb := [(8, .iload_n 1)]) (jtb_ok (by decide +kernel)) (pc' := 9) (lv' := [(0, vR t), (1, vI a1), (2, vI a2)]) (st' := [vI a1, vR (jR W 825 t)]) rfl ?_
  refine j_gd (fun h4 => ?_)
  refine j_lald hx (f := 825) (o := t) kd825 rfl (by decide +kernel) h4 ?_
  refine j_goto hx (off := 9) (by decide +kernel) (tgt := 19) (by decide) ?_
  exact j_lret hx hm (by decide +kernel) (he _)
theorem cog_weight (t : Nat) (a1 : Int32) (a2 : Int32) (W : jW) : jM yX13_weight cX13_weight 3 (Option.some Jvm.ClassFile.FieldType.long) [] 0 0 [vR t, vI a1, vI a2] W ((fog_weight t a1 a2 W).bind (fun q => some (.returned (some (.long q)), W))) := 
  jM.of (Nat.le_of_ble_eq_true rfl) (fun x hx hm hr => wog_weight ⟨hx, hm, hr, fun _ => rfl⟩)
def hcl_weight (x : jCx) (en : (Int64) → Option (Outcome × jW)) (t : Nat) (a1 : Int32) (a2 : Int32) (W : jW) : Prop :=
  jOK x RX0 cX0_weight 3 ∧
  jMt x "weight" (Option.some Jvm.ClassFile.FieldType.long) [] ∧
  jRm x 2 26 ∧
  (∀ q : Int64, en q = some (.returned (some (.long q)), W))
theorem wcl_weight_39 {x : jCx} {en : (Int64) → Option (Outcome × jW)} {W : jW} {t : Nat} {a1 : Int32} {a2 : Int32} (h : hcl_weight x en t a1 a2 W) (s0 : Int32) (s1 : Int32) (s2 : Nat) : jJ x 3 39 [(0, vR t), (1, vI a1), (2, vI a2)] [vI s0, vI s1, vR s2] W (fcl_weight_39 t a1 a2 s0 s1 s2 W) en := by
  have h0 := h
  obtain ⟨hx, hm, hr, he⟩ := h0
  unfold fcl_weight_39
  refine j_gd (fun h6 => ?_)
  refine j_OL (j_callV (av := [vI s1, vI s0]) (st := []) hx hr (Or.inl q1936) q1937 q1938 rfl md_fog_weight np_fog_weight (cog_weight s2 s1 s0 W) (by decide) (Nat.le_of_ble_eq_true rfl) h6 (by decide) (by decide +kernel)) (fun q7 _ => ?_)
  refine j_goto hx (off := 6) (by decide +kernel) (tgt := 48) (by decide) ?_
  exact j_lret hx hm (by decide +kernel) (he _)
theorem wcl_weight_24 {x : jCx} {en : (Int64) → Option (Outcome × jW)} {W : jW} {t : Nat} {a1 : Int32} {a2 : Int32} (h : hcl_weight x en t a1 a2 W) : jJ x 3 24 [(0, vR t), (1, vI a1), (2, vI a2)] [] W (fcl_weight_24 t a1 a2 W) en := by
  have h0 := h
  obtain ⟨hx, hm, hr, he⟩ := h0
  unfold fcl_weight_24
  refine j_runA hx 1 (tb := [(24, .aload_n 0)]) (jtb_ok (by decide +kernel)) (pc' := 25) (lv' := [(0, vR t), (1, vI a1), (2, vI a2)]) (st' := [vR t]) rfl ?_
  refine j_gd (fun h4 => ?_)
  refine j_getR hx flX0_171 kl111 h4 (by decide) (by decide +kernel) ?_
  refine j_runA hx 3 (tb := [(28, .iload_n 1), (29, .iload_n 2), (30, .iconst 1)]) (jtb_ok (by decide +kernel)) (pc' := 31) (lv' := [(0, vR t), (1, vI a1), (2, vI a2)]) (st' := [vI (kI 1), vI a2, vI a1, vR (jR W 111 t)]) rfl ?_
  refine j_icmp_ne hx (off := 7) (tgt := 38) (by decide +kernel) (by decide) (fun _ => ?_) (fun _ => ?_)
  · refine j_runA hx 1 (tb := [(38, .iconst 0)]) (jtb_ok (by decide +kernel)) (pc' := 39) (lv' := [(0, vR t), (1, vI a1), (2, vI a2)]) (st' := [vI (kI 0), vI a1, vR (jR W 111 t)]) rfl ?_
    exact wcl_weight_39 h (kI 0) a1 (jR W 111 t)
  refine j_runA hx 1 (tb := [(34, .iconst 1)]) (jtb_ok (by decide +kernel)) (pc' := 35) (lv' := [(0, vR t), (1, vI a1), (2, vI a2)]) (st' := [vI (kI 1), vI a1, vR (jR W 111 t)]) rfl ?_
  refine j_goto hx (off := 4) (by decide +kernel) (tgt := 39) (by decide) ?_
  exact wcl_weight_39 h (kI 1) a1 (jR W 111 t)
theorem wcl_weight_45 {x : jCx} {en : (Int64) → Option (Outcome × jW)} {W : jW} {t : Nat} {a1 : Int32} {a2 : Int32} (h : hcl_weight x en t a1 a2 W) : jJ x 3 45 [(0, vR t), (1, vI a1), (2, vI a2)] [] W (fcl_weight_45 t a1 a2 W) en := by
  have h0 := h
  obtain ⟨hx, hm, hr, he⟩ := h0
  unfold fcl_weight_45
  refine j_ldc2 hx (v := (kJ (-14))) (jkd2 q1581 (by decide +kernel)) (by decide +kernel) ?_
  exact j_lret hx hm (by decide +kernel) (he _)
theorem wcl_weight {x : jCx} {en : (Int64) → Option (Outcome × jW)} {W : jW} {t : Nat} {a1 : Int32} {a2 : Int32} (h : hcl_weight x en t a1 a2 W) : jJ x 3 0 [(0, vR t), (1, vI a1), (2, vI a2)] [] W (fcl_weight t a1 a2 W) en := by
  have h0 := h
  obtain ⟨hx, hm, hr, he⟩ := h0
  unfold fcl_weight
  refine j_runA hx 1 (tb := [(0, .aload_n 0)]) (jtb_ok (by decide +kernel)) (pc' := 1) (lv' := [(0, vR t), (1, vI a1), (2, vI a2)]) (st' := [vR t]) rfl ?_
  refine j_gd (fun h1 => ?_)
  refine j_getI hx flX0_132 kd107 h1 (by decide) (by decide +kernel) ?_
  refine j_if_eq hx (off := 41) (tgt := 45) (by decide +kernel) (by decide) (fun _ => ?_) (fun _ => ?_)
  · exact wcl_weight_45 h
  refine j_runA hx 2 (tb := [(7, .aload_n 0), (8, .iload_n 1)]) (jtb_ok (by decide +kernel)) (pc' := 9) (lv' := [(0, vR t), (1, vI a1), (2, vI a2)]) (st' := [vI a1, vR t]) rfl ?_
  refine j_OI (j_callV (av := [vI a1]) (st := []) hx hr (Or.inl q1577) q1579 qs27 rfl md_fcl_isFunction np_fcl_isFunction (ccl_isFunction t a1 W) (by decide) (Nat.le_of_ble_eq_true rfl) h1 (by decide) (by decide +kernel)) (fun q2 _ => ?_)
  refine j_if_eq hx (off := 33) (tgt := 45) (by decide +kernel) (by decide) (fun _ => ?_) (fun _ => ?_)
  · exact wcl_weight_45 h
  refine j_runA hx 1 (tb := [(15, .iload_n 2)]) (jtb_ok (by decide +kernel)) (pc' := 16) (lv' := [(0, vR t), (1, vI a1), (2, vI a2)]) (st' := [vI a2]) rfl ?_
  refine j_if_eq hx (off := 8) (tgt := 24) (by decide +kernel) (by decide) (fun _ => ?_) (fun _ => ?_)
  · exact wcl_weight_24 h
  refine j_runA hx 2 (tb := [(19, .iload_n 2), (20, .iconst 1)]) (jtb_ok (by decide +kernel)) (pc' := 21) (lv' := [(0, vR t), (1, vI a1), (2, vI a2)]) (st' := [vI (kI 1), vI a2]) rfl ?_
  refine j_icmp_ne hx (off := 24) (tgt := 45) (by decide +kernel) (by decide) (fun _ => ?_) (fun _ => ?_)
  · exact wcl_weight_45 h
  exact wcl_weight_24 h
theorem ccl_weight (t : Nat) (a1 : Int32) (a2 : Int32) (W : jW) : jM yX0_weight cX0_weight 3 (Option.some Jvm.ClassFile.FieldType.long) [] 2 26 [vR t, vI a1, vI a2] W ((fcl_weight t a1 a2 W).bind (fun q => some (.returned (some (.long q)), W))) := 
  jM.of (Nat.le_of_ble_eq_true rfl) (fun x hx hm hr => wcl_weight ⟨hx, hm, hr, fun _ => rfl⟩)
def hcl_moved (x : jCx) (en : (Int64) → Option (Outcome × jW)) (t : Nat) (a1 : Int64) (W : jW) : Prop :=
  jOK x RX0 cX0_moved 4 ∧
  jMt x "moved" (Option.some Jvm.ClassFile.FieldType.long) [] ∧
  jRm x 4 60 ∧
  (∀ q : Int64, en q = some (.returned (some (.long q)), W))
theorem wcl_moved_16 {x : jCx} {en : (Int64) → Option (Outcome × jW)} {W : jW} {t : Nat} {a1 : Int64} (h : hcl_moved x en t a1 W) (s0 : Int32) : jJ x 4 16 [(0, vR t), (1, vL a1)] [vI s0] W (fcl_moved_16 t a1 s0 W) en := by
  have h0 := h
  obtain ⟨hx, hm, hr, he⟩ := h0
  unfold fcl_moved_16
  refine j_runA hx 2 (tb := [(16, .istore_n 3), (17, .iload_n 3)]) (jtb_ok (by decide +kernel)) (pc' := 18) (lv' := [(3, vI s0), (0, vR t), (1, vL a1)]) (st' := [vI s0]) rfl ?_
  refine j_if_ge hx (off := 9) (tgt := 27) (by decide +kernel) (by decide) (fun _ => ?_) (fun _ => ?_)
  · refine j_runA hx 1 (tb := [(27, .aload_n 0)]) (jtb_ok (by decide +kernel)) (pc' := 28) (lv' := [(3, vI s0), (0, vR t), (1, vL a1)]) (st' := [vR t]) rfl ?_
    refine j_gd (fun h4 => ?_)
    refine j_getR hx flX0_175 kl112 h4 (by decide) (by decide +kernel) ?_
    refine j_runA hx 1 (tb := [(31, .iload_n 3)]) (jtb_ok (by decide +kernel)) (pc' := 32) (lv' := [(3, vI s0), (0, vR t), (1, vL a1)]) (st' := [vI s0, vR (jR W 112 t)]) rfl ?_
    refine j_gd (fun h5 => ?_)
    refine j_OL (j_callV (av := [vI s0]) (st := []) hx hr (Or.inl q1944) q1839 q1840 rfl md_fwr_movedWord np_fwr_movedWord (cwr_movedWord (jR W 112 t) s0 W) (by decide) (Nat.le_of_ble_eq_true rfl) h5 (by decide) (by decide +kernel)) (fun q6 _ => ?_)
    exact j_lret hx hm (by decide +kernel) (he _)
  refine j_ldc2 hx (v := (kJ (-14))) (jkd2 q1581 (by decide +kernel)) (by decide +kernel) ?_
  refine j_goto hx (off := 11) (by decide +kernel) (tgt := 35) (by decide) ?_
  exact j_lret hx hm (by decide +kernel) (he _)
theorem wcl_moved {x : jCx} {en : (Int64) → Option (Outcome × jW)} {W : jW} {t : Nat} {a1 : Int64} (h : hcl_moved x en t a1 W) : jJ x 4 0 [(0, vR t), (1, vL a1)] [] W (fcl_moved t a1 W) en := by
  have h0 := h
  obtain ⟨hx, hm, hr, he⟩ := h0
  unfold fcl_moved
  refine j_runA hx 1 (tb := [(0, .aload_n 0)]) (jtb_ok (by decide +kernel)) (pc' := 1) (lv' := [(0, vR t), (1, vL a1)]) (st' := [vR t]) rfl ?_
  refine j_gd (fun h1 => ?_)
  refine j_getI hx flX0_132 kd107 h1 (by decide) (by decide +kernel) ?_
  refine j_if_eq hx (off := 11) (tgt := 15) (by decide +kernel) (by decide) (fun _ => ?_) (fun _ => ?_)
  · refine j_runA hx 1 (tb := [(15, .iconst (-1))]) (jtb_ok (by decide +kernel)) (pc' := 16) (lv' := [(0, vR t), (1, vL a1)]) (st' := [vI (kI (-1))]) rfl ?_
    exact wcl_moved_16 h (kI (-1))
  refine j_runA hx 2 (tb := [(7, .aload_n 0), (8, .lload_n 1)]) (jtb_ok (by decide +kernel)) (pc' := 9) (lv' := [(0, vR t), (1, vL a1)]) (st' := [vL a1, vR t]) rfl ?_
  refine j_OI (j_callV (av := [vL a1]) (st := []) hx hr (Or.inl q1645) q1647 qs32 rfl md_fcl_wordAt np_fcl_wordAt (ccl_wordAt t a1 W) (by decide) (Nat.le_of_ble_eq_true rfl) h1 (by decide) (by decide +kernel)) (fun q2 _ => ?_)
  refine j_goto hx (off := 4) (by decide +kernel) (tgt := 16) (by decide) ?_
  exact wcl_moved_16 h q2
theorem ccl_moved (t : Nat) (a1 : Int64) (W : jW) : jM yX0_moved cX0_moved 4 (Option.some Jvm.ClassFile.FieldType.long) [] 4 60 [vR t, vL a1] W ((fcl_moved t a1 W).bind (fun q => some (.returned (some (.long q)), W))) := 
  jM.of (Nat.le_of_ble_eq_true rfl) (fun x hx hm hr => wcl_moved ⟨hx, hm, hr, fun _ => rfl⟩)
def hcl_size (x : jCx) (en : (Int32) → Option (Outcome × jW)) (t : Nat) (W : jW) : Prop :=
  jOK x RX0 cX0_size 1 ∧
  jMt x "size" (Option.some Jvm.ClassFile.FieldType.int) [] ∧
  jRm x 1 12 ∧
  (∀ q : Int32, en q = some (.returned (some (.int q)), W))
theorem wcl_size {x : jCx} {en : (Int32) → Option (Outcome × jW)} {W : jW} {t : Nat} (h : hcl_size x en t W) : jJ x 1 0 [(0, vR t)] [] W (fcl_size t W) en := by
  have h0 := h
  obtain ⟨hx, hm, hr, he⟩ := h0
  unfold fcl_size
  refine j_runA hx 1 (tb := [(0, .aload_n 0)]) (jtb_ok (by decide +kernel)) (pc' := 1) (lv' := [(0, vR t)]) (st' := [vR t]) rfl ?_
  refine j_gd (fun h1 => ?_)
  refine j_getI hx flX0_132 kd107 h1 (by decide) (by decide +kernel) ?_
  refine j_if_eq hx (off := 13) (tgt := 17) (by decide +kernel) (by decide) (fun _ => ?_) (fun _ => ?_)
  · refine j_runA hx 1 (tb := [(17, .bipush (-14))]) (jtb_ok (by decide +kernel)) (pc' := 19) (lv' := [(0, vR t)]) (st' := [vI (kI (-14))]) rfl ?_
    exact j_iret hx hm (by decide +kernel) rfl (he _)
  refine j_runA hx 1 (tb := [(7, .aload_n 0)]) (jtb_ok (by decide +kernel)) (pc' := 8) (lv' := [(0, vR t)]) (st' := [vR t]) rfl ?_
  refine j_getR hx flX0_175 kl112 h1 (by decide) (by decide +kernel) ?_
  refine j_gd (fun h2 => ?_)
  refine j_OI (j_callV (av := []) (st := []) hx hr (Or.inl q1949) q755 q3612 rfl md_fwr_size np_fwr_size (cwr_size (jR W 112 t) W) (by decide) (Nat.le_of_ble_eq_true rfl) h2 (by decide) (by decide +kernel)) (fun q3 _ => ?_)
  refine j_goto hx (off := 5) (by decide +kernel) (tgt := 19) (by decide) ?_
  exact j_iret hx hm (by decide +kernel) rfl (he _)
theorem ccl_size (t : Nat) (W : jW) : jM yX0_size cX0_size 1 (Option.some Jvm.ClassFile.FieldType.int) [] 1 12 [vR t] W ((fcl_size t W).bind (fun q => some (.returned (some (.int q)), W))) := 
  jM.of (Nat.le_of_ble_eq_true rfl) (fun x hx hm hr => wcl_size ⟨hx, hm, hr, fun _ => rfl⟩)
def hcl_out (x : jCx) (en : (Int32) → Option (Outcome × jW)) (t : Nat) (a1 : Int32) (W : jW) : Prop :=
  jOK x RX0 cX0_out 2 ∧
  jMt x "out" (Option.some Jvm.ClassFile.FieldType.int) [] ∧
  jRm x 3 40 ∧
  (∀ q : Int32, en q = some (.returned (some (.int q)), W))
theorem wcl_out_33 {x : jCx} {en : (Int32) → Option (Outcome × jW)} {W : jW} {t : Nat} {a1 : Int32} (h : hcl_out x en t a1 W) : jJ x 2 33 [(0, vR t), (1, vI a1)] [] W (fcl_out_33 t a1 W) en := by
  have h0 := h
  obtain ⟨hx, hm, hr, he⟩ := h0
  unfold fcl_out_33
  refine j_runA hx 1 (tb := [(33, .iconst (-1))]) (jtb_ok (by decide +kernel)) (pc' := 34) (lv' := [(0, vR t), (1, vI a1)]) (st' := [vI (kI (-1))]) rfl ?_
  exact j_iret hx hm (by decide +kernel) rfl (he _)
theorem wcl_out {x : jCx} {en : (Int32) → Option (Outcome × jW)} {W : jW} {t : Nat} {a1 : Int32} (h : hcl_out x en t a1 W) : jJ x 2 0 [(0, vR t), (1, vI a1)] [] W (fcl_out t a1 W) en := by
  have h0 := h
  obtain ⟨hx, hm, hr, he⟩ := h0
  unfold fcl_out
  refine j_runA hx 1 (tb := [(0, .aload_n 0)]) (jtb_ok (by decide +kernel)) (pc' := 1) (lv' := [(0, vR t), (1, vI a1)]) (st' := [vR t]) rfl ?_
  refine j_gd (fun h1 => ?_)
  refine j_getI hx flX0_132 kd107 h1 (by decide) (by decide +kernel) ?_
  refine j_if_eq hx (off := 29) (tgt := 33) (by decide +kernel) (by decide) (fun _ => ?_) (fun _ => ?_)
  · exact wcl_out_33 h
  refine j_runA hx 1 (tb := [(7, .iload_n 1)]) (jtb_ok (by decide +kernel)) (pc' := 8) (lv' := [(0, vR t), (1, vI a1)]) (st' := [vI a1]) rfl ?_
  refine j_if_lt hx (off := 25) (tgt := 33) (by decide +kernel) (by decide) (fun _ => ?_) (fun _ => ?_)
  · exact wcl_out_33 h
  refine j_runA hx 2 (tb := [(11, .iload_n 1), (12, .aload_n 0)]) (jtb_ok (by decide +kernel)) (pc' := 13) (lv' := [(0, vR t), (1, vI a1)]) (st' := [vR t, vI a1]) rfl ?_
  refine j_getR hx flX0_175 kl112 h1 (by decide) (by decide +kernel) ?_
  refine j_gd (fun h2 => ?_)
  refine j_OI (j_callV (av := []) (st := [vI a1]) hx hr (Or.inl q1949) q755 q3612 rfl md_fwr_size np_fwr_size (cwr_size (jR W 112 t) W) (by decide) (Nat.le_of_ble_eq_true rfl) h2 (by decide) (by decide +kernel)) (fun q3 _ => ?_)
  refine j_icmp_ge hx (off := 14) (tgt := 33) (by decide +kernel) (by decide) (fun _ => ?_) (fun _ => ?_)
  · exact wcl_out_33 h
  refine j_runA hx 1 (tb := [(22, .aload_n 0)]) (jtb_ok (by decide +kernel)) (pc' := 23) (lv' := [(0, vR t), (1, vI a1)]) (st' := [vR t]) rfl ?_
  refine j_getR hx flX0_175 kl112 h1 (by decide) (by decide +kernel) ?_
  refine j_runA hx 1 (tb := [(26, .iload_n 1)]) (jtb_ok (by decide +kernel)) (pc' := 27) (lv' := [(0, vR t), (1, vI a1)]) (st' := [vI a1, vR (jR W 112 t)]) rfl ?_
  refine j_OI (j_callV (av := [vI a1]) (st := []) hx hr (Or.inl q1954) q786 q3613 rfl md_fwr_at np_fwr_at (cwr_at (jR W 112 t) a1 W) (by decide) (Nat.le_of_ble_eq_true rfl) h2 (by decide) (by decide +kernel)) (fun q4 _ => ?_)
  refine j_goto hx (off := 4) (by decide +kernel) (tgt := 34) (by decide) ?_
  exact j_iret hx hm (by decide +kernel) rfl (he _)
theorem ccl_out (t : Nat) (a1 : Int32) (W : jW) : jM yX0_out cX0_out 2 (Option.some Jvm.ClassFile.FieldType.int) [] 3 40 [vR t, vI a1] W ((fcl_out t a1 W).bind (fun q => some (.returned (some (.int q)), W))) := 
  jM.of (Nat.le_of_ble_eq_true rfl) (fun x hx hm hr => wcl_out ⟨hx, hm, hr, fun _ => rfl⟩)
def hcl_check (x : jCx) (en : (Int32 × jW) → Option (Outcome × jW)) (t : Nat) : Prop :=
  jOK x RX0 cX0_check 2 ∧
  jMt x "check" (Option.some Jvm.ClassFile.FieldType.int) [(10, 21, 24, 120)] ∧
  jRm x 9 137 ∧
  (∀ q : Int32 × jW, en q = some (.returned (some (.int q.1)), q.2))
theorem wcl_check_24 {x : jCx} {en : (Int32 × jW) → Option (Outcome × jW)} {t : Nat} (h : hcl_check x en t) (s0 : Nat) (W : jW) : jJ x 2 24 [(0, vR t)] [vR s0] W (fcl_check_24 t s0 W) en := by
  have h0 := h
  obtain ⟨hx, hm, hr, he⟩ := h0
  unfold fcl_check_24
  refine j_runA hx 2 (tb := [(24, .astore_n 1), (25, .aload_n 0)]) (jtb_ok (by decide +kernel)) (pc' := 26) (lv' := [(1, vR s0), (0, vR t)]) (st' := [vR t]) rfl ?_
  refine j_gd (fun h7 => ?_)
  refine j_getR hx flX0_71 kl120 h7 (by decide) (by decide +kernel) ?_
  refine j_gd (fun h8 => ?_)
  refine j_getI hx flX0_348 kd300 h8 (by decide) (by decide +kernel) ?_
  exact j_iret hx hm (by decide +kernel) rfl (he _)
theorem wcl_check {x : jCx} {en : (Int32 × jW) → Option (Outcome × jW)} {t : Nat} (h : hcl_check x en t) (W : jW) : jJ x 2 0 [(0, vR t)] [] W (fcl_check t W) en := by
  have h0 := h
  obtain ⟨hx, hm, hr, he⟩ := h0
  unfold fcl_check
  refine j_runA hx 1 (tb := [(0, .aload_n 0)]) (jtb_ok (by decide +kernel)) (pc' := 1) (lv' := [(0, vR t)]) (st' := [vR t]) rfl ?_
  refine j_gd (fun h1 => ?_)
  refine j_getI hx flX0_132 kd107 h1 (by decide) (by decide +kernel) ?_
  refine j_if_ne hx (off := 6) (tgt := 10) (by decide +kernel) (by decide) (fun _ => ?_) (fun _ => ?_)
  · refine j_runA hx 1 (tb := [(10, .aload_n 0)]) (jtb_ok (by decide +kernel)) (pc' := 11) (lv' := [(0, vR t)]) (st' := [vR t]) rfl ?_
    refine j_getR hx flX0_80 kl121 h1 (by decide) (by decide +kernel) ?_
    refine j_runA hx 1 (tb := [(14, .aload_n 0)]) (jtb_ok (by decide +kernel)) (pc' := 15) (lv' := [(0, vR t)]) (st' := [vR t, vR (jR W 121 t)]) rfl ?_
    refine j_getR hx flX0_175 kl112 h1 (by decide) (by decide +kernel) ?_
    refine j_gd (fun h2 => ?_)
    refine j_EV (j_callV (av := [vR (jR W 112 t)]) (st := []) hx hr (Or.inl q1959) q741 q742 rfl md_fsh_take np_fsh_take (csh_take (jR W 121 t) (jR W 112 t) W) (by decide) (Nat.le_of_ble_eq_true rfl) h2 (by decide) (by decide +kernel)) (fun z _ => j_catch hx hm q732 rfl (by decide) (by decide) (fun _ => ?_)) (fun q3 _ => ?_)
    · exact wcl_check_24 h z.1 z.2
    refine j_goto hx (off := 12) (by decide +kernel) (tgt := 33) (by decide) ?_
    refine j_runA hx 1 (tb := [(33, .iconst 0)]) (jtb_ok (by decide +kernel)) (pc' := 34) (lv' := [(0, vR t)]) (st' := [vI (kI 0)]) rfl ?_
    exact j_iret hx hm (by decide +kernel) rfl (he _)
  refine j_runA hx 1 (tb := [(7, .bipush (-14))]) (jtb_ok (by decide +kernel)) (pc' := 9) (lv' := [(0, vR t)]) (st' := [vI (kI (-14))]) rfl ?_
  exact j_iret hx hm (by decide +kernel) rfl (he _)
theorem ccl_check (t : Nat) (W : jW) : jM yX0_check cX0_check 2 (Option.some Jvm.ClassFile.FieldType.int) [(10, 21, 24, 120)] 9 137 [vR t] W ((fcl_check t W).bind (fun q => some (.returned (some (.int q.1)), q.2))) := 
  jM.of (Nat.le_of_ble_eq_true rfl) (fun x hx hm hr => wcl_check ⟨hx, hm, hr, fun _ => rfl⟩ W)
def hcl_same (x : jCx) (en : (fcl_same_S ⊕ (Int32 × jW)) → Option (Outcome × jW)) (t : Nat) : Prop :=
  jOK x RX0 cX0_same 3 ∧
  jMt x "same" (Option.some Jvm.ClassFile.FieldType.boolean) [] ∧
  jRm x 13 187 ∧
  (∀ q : Int32 × jW, en (.inr q) = some (.returned (some (.int q.1)), q.2)) ∧
  (∀ (l1 : Int32) (W : jW), jJ x 3 39 [(0, vR t), (1, vI l1)] [] W (some (.inl (.inl (l1, W)))) en) ∧
  (∀ (l1 : Int32) (l2 : Int32) (W : jW), jJ x 3 126 [(0, vR t), (1, vI l1), (2, vI l2)] [] W (some (.inl (.inr (l1, l2, W)))) en)
theorem wcl_same_171 {x : jCx} {en : (fcl_same_S ⊕ (Int32 × jW)) → Option (Outcome × jW)} {t : Nat} (h : hcl_same x en t) (l2 : Int32) (s0 : Int32) (W : jW) : jJ x 3 171 [(0, vR t), (2, vI l2)] [vI s0] W (fcl_same_171 t l2 s0 W) en := by
  have h0 := h
  obtain ⟨hx, hm, hr, he, k39, k126⟩ := h0
  unfold fcl_same_171
  refine j_runA hx 2 (tb := [(171, .istore_n 1), (172, .iinc 2 1)]) (jtb_ok (by decide +kernel)) (pc' := 175) (lv' := [(2, vI (l2 + (kI 1))), (1, vI s0), (0, vR t)]) (st' := []) rfl ?_
  refine j_let (v := (l2 + (kI 1))) (lv := fun v51 => [(2, vI v51), (1, vI s0), (0, vR t)]) (st := fun _ => []) (fun v51 => ?_)
  refine j_goto hx (off := -49) (by decide +kernel) (tgt := 126) (by decide) ?_
  refine j_lv (lv' := [(0, vR t), (1, vI s0), (2, vI v51)]) ⟨rfl, rfl, rfl, trivial⟩ ?_
  exact k126 s0 v51 W
theorem wcl_same_178 {x : jCx} {en : (fcl_same_S ⊕ (Int32 × jW)) → Option (Outcome × jW)} {t : Nat} (h : hcl_same x en t) (l1 : Int32) (W : jW) : jJ x 3 178 [(0, vR t), (1, vI l1)] [] W (fcl_same_178 t l1 W) en := by
  have h0 := h
  obtain ⟨hx, hm, hr, he, k39, k126⟩ := h0
  unfold fcl_same_178
  refine j_runA hx 1 (tb := [(178, .iload_n 1)]) (jtb_ok (by decide +kernel)) (pc' := 179) (lv' := [(0, vR t), (1, vI l1)]) (st' := [vI l1]) rfl ?_
  refine j_gd (fun h53 => ?_)
  exact j_iret hx hm (by decide +kernel) (jzn h53) (he _)
theorem wcl_same_126 {x : jCx} {en : (fcl_same_S ⊕ (Int32 × jW)) → Option (Outcome × jW)} {t : Nat} (h : hcl_same x en t) (l1 : Int32) (l2 : Int32) (W : jW) : jJ x 3 126 [(0, vR t), (1, vI l1), (2, vI l2)] [] W (fcl_same_126 t l1 l2 W) en := by
  have h0 := h
  obtain ⟨hx, hm, hr, he, k39, k126⟩ := h0
  unfold fcl_same_126
  refine j_runA hx 2 (tb := [(126, .iload_n 2), (127, .aload_n 0)]) (jtb_ok (by decide +kernel)) (pc' := 128) (lv' := [(0, vR t), (1, vI l1), (2, vI l2)]) (st' := [vR t, vI l2]) rfl ?_
  refine j_gd (fun h44 => ?_)
  refine j_getR hx flX0_29 kl104 h44 (by decide) (by decide +kernel) ?_
  refine j_gd (fun h45 => ?_)
  refine j_getR hx flX0_99 kl202 h45 (by decide) (by decide +kernel) ?_
  refine j_gd (fun h46 => ?_)
  refine j_getI hx flX0_114 kd501 h46 (by decide) (by decide +kernel) ?_
  refine j_icmp_ge hx (off := 41) (tgt := 178) (by decide +kernel) (by decide) (fun _ => ?_) (fun _ => ?_)
  · refine j_lv (lv' := [(0, vR t), (1, vI l1)]) ⟨rfl, rfl, trivial⟩ ?_
    exact wcl_same_178 h l1 W
  refine j_runA hx 1 (tb := [(140, .iload_n 1)]) (jtb_ok (by decide +kernel)) (pc' := 141) (lv' := [(0, vR t), (1, vI l1), (2, vI l2)]) (st' := [vI l1]) rfl ?_
  refine j_if_eq hx (off := 37) (tgt := 178) (by decide +kernel) (by decide) (fun _ => ?_) (fun _ => ?_)
  · refine j_lv (lv' := [(0, vR t), (1, vI l1)]) ⟨rfl, rfl, trivial⟩ ?_
    exact wcl_same_178 h l1 W
  refine j_runA hx 1 (tb := [(144, .aload_n 0)]) (jtb_ok (by decide +kernel)) (pc' := 145) (lv' := [(0, vR t), (1, vI l1), (2, vI l2)]) (st' := [vR t]) rfl ?_
  refine j_getR hx flX0_179 kl113 h44 (by decide) (by decide +kernel) ?_
  refine j_runA hx 1 (tb := [(148, .iload_n 2)]) (jtb_ok (by decide +kernel)) (pc' := 149) (lv' := [(0, vR t), (1, vI l1), (2, vI l2)]) (st' := [vI l2, vR (jR W 113 t)]) rfl ?_
  refine j_gd (fun h47 => ?_)
  refine j_OI (j_callV (av := [vI l2]) (st := []) hx hr (Or.inl q1954) q786 q3613 rfl md_fwr_at np_fwr_at (cwr_at (jR W 113 t) l2 W) (by decide) (Nat.le_of_ble_eq_true rfl) h47 (by decide) (by decide +kernel)) (fun q48 _ => ?_)
  refine j_runA hx 1 (tb := [(152, .aload_n 0)]) (jtb_ok (by decide +kernel)) (pc' := 153) (lv' := [(0, vR t), (1, vI l1), (2, vI l2)]) (st' := [vR t, vI q48]) rfl ?_
  refine j_getR hx flX0_29 kl104 h44 (by decide) (by decide +kernel) ?_
  refine j_getR hx flX0_99 kl202 h45 (by decide) (by decide +kernel) ?_
  refine j_runA hx 1 (tb := [(159, .iload_n 2)]) (jtb_ok (by decide +kernel)) (pc' := 160) (lv' := [(0, vR t), (1, vI l1), (2, vI l2)]) (st' := [vI l2, vR (jR W 202 (jR W 104 t)), vI q48]) rfl ?_
  refine j_OI (j_callV (av := [vI l2]) (st := [vI q48]) hx hr (Or.inl q1964) q783 q3614 rfl md_fhe_at np_fhe_at (che_at (jR W 202 (jR W 104 t)) l2 W) (by decide) (Nat.le_of_ble_eq_true rfl) h46 (by decide) (by decide +kernel)) (fun q49 _ => ?_)
  refine j_icmp_ne hx (off := 7) (tgt := 170) (by decide +kernel) (by decide) (fun _ => ?_) (fun _ => ?_)
  · refine j_runA hx 1 (tb := [(170, .iconst 0)]) (jtb_ok (by decide +kernel)) (pc' := 171) (lv' := [(0, vR t), (1, vI l1), (2, vI l2)]) (st' := [vI (kI 0)]) rfl ?_
    refine j_lv (lv' := [(0, vR t), (2, vI l2)]) ⟨rfl, rfl, trivial⟩ ?_
    exact wcl_same_171 h l2 (kI 0) W
  refine j_runA hx 1 (tb := [(166, .iconst 1)]) (jtb_ok (by decide +kernel)) (pc' := 167) (lv' := [(0, vR t), (1, vI l1), (2, vI l2)]) (st' := [vI (kI 1)]) rfl ?_
  refine j_goto hx (off := 4) (by decide +kernel) (tgt := 171) (by decide) ?_
  refine j_lv (lv' := [(0, vR t), (2, vI l2)]) ⟨rfl, rfl, trivial⟩ ?_
  exact wcl_same_171 h l2 (kI 1) W
theorem wcl_same_123 {x : jCx} {en : (fcl_same_S ⊕ (Int32 × jW)) → Option (Outcome × jW)} {t : Nat} (h : hcl_same x en t) (s0 : Int32) (W : jW) : jJ x 3 123 [(0, vR t)] [vI s0] W (fcl_same_123 t s0 W) en := by
  have h0 := h
  obtain ⟨hx, hm, hr, he, k39, k126⟩ := h0
  unfold fcl_same_123
  refine j_runA hx 3 (tb := [(123, .istore_n 1), (124, .iconst 0), (125, .istore_n 2)]) (jtb_ok (by decide +kernel)) (pc' := 126) (lv' := [(2, vI (kI 0)), (1, vI s0), (0, vR t)]) (st' := []) rfl ?_
  refine j_lv (lv' := [(0, vR t), (1, vI s0), (2, vI (kI 0))]) ⟨rfl, rfl, rfl, trivial⟩ ?_
  exact k126 s0 (kI 0) W
theorem wcl_same_39 {x : jCx} {en : (fcl_same_S ⊕ (Int32 × jW)) → Option (Outcome × jW)} {t : Nat} (h : hcl_same x en t) (l1 : Int32) (W : jW) : jJ x 3 39 [(0, vR t), (1, vI l1)] [] W (fcl_same_39 t l1 W) en := by
  have h0 := h
  obtain ⟨hx, hm, hr, he, k39, k126⟩ := h0
  unfold fcl_same_39
  refine j_runA hx 2 (tb := [(39, .iload_n 1), (40, .aload_n 0)]) (jtb_ok (by decide +kernel)) (pc' := 41) (lv' := [(0, vR t), (1, vI l1)]) (st' := [vR t, vI l1]) rfl ?_
  refine j_gd (fun h18 => ?_)
  refine j_getR hx flX0_29 kl104 h18 (by decide) (by decide +kernel) ?_
  refine j_gd (fun h19 => ?_)
  refine j_getI hx flX0_188 kd217 h19 (by decide) (by decide +kernel) ?_
  refine j_icmp_ge hx (off := 16) (tgt := 63) (by decide +kernel) (by decide) (fun _ => ?_) (fun _ => ?_)
  · refine j_runA hx 1 (tb := [(63, .aload_n 0)]) (jtb_ok (by decide +kernel)) (pc' := 64) (lv' := [(0, vR t), (1, vI l1)]) (st' := [vR t]) rfl ?_
    refine j_getR hx flX0_179 kl113 h18 (by decide) (by decide +kernel) ?_
    refine j_runA hx 1 (tb := [(67, .aload_n 0)]) (jtb_ok (by decide +kernel)) (pc' := 68) (lv' := [(0, vR t), (1, vI l1)]) (st' := [vR t, vR (jR W 113 t)]) rfl ?_
    refine j_getR hx flX0_84 kl122 h18 (by decide) (by decide +kernel) ?_
    refine j_runA hx 1 (tb := [(71, .aload_n 0)]) (jtb_ok (by decide +kernel)) (pc' := 72) (lv' := [(0, vR t), (1, vI l1)]) (st' := [vR t, vR (jR W 122 t), vR (jR W 113 t)]) rfl ?_
    refine j_getR hx flX0_29 kl104 h18 (by decide) (by decide +kernel) ?_
    refine j_getI hx flX0_188 kd217 h19 (by decide) (by decide +kernel) ?_
    refine j_runA hx 1 (tb := [(78, .iconst 4)]) (jtb_ok (by decide +kernel)) (pc' := 79) (lv' := [(0, vR t), (1, vI l1)]) (st' := [vI (kI 4), vI (jI W 217 (jR W 104 t)), vR (jR W 122 t), vR (jR W 113 t)]) rfl ?_
    refine j_gd (fun h20 => ?_)
    refine j_WV (j_callV (av := [vR (jR W 122 t), vI (jI W 217 (jR W 104 t)), vI (kI 4)]) (st := []) hx hr (Or.inl q1780) q1781 q1782 rfl md_fwr_write np_fwr_write (cwr_write (jR W 113 t) (jR W 122 t) (jI W 217 (jR W 104 t)) (kI 4) W) (by decide) (Nat.le_of_ble_eq_true rfl) h20 (by decide) (by decide +kernel)) (fun q21 _ => ?_)
    refine j_runA hx 2 (tb := [(82, .aload_n 0), (83, .dup)]) (jtb_ok (by decide +kernel)) (pc' := 84) (lv' := [(0, vR t), (1, vI l1)]) (st' := [vR t, vR t]) rfl ?_
    refine j_gd (fun h23 => ?_)
    refine j_getI hx flX0_314 kd123 h23 (by decide) (by decide +kernel) ?_
    refine j_runA hx 1 (tb := [(87, .aload_n 0)]) (jtb_ok (by decide +kernel)) (pc' := 88) (lv' := [(0, vR t), (1, vI l1)]) (st' := [vR t, vI (jI q21 123 t), vR t]) rfl ?_
    refine j_getR hx flX0_179 kl113 h23 (by decide) (by decide +kernel) ?_
    refine j_gd (fun h24 => ?_)
    refine j_getI hx flX0_317 kd919 h24 (by decide) (by decide +kernel) ?_
    refine j_runA hx 1 (tb := [(94, .iadd)]) (jtb_ok (by decide +kernel)) (pc' := 95) (lv' := [(0, vR t), (1, vI l1)]) (st' := [vI ((jI q21 123 t) + (jI q21 919 (jR q21 113 t))), vR t]) rfl ?_
    refine j_putI hx fwX0_314 wf123 kd123 h23 (by decide) (by decide +kernel) (ni123 _) (fi123 _) ?_
    refine j_ltw rfl (fun W25 hc26 => ?_)
    have h27 : jC W25 t = 1 := (congrFun hc26 _).trans h23
    have h28 : jC W25 (jR q21 113 t) = 9 := (congrFun hc26 _).trans h24
    refine j_runA hx 1 (tb := [(98, .aload_n 0)]) (jtb_ok (by decide +kernel)) (pc' := 99) (lv' := [(0, vR t), (1, vI l1)]) (st' := [vR t]) rfl ?_
    refine j_getR hx flX0_179 kl113 h27 (by decide) (by decide +kernel) ?_
    refine j_gd (fun h30 => ?_)
    refine j_OI (j_callV (av := []) (st := []) hx hr (Or.inl q1949) q755 q3612 rfl md_fwr_size np_fwr_size (cwr_size (jR W25 113 t) W25) (by decide) (Nat.le_of_ble_eq_true rfl) h30 (by decide) (by decide +kernel)) (fun q31 _ => ?_)
    refine j_runA hx 1 (tb := [(105, .aload_n 0)]) (jtb_ok (by decide +kernel)) (pc' := 106) (lv' := [(0, vR t), (1, vI l1)]) (st' := [vR t, vI q31]) rfl ?_
    refine j_getR hx flX0_29 kl104 h27 (by decide) (by decide +kernel) ?_
    refine j_gd (fun h32 => ?_)
    refine j_getR hx flX0_99 kl202 h32 (by decide) (by decide +kernel) ?_
    refine j_gd (fun h33 => ?_)
    refine j_getI hx flX0_114 kd501 h33 (by decide) (by decide +kernel) ?_
    refine j_icmp_ne hx (off := 7) (tgt := 122) (by decide +kernel) (by decide) (fun _ => ?_) (fun _ => ?_)
    · refine j_runA hx 1 (tb := [(122, .iconst 0)]) (jtb_ok (by decide +kernel)) (pc' := 123) (lv' := [(0, vR t), (1, vI l1)]) (st' := [vI (kI 0)]) rfl ?_
      refine j_lv (lv' := [(0, vR t)]) ⟨rfl, trivial⟩ ?_
      exact wcl_same_123 h (kI 0) W25
    refine j_runA hx 1 (tb := [(118, .iconst 1)]) (jtb_ok (by decide +kernel)) (pc' := 119) (lv' := [(0, vR t), (1, vI l1)]) (st' := [vI (kI 1)]) rfl ?_
    refine j_goto hx (off := 4) (by decide +kernel) (tgt := 123) (by decide) ?_
    refine j_lv (lv' := [(0, vR t)]) ⟨rfl, trivial⟩ ?_
    exact wcl_same_123 h (kI 1) W25
  refine j_runA hx 1 (tb := [(50, .aload_n 0)]) (jtb_ok (by decide +kernel)) (pc' := 51) (lv' := [(0, vR t), (1, vI l1)]) (st' := [vR t]) rfl ?_
  refine j_getR hx flX0_84 kl122 h18 (by decide) (by decide +kernel) ?_
  refine j_runA hx 2 (tb := [(54, .iload_n 1), (55, .iload_n 1)]) (jtb_ok (by decide +kernel)) (pc' := 56) (lv' := [(0, vR t), (1, vI l1)]) (st' := [vI l1, vI l1, vR (jR W 122 t)]) rfl ?_
  refine j_gd (fun h34 => ?_)
  refine j_gd (fun h35 => ?_)
  refine j_iast hx (f := 9003) (o := (jR W 122 t)) kd9003 h34 (by decide +kernel) h35 ?_
  refine j_ltw rfl (fun W36 hc37 => ?_)
  have h38 : jC W36 t = 1 := (congrFun hc37 _).trans h18
  have h39 : jC W36 (jR W 104 t) = 2 := (congrFun hc37 _).trans h19
  refine j_runA hx 1 (tb := [(57, .iinc 1 1)]) (jtb_ok (by decide +kernel)) (pc' := 60) (lv' := [(1, vI (l1 + (kI 1))), (0, vR t)]) (st' := []) rfl ?_
  refine j_let (v := (l1 + (kI 1))) (lv := fun v41 => [(1, vI v41), (0, vR t)]) (st := fun _ => []) (fun v41 => ?_)
  refine j_goto hx (off := -21) (by decide +kernel) (tgt := 39) (by decide) ?_
  refine j_lv (lv' := [(0, vR t), (1, vI v41)]) ⟨rfl, rfl, trivial⟩ ?_
  exact k39 v41 W36
theorem wcl_same_37 {x : jCx} {en : (fcl_same_S ⊕ (Int32 × jW)) → Option (Outcome × jW)} {t : Nat} (h : hcl_same x en t) (W : jW) : jJ x 3 37 [(0, vR t)] [] W (fcl_same_37 t W) en := by
  have h0 := h
  obtain ⟨hx, hm, hr, he, k39, k126⟩ := h0
  unfold fcl_same_37
  refine j_runA hx 2 (tb := [(37, .iconst 0), (38, .istore_n 1)]) (jtb_ok (by decide +kernel)) (pc' := 39) (lv' := [(1, vI (kI 0)), (0, vR t)]) (st' := []) rfl ?_
  refine j_lv (lv' := [(0, vR t), (1, vI (kI 0))]) ⟨rfl, rfl, trivial⟩ ?_
  exact k39 (kI 0) W
theorem wcl_same {x : jCx} {en : (fcl_same_S ⊕ (Int32 × jW)) → Option (Outcome × jW)} {t : Nat} (h : hcl_same x en t) (W : jW) : jJ x 3 0 [(0, vR t)] [] W (fcl_same_0 t W) en := by
  have h0 := h
  obtain ⟨hx, hm, hr, he, k39, k126⟩ := h0
  unfold fcl_same_0
  refine j_runA hx 1 (tb := [(0, .aload_n 0)]) (jtb_ok (by decide +kernel)) (pc' := 1) (lv' := [(0, vR t)]) (st' := [vR t]) rfl ?_
  refine j_gd (fun h1 => ?_)
  refine j_getI hx flX0_128 kd106 h1 (by decide) (by decide +kernel) ?_
  refine j_if_ne hx (off := 5) (tgt := 9) (by decide +kernel) (by decide) (fun _ => ?_) (fun _ => ?_)
  · refine j_runA hx 1 (tb := [(9, .aload_n 0)]) (jtb_ok (by decide +kernel)) (pc' := 10) (lv' := [(0, vR t)]) (st' := [vR t]) rfl ?_
    refine j_getR hx flX0_84 kl122 h1 (by decide) (by decide +kernel) ?_
    refine j_gd (fun h2 => ?_)
    refine j_gd (fun h3 => ?_)
    refine j_alen hx (f := 9003) (o := (jR W 122 t)) kg9003 kh9003 h2 (by decide +kernel) h3 ?_
    refine j_runA hx 1 (tb := [(14, .aload_n 0)]) (jtb_ok (by decide +kernel)) (pc' := 15) (lv' := [(0, vR t)]) (st' := [vR t, vI (nI (jN W 9003 (jR W 122 t)))]) rfl ?_
    refine j_getR hx flX0_29 kl104 h1 (by decide) (by decide +kernel) ?_
    refine j_gd (fun h4 => ?_)
    refine j_getI hx flX0_188 kd217 h4 (by decide) (by decide +kernel) ?_
    refine j_icmp_ge hx (off := 16) (tgt := 37) (by decide +kernel) (by decide) (fun _ => ?_) (fun _ => ?_)
    · exact wcl_same_37 h W
    refine j_runA hx 2 (tb := [(24, .aload_n 0), (25, .aload_n 0)]) (jtb_ok (by decide +kernel)) (pc' := 26) (lv' := [(0, vR t)]) (st' := [vR t, vR t]) rfl ?_
    refine j_getR hx flX0_29 kl104 h1 (by decide) (by decide +kernel) ?_
    refine j_getI hx flX0_188 kd217 h4 (by decide) (by decide +kernel) ?_
    refine j_gd (fun h5 => ?_)
    refine j_newA hx (f := 9003) (by decide) ka9003 ja9003_3 (by decide +kernel) h5 ?_
    refine j_ltw rfl (fun W6 hc7 => ?_)
    have h8 : jC W6 t = 1 := (congrFun hc7 _).trans h1
    have h9 : jC W6 (jR W 104 t) = 2 := (congrFun hc7 _).trans h4
    refine j_putR hx fwX0_84 wf122 kd122 h8 (by decide) (by decide +kernel) nr122 fr122 ?_
    refine j_ltw rfl (fun W11 hc12 => ?_)
    have h13 : jC W11 t = 1 := (congrFun hc12 _).trans h8
    have h14 : jC W11 (jR W 104 t) = 2 := (congrFun hc12 _).trans h9
    exact wcl_same_37 h W11
  refine j_runA hx 1 (tb := [(7, .iconst 0)]) (jtb_ok (by decide +kernel)) (pc' := 8) (lv' := [(0, vR t)]) (st' := [vI (kI 0)]) rfl ?_
  exact j_iret hx hm (by decide +kernel) jz0n (he _)
theorem ccl_same (t : Nat) (W : jW) : jM yX0_same cX0_same 3 (Option.some Jvm.ClassFile.FieldType.boolean) [] 13 187 [vR t] W ((fcl_same t W).bind (fun q => some (.returned (some (.int q.1)), q.2))) := by
  refine jM.of (Nat.le_of_ble_eq_true rfl) (fun x hx hm hr => ?_)
  refine j_begin (P := (Sum.elim (fun s => (39, [(0, vR t), (1, vI s.1)], s.2)) (fun s => (126, [(0, vR t), (1, vI s.1), (2, vI s.2.1)], s.2.2)))) (fun en he hk => ?_)
  have h : hcl_same x en t := ⟨hx, hm, hr, fun q => he _, fun l1 W => hk (.inl (l1, W)), fun l1 l2 W => hk (.inr (l1, l2, W))⟩
  refine ⟨fun s => ?_, wcl_same h W⟩
  rcases s with s | s
  · exact wcl_same_39 h s.1 s.2
  · exact wcl_same_126 h s.1 s.2.1 s.2.2
def hcl_strays (x : jCx) (en : (Int32) → Option (Outcome × jW)) (t : Nat) (W : jW) : Prop :=
  jOK x RX0 cX0_strays 1 ∧
  jMt x "strays" (Option.some Jvm.ClassFile.FieldType.int) [] ∧
  jRm x 0 0 ∧
  (∀ q : Int32, en q = some (.returned (some (.int q)), W))
theorem wcl_strays {x : jCx} {en : (Int32) → Option (Outcome × jW)} {W : jW} {t : Nat} (h : hcl_strays x en t W) : jJ x 1 0 [(0, vR t)] [] W (fcl_strays t W) en := by
  have h0 := h
  obtain ⟨hx, hm, hr, he⟩ := h0
  unfold fcl_strays
  refine j_runA hx 1 (tb := [(0, .aload_n 0)]) (jtb_ok (by decide +kernel)) (pc' := 1) (lv' := [(0, vR t)]) (st' := [vR t]) rfl ?_
  refine j_gd (fun h1 => ?_)
  refine j_getI hx flX0_314 kd123 h1 (by decide) (by decide +kernel) ?_
  exact j_iret hx hm (by decide +kernel) rfl (he _)
theorem ccl_strays (t : Nat) (W : jW) : jM yX0_strays cX0_strays 1 (Option.some Jvm.ClassFile.FieldType.int) [] 0 0 [vR t] W ((fcl_strays t W).bind (fun q => some (.returned (some (.int q)), W))) := 
  jM.of (Nat.le_of_ble_eq_true rfl) (fun x hx hm hr => wcl_strays ⟨hx, hm, hr, fun _ => rfl⟩)
def hma_isNew (x : jCx) (en : (Int32) → Option (Outcome × jW)) (t : Nat) (W : jW) : Prop :=
  jOK x RX15 cX15_isNew 1 ∧
  jMt x "isNew" (Option.some Jvm.ClassFile.FieldType.boolean) [] ∧
  jRm x 0 0 ∧
  (∀ q : Int32, en q = some (.returned (some (.int q)), W))
theorem wma_isNew {x : jCx} {en : (Int32) → Option (Outcome × jW)} {W : jW} {t : Nat} (h : hma_isNew x en t W) : jJ x 1 0 [(0, vR t)] [] W (fma_isNew t W) en := by
  have h0 := h
  obtain ⟨hx, hm, hr, he⟩ := h0
  unfold fma_isNew
  refine j_runA hx 1 (tb := [(0, .aload_n 0)]) (jtb_ok (by decide +kernel)) (pc' := 1) (lv' := [(0, vR t)]) (st' := [vR t]) rfl ?_
  refine j_gd (fun h1 => ?_)
  refine j_getI hx flX15_39 kd1000 h1 (by decide) (by decide +kernel) ?_
  refine j_runA hx 1 (tb := [(4, .iconst 2)]) (jtb_ok (by decide +kernel)) (pc' := 5) (lv' := [(0, vR t)]) (st' := [vI (kI 2), vI (jI W 1000 t)]) rfl ?_
  refine j_icmp_ne hx (off := 7) (tgt := 12) (by decide +kernel) (by decide) (fun _ => ?_) (fun _ => ?_)
  · refine j_runA hx 1 (tb := [(12, .iconst 0)]) (jtb_ok (by decide +kernel)) (pc' := 13) (lv' := [(0, vR t)]) (st' := [vI (kI 0)]) rfl ?_
    exact j_iret hx hm (by decide +kernel) jz0n (he _)
  refine j_runA hx 1 (tb := [(8, .iconst 1)]) (jtb_ok (by decide +kernel)) (pc' := 9) (lv' := [(0, vR t)]) (st' := [vI (kI 1)]) rfl ?_
  refine j_goto hx (off := 4) (by decide +kernel) (tgt := 13) (by decide) ?_
  exact j_iret hx hm (by decide +kernel) jz1n (he _)
theorem cma_isNew (t : Nat) (W : jW) : jM yX15_isNew cX15_isNew 1 (Option.some Jvm.ClassFile.FieldType.boolean) [] 0 0 [vR t] W ((fma_isNew t W).bind (fun q => some (.returned (some (.int q)), W))) := 
  jM.of (Nat.le_of_ble_eq_true rfl) (fun x hx hm hr => wma_isNew ⟨hx, hm, hr, fun _ => rfl⟩)
