/-! ===== walks: fmo_gather fmo_falls fmo_comesBefore fmo_join fmo_leastChain fmo_placeChain fmo_bestChain ===== -/
set_option maxRecDepth 100000
def hmo_gather (x : jCx) (en : (fmo_gather_S ⊕ (jW)) → Option (Outcome × jW)) (t : Nat) (a1 : Int32) : Prop :=
  jOK x RX8 cX8_gather 8 ∧
  jMt x "gather" (Option.none : Option Jvm.ClassFile.FieldType) [] ∧
  jRm x 1 19 ∧
  (∀ q : jW, en (.inr q) = some (.returned none, q)) ∧
  (∀ (l2 : Int32) (W : jW), jJ x 8 2 [(0, vR t), (1, vI a1), (2, vI l2)] [] W (some (.inl (.inl (l2, W)))) en) ∧
  (∀ (l2 : Int32) (W : jW), jJ x 8 97 [(0, vR t), (1, vI a1), (2, vI l2)] [] W (some (.inl (.inr (.inl (l2, W))))) en) ∧
  (∀ (l2 : Int32) (l3 : Int32) (l4 : Int32) (W : jW), jJ x 8 110 [(0, vR t), (1, vI a1), (2, vI l2), (3, vI l3), (4, vI l4)] [] W (some (.inl (.inr (.inr (.inl (l2, l3, l4, W)))))) en) ∧
  (∀ (l2 : Int32) (l5 : Int32) (l6 : Int32) (l7 : Int32) (W : jW), jJ x 8 264 [(0, vR t), (1, vI a1), (2, vI l2), (5, vI l5), (6, vI l6), (7, vI l7)] [] W (some (.inl (.inr (.inr (.inr (l2, l5, l6, l7, W)))))) en)
theorem wmo_gather_42 {x : jCx} {en : (fmo_gather_S ⊕ (jW)) → Option (Outcome × jW)} {t : Nat} {a1 : Int32} (h : hmo_gather x en t a1) (l2 : Int32) (s0 : Int32) (s1 : Int32) (s2 : Nat) (W : jW) : jJ x 8 42 [(0, vR t), (1, vI a1), (2, vI l2)] [vI s0, vI s1, vR s2] W (fmo_gather_42 t a1 l2 s0 s1 s2 W) en := by
  have h0 := h
  obtain ⟨hx, hm, hr, he, k2, k97, k110, k264⟩ := h0
  unfold fmo_gather_42
  refine j_gd (fun h15 => ?_)
  refine j_gd (fun h16 => ?_)
  refine j_iast hx (f := 1344) (o := t) kd1344 h15 (by decide +kernel) h16 ?_
  refine j_ltw rfl (fun W17 hc18 => ?_)
  refine j_runA hx 1 (tb := [(43, .aload_n 0)]) (jtb_ok (by decide +kernel)) (pc' := 44) (lv' := [(0, vR t), (1, vI a1), (2, vI l2)]) (st' := [vR t]) rfl ?_
  refine j_gd (fun h20 => ?_)
  refine j_getR hx flX8_129 kl1347 h20 (by decide) (by decide +kernel) ?_
  refine j_runA hx 3 (tb := [(47, .iload_n 2), (48, .aload_n 0), (49, .iload_n 2)]) (jtb_ok (by decide +kernel)) (pc' := 50) (lv' := [(0, vR t), (1, vI a1), (2, vI l2)]) (st' := [vI l2, vR t, vI l2, vR (jR W17 1347 t)]) rfl ?_
  refine j_OL (j_callV (av := [vI l2]) (st := [vI l2, vR (jR W17 1347 t)]) hx hr (Or.inl q3084) q3086 qs149 rfl md_fmo_heat np_fmo_heat (cmo_heat t l2 W17) (by decide) (Nat.le_of_ble_eq_true rfl) h20 (by decide) (by decide +kernel)) (fun q21 _ => ?_)
  refine j_gd (fun h22 => ?_)
  refine j_last hx (f := 1347) (o := t) kd1347 rfl (by decide +kernel) h22 ?_
  refine j_ltw rfl (fun W23 hc24 => ?_)
  have h25 : jC W23 t = 13 := (congrFun hc24 _).trans h20
  refine j_runA hx 1 (tb := [(54, .aload_n 0)]) (jtb_ok (by decide +kernel)) (pc' := 55) (lv' := [(0, vR t), (1, vI a1), (2, vI l2)]) (st' := [vR t]) rfl ?_
  refine j_getR hx flX8_123 kl1345 h25 (by decide) (by decide +kernel) ?_
  refine j_runA hx 2 (tb := [(58, .iload_n 2), (59, .aload_n 0)]) (jtb_ok (by decide +kernel)) (pc' := 60) (lv' := [(0, vR t), (1, vI a1), (2, vI l2)]) (st' := [vR t, vI l2, vR (jR W23 1345 t)]) rfl ?_
  refine j_getR hx flX8_129 kl1347 h25 (by decide) (by decide +kernel) ?_
  refine j_runA hx 1 (tb := [(63, .iload_n 2)]) (jtb_ok (by decide +kernel)) (pc' := 64) (lv' := [(0, vR t), (1, vI a1), (2, vI l2)]) (st' := [vI l2, vR (jR W23 1347 t), vI l2, vR (jR W23 1345 t)]) rfl ?_
  refine j_gd (fun h27 => ?_)
  refine j_lald hx (f := 1347) (o := t) kd1347 rfl (by decide +kernel) h27 ?_
  refine j_gd (fun h28 => ?_)
  refine j_last hx (f := 1345) (o := t) kd1345 rfl (by decide +kernel) h28 ?_
  refine j_ltw rfl (fun W29 hc30 => ?_)
  have h31 : jC W29 t = 13 := (congrFun hc30 _).trans h25
  refine j_runA hx 1 (tb := [(66, .aload_n 0)]) (jtb_ok (by decide +kernel)) (pc' := 67) (lv' := [(0, vR t), (1, vI a1), (2, vI l2)]) (st' := [vR t]) rfl ?_
  refine j_getR hx flX8_126 kl1346 h31 (by decide) (by decide +kernel) ?_
  refine j_runA hx 1 (tb := [(70, .iload_n 2)]) (jtb_ok (by decide +kernel)) (pc' := 71) (lv' := [(0, vR t), (1, vI a1), (2, vI l2)]) (st' := [vI l2, vR (jR W29 1346 t)]) rfl ?_
  refine j_ldc2 hx (v := (kJ 4)) (jkd2 q2931 (by decide +kernel)) (by decide +kernel) ?_
  refine j_runA hx 2 (tb := [(74, .aload_n 0), (75, .iload_n 2)]) (jtb_ok (by decide +kernel)) (pc' := 76) (lv' := [(0, vR t), (1, vI a1), (2, vI l2)]) (st' := [vI l2, vR t, vL (kJ 4), vI l2, vR (jR W29 1346 t)]) rfl ?_
  refine j_OI (j_callV (av := [vI l2]) (st := [vL (kJ 4), vI l2, vR (jR W29 1346 t)]) hx hr (Or.inl q3215) q3217 qs161 rfl md_fmo_hotWords np_fmo_hotWords (cmo_hotWords t l2 W29) (by decide) (Nat.le_of_ble_eq_true rfl) h31 (by decide) (by decide +kernel)) (fun q33 _ => ?_)
  refine j_runA hx 2 (tb := [(79, .i2l), (80, .lmul)]) (jtb_ok (by decide +kernel)) (pc' := 81) (lv' := [(0, vR t), (1, vI a1), (2, vI l2)]) (st' := [vL ((kJ 4) * q33.toInt64), vI l2, vR (jR W29 1346 t)]) rfl ?_
  refine j_gd (fun h34 => ?_)
  refine j_last hx (f := 1346) (o := t) kd1346 rfl (by decide +kernel) h34 ?_
  refine j_ltw rfl (fun W35 hc36 => ?_)
  have h37 : jC W35 t = 13 := (congrFun hc36 _).trans h31
  refine j_runA hx 1 (tb := [(82, .aload_n 0)]) (jtb_ok (by decide +kernel)) (pc' := 83) (lv' := [(0, vR t), (1, vI a1), (2, vI l2)]) (st' := [vR t]) rfl ?_
  refine j_getR hx flX8_99 kl1337 h37 (by decide) (by decide +kernel) ?_
  refine j_runA hx 2 (tb := [(86, .iload_n 2), (87, .iconst 0)]) (jtb_ok (by decide +kernel)) (pc' := 88) (lv' := [(0, vR t), (1, vI a1), (2, vI l2)]) (st' := [vI (kI 0), vI l2, vR (jR W35 1337 t)]) rfl ?_
  refine j_gd (fun h39 => ?_)
  refine j_zast hx (f := 1337) (o := t) kd1337 rfl (by decide +kernel) h39 ?_
  refine j_ltw rfl (fun W40 hc41 => ?_)
  have h42 : jC W40 t = 13 := (congrFun hc41 _).trans h37
  refine j_runA hx 1 (tb := [(89, .iinc 2 1)]) (jtb_ok (by decide +kernel)) (pc' := 92) (lv' := [(2, vI (l2 + (kI 1))), (0, vR t), (1, vI a1)]) (st' := []) rfl ?_
  refine j_let (v := (l2 + (kI 1))) (lv := fun v44 => [(2, vI v44), (0, vR t), (1, vI a1)]) (st := fun _ => []) (fun v44 => ?_)
  refine j_goto hx (off := -90) (by decide +kernel) (tgt := 2) (by decide) ?_
  refine j_lv (lv' := [(0, vR t), (1, vI a1), (2, vI v44)]) ⟨rfl, rfl, rfl, trivial⟩ ?_
  exact k2 v44 W40
theorem wmo_gather_153 {x : jCx} {en : (fmo_gather_S ⊕ (jW)) → Option (Outcome × jW)} {t : Nat} {a1 : Int32} (h : hmo_gather x en t a1) (l2 : Int32) (l3 : Int32) (l4 : Int32) (W : jW) : jJ x 8 153 [(0, vR t), (1, vI a1), (2, vI l2), (3, vI l3), (4, vI l4)] [] W (fmo_gather_153 t a1 l2 l3 l4 W) en := by
  have h0 := h
  obtain ⟨hx, hm, hr, he, k2, k97, k110, k264⟩ := h0
  unfold fmo_gather_153
  refine j_runA hx 1 (tb := [(153, .iinc 4 1)]) (jtb_ok (by decide +kernel)) (pc' := 156) (lv' := [(4, vI (l4 + (kI 1))), (0, vR t), (1, vI a1), (2, vI l2), (3, vI l3)]) (st' := []) rfl ?_
  refine j_let (v := (l4 + (kI 1))) (lv := fun v74 => [(4, vI v74), (0, vR t), (1, vI a1), (2, vI l2), (3, vI l3)]) (st := fun _ => []) (fun v74 => ?_)
  refine j_goto hx (off := -46) (by decide +kernel) (tgt := 110) (by decide) ?_
  refine j_lv (lv' := [(0, vR t), (1, vI a1), (2, vI l2), (3, vI l3), (4, vI v74)]) ⟨rfl, rfl, rfl, rfl, rfl, trivial⟩ ?_
  exact k110 l2 l3 v74 W
theorem wmo_gather_150 {x : jCx} {en : (fmo_gather_S ⊕ (jW)) → Option (Outcome × jW)} {t : Nat} {a1 : Int32} (h : hmo_gather x en t a1) (l2 : Int32) (l4 : Int32) (W : jW) : jJ x 8 150 [(0, vR t), (1, vI a1), (2, vI l2), (4, vI l4)] [] W (fmo_gather_150 t a1 l2 l4 W) en := by
  have h0 := h
  obtain ⟨hx, hm, hr, he, k2, k97, k110, k264⟩ := h0
  unfold fmo_gather_150
  refine j_runA hx 2 (tb := [(150, .iload 4), (152, .istore_n 3)]) (jtb_ok (by decide +kernel)) (pc' := 153) (lv' := [(3, vI l4), (0, vR t), (1, vI a1), (2, vI l2), (4, vI l4)]) (st' := []) rfl ?_
  refine j_lv (lv' := [(0, vR t), (1, vI a1), (2, vI l2), (3, vI l4), (4, vI l4)]) ⟨rfl, rfl, rfl, rfl, rfl, trivial⟩ ?_
  exact wmo_gather_153 h l2 l4 l4 W
theorem wmo_gather_389 {x : jCx} {en : (fmo_gather_S ⊕ (jW)) → Option (Outcome × jW)} {t : Nat} {a1 : Int32} (h : hmo_gather x en t a1) (l2 : Int32) (W : jW) : jJ x 8 389 [(0, vR t), (1, vI a1), (2, vI l2)] [] W (fmo_gather_389 t a1 l2 W) en := by
  have h0 := h
  obtain ⟨hx, hm, hr, he, k2, k97, k110, k264⟩ := h0
  unfold fmo_gather_389
  refine j_runA hx 1 (tb := [(389, .iinc 2 1)]) (jtb_ok (by decide +kernel)) (pc' := 392) (lv' := [(2, vI (l2 + (kI 1))), (0, vR t), (1, vI a1)]) (st' := []) rfl ?_
  refine j_let (v := (l2 + (kI 1))) (lv := fun v120 => [(2, vI v120), (0, vR t), (1, vI a1)]) (st := fun _ => []) (fun v120 => ?_)
  refine j_goto hx (off := -295) (by decide +kernel) (tgt := 97) (by decide) ?_
  refine j_lv (lv' := [(0, vR t), (1, vI a1), (2, vI v120)]) ⟨rfl, rfl, rfl, trivial⟩ ?_
  exact k97 v120 W
theorem wmo_gather_324 {x : jCx} {en : (fmo_gather_S ⊕ (jW)) → Option (Outcome × jW)} {t : Nat} {a1 : Int32} (h : hmo_gather x en t a1) (l2 : Int32) (l5 : Int32) (l6 : Int32) (l7 : Int32) (W : jW) : jJ x 8 324 [(0, vR t), (1, vI a1), (2, vI l2), (5, vI l5), (6, vI l6), (7, vI l7)] [] W (fmo_gather_324 t a1 l2 l5 l6 l7 W) en := by
  have h0 := h
  obtain ⟨hx, hm, hr, he, k2, k97, k110, k264⟩ := h0
  unfold fmo_gather_324
  refine j_runA hx 1 (tb := [(324, .iinc 7 1)]) (jtb_ok (by decide +kernel)) (pc' := 327) (lv' := [(7, vI (l7 + (kI 1))), (0, vR t), (1, vI a1), (2, vI l2), (5, vI l5), (6, vI l6)]) (st' := []) rfl ?_
  refine j_let (v := (l7 + (kI 1))) (lv := fun v118 => [(7, vI v118), (0, vR t), (1, vI a1), (2, vI l2), (5, vI l5), (6, vI l6)]) (st := fun _ => []) (fun v118 => ?_)
  refine j_goto hx (off := -63) (by decide +kernel) (tgt := 264) (by decide) ?_
  refine j_lv (lv' := [(0, vR t), (1, vI a1), (2, vI l2), (5, vI l5), (6, vI l6), (7, vI v118)]) ⟨rfl, rfl, rfl, rfl, rfl, rfl, trivial⟩ ?_
  exact k264 l2 l5 l6 v118 W
theorem wmo_gather_264 {x : jCx} {en : (fmo_gather_S ⊕ (jW)) → Option (Outcome × jW)} {t : Nat} {a1 : Int32} (h : hmo_gather x en t a1) (l2 : Int32) (l5 : Int32) (l6 : Int32) (l7 : Int32) (W : jW) : jJ x 8 264 [(0, vR t), (1, vI a1), (2, vI l2), (5, vI l5), (6, vI l6), (7, vI l7)] [] W (fmo_gather_264 t a1 l2 l5 l6 l7 W) en := by
  have h0 := h
  obtain ⟨hx, hm, hr, he, k2, k97, k110, k264⟩ := h0
  unfold fmo_gather_264
  refine j_runA hx 2 (tb := [(264, .iload 7), (266, .aload_n 0)]) (jtb_ok (by decide +kernel)) (pc' := 267) (lv' := [(0, vR t), (1, vI a1), (2, vI l2), (5, vI l5), (6, vI l6), (7, vI l7)]) (st' := [vR t, vI l7]) rfl ?_
  refine j_gd (fun h76 => ?_)
  refine j_getI hx flX8_281 kd1311 h76 (by decide) (by decide +kernel) ?_
  refine j_icmp_ge hx (off := 60) (tgt := 330) (by decide +kernel) (by decide) (fun _ => ?_) (fun _ => ?_)
  · refine j_runA hx 1 (tb := [(330, .aload_n 0)]) (jtb_ok (by decide +kernel)) (pc' := 331) (lv' := [(0, vR t), (1, vI a1), (2, vI l2), (5, vI l5), (6, vI l6), (7, vI l7)]) (st' := [vR t]) rfl ?_
    refine j_getR hx flX8_120 kl1344 h76 (by decide) (by decide +kernel) ?_
    refine j_runA hx 2 (tb := [(334, .iload 5), (336, .dup2)]) (jtb_ok (by decide +kernel)) (pc' := 337) (lv' := [(0, vR t), (1, vI a1), (2, vI l2), (5, vI l5), (6, vI l6), (7, vI l7)]) (st' := [vI l5, vR (jR W 1344 t), vI l5, vR (jR W 1344 t)]) rfl ?_
    refine j_gd (fun h77 => ?_)
    refine j_iald hx (f := 1344) (o := t) kd1344 rfl (by decide +kernel) h77 ?_
    refine j_runA hx 1 (tb := [(338, .aload_n 0)]) (jtb_ok (by decide +kernel)) (pc' := 339) (lv' := [(0, vR t), (1, vI a1), (2, vI l2), (5, vI l5), (6, vI l6), (7, vI l7)]) (st' := [vR t, vI (jA W 1344 t (ix l5)), vI l5, vR (jR W 1344 t)]) rfl ?_
    refine j_getR hx flX8_120 kl1344 h76 (by decide) (by decide +kernel) ?_
    refine j_runA hx 1 (tb := [(342, .iload 6)]) (jtb_ok (by decide +kernel)) (pc' := 344) (lv' := [(0, vR t), (1, vI a1), (2, vI l2), (5, vI l5), (6, vI l6), (7, vI l7)]) (st' := [vI l6, vR (jR W 1344 t), vI (jA W 1344 t (ix l5)), vI l5, vR (jR W 1344 t)]) rfl ?_
    refine j_gd (fun h78 => ?_)
    refine j_iald hx (f := 1344) (o := t) kd1344 rfl (by decide +kernel) h78 ?_
    refine j_runA hx 1 (tb := [(345, .iadd)]) (jtb_ok (by decide +kernel)) (pc' := 346) (lv' := [(0, vR t), (1, vI a1), (2, vI l2), (5, vI l5), (6, vI l6), (7, vI l7)]) (st' := [vI ((jA W 1344 t (ix l5)) + (jA W 1344 t (ix l6))), vI l5, vR (jR W 1344 t)]) rfl ?_
    refine j_gd (fun h79 => ?_)
    refine j_iast hx (f := 1344) (o := t) kd1344 rfl (by decide +kernel) h79 ?_
    refine j_ltw rfl (fun W80 hc81 => ?_)
    have h82 : jC W80 t = 13 := (congrFun hc81 _).trans h76
    refine j_runA hx 1 (tb := [(347, .aload_n 0)]) (jtb_ok (by decide +kernel)) (pc' := 348) (lv' := [(0, vR t), (1, vI a1), (2, vI l2), (5, vI l5), (6, vI l6), (7, vI l7)]) (st' := [vR t]) rfl ?_
    refine j_getR hx flX8_120 kl1344 h82 (by decide) (by decide +kernel) ?_
    refine j_runA hx 2 (tb := [(351, .iload 6), (353, .iconst 0)]) (jtb_ok (by decide +kernel)) (pc' := 354) (lv' := [(0, vR t), (1, vI a1), (2, vI l2), (5, vI l5), (6, vI l6), (7, vI l7)]) (st' := [vI (kI 0), vI l6, vR (jR W80 1344 t)]) rfl ?_
    refine j_gd (fun h84 => ?_)
    refine j_iast hx (f := 1344) (o := t) kd1344 rfl (by decide +kernel) h84 ?_
    refine j_ltw rfl (fun W85 hc86 => ?_)
    have h87 : jC W85 t = 13 := (congrFun hc86 _).trans h82
    refine j_runA hx 1 (tb := [(355, .aload_n 0)]) (jtb_ok (by decide +kernel)) (pc' := 356) (lv' := [(0, vR t), (1, vI a1), (2, vI l2), (5, vI l5), (6, vI l6), (7, vI l7)]) (st' := [vR t]) rfl ?_
    refine j_getR hx flX8_123 kl1345 h87 (by decide) (by decide +kernel) ?_
    refine j_runA hx 2 (tb := [(359, .iload 5), (361, .dup2)]) (jtb_ok (by decide +kernel)) (pc' := 362) (lv' := [(0, vR t), (1, vI a1), (2, vI l2), (5, vI l5), (6, vI l6), (7, vI l7)]) (st' := [vI l5, vR (jR W85 1345 t), vI l5, vR (jR W85 1345 t)]) rfl ?_
    refine j_gd (fun h89 => ?_)
    refine j_lald hx (f := 1345) (o := t) kd1345 rfl (by decide +kernel) h89 ?_
    refine j_runA hx 1 (tb := [(363, .aload_n 0)]) (jtb_ok (by decide +kernel)) (pc' := 364) (lv' := [(0, vR t), (1, vI a1), (2, vI l2), (5, vI l5), (6, vI l6), (7, vI l7)]) (st' := [vR t, vL (jB W85 1345 t (ix l5)), vI l5, vR (jR W85 1345 t)]) rfl ?_
    refine j_getR hx flX8_123 kl1345 h87 (by decide) (by decide +kernel) ?_
    refine j_runA hx 1 (tb := [(367, .iload 6)]) (jtb_ok (by decide +kernel)) (pc' := 369) (lv' := [(0, vR t), (1, vI a1), (2, vI l2), (5, vI l5), (6, vI l6), (7, vI l7)]) (st' := [vI l6, vR (jR W85 1345 t), vL (jB W85 1345 t (ix l5)), vI l5, vR (jR W85 1345 t)]) rfl ?_
    refine j_gd (fun h90 => ?_)
    refine j_lald hx (f := 1345) (o := t) kd1345 rfl (by decide +kernel) h90 ?_
    refine j_runA hx 1 (tb := [(370, .ladd)]) (jtb_ok (by decide +kernel)) (pc' := 371) (lv' := [(0, vR t), (1, vI a1), (2, vI l2), (5, vI l5), (6, vI l6), (7, vI l7)]) (st' := [vL ((jB W85 1345 t (ix l5)) + (jB W85 1345 t (ix l6))), vI l5, vR (jR W85 1345 t)]) rfl ?_
    refine j_gd (fun h91 => ?_)
    refine j_last hx (f := 1345) (o := t) kd1345 rfl (by decide +kernel) h91 ?_
    refine j_ltw rfl (fun W92 hc93 => ?_)
    have h94 : jC W92 t = 13 := (congrFun hc93 _).trans h87
    refine j_runA hx 1 (tb := [(372, .aload_n 0)]) (jtb_ok (by decide +kernel)) (pc' := 373) (lv' := [(0, vR t), (1, vI a1), (2, vI l2), (5, vI l5), (6, vI l6), (7, vI l7)]) (st' := [vR t]) rfl ?_
    refine j_getR hx flX8_126 kl1346 h94 (by decide) (by decide +kernel) ?_
    refine j_runA hx 2 (tb := [(376, .iload 5), (378, .dup2)]) (jtb_ok (by decide +kernel)) (pc' := 379) (lv' := [(0, vR t), (1, vI a1), (2, vI l2), (5, vI l5), (6, vI l6), (7, vI l7)]) (st' := [vI l5, vR (jR W92 1346 t), vI l5, vR (jR W92 1346 t)]) rfl ?_
    refine j_gd (fun h96 => ?_)
    refine j_lald hx (f := 1346) (o := t) kd1346 rfl (by decide +kernel) h96 ?_
    refine j_runA hx 1 (tb := [(380, .aload_n 0)]) (jtb_ok (by decide +kernel)) (pc' := 381) (lv' := [(0, vR t), (1, vI a1), (2, vI l2), (5, vI l5), (6, vI l6), (7, vI l7)]) (st' := [vR t, vL (jB W92 1346 t (ix l5)), vI l5, vR (jR W92 1346 t)]) rfl ?_
    refine j_getR hx flX8_126 kl1346 h94 (by decide) (by decide +kernel) ?_
    refine j_runA hx 1 (tb := [(384, .iload 6)]) (jtb_ok (by decide +kernel)) (pc' := 386) (lv' := [(0, vR t), (1, vI a1), (2, vI l2), (5, vI l5), (6, vI l6), (7, vI l7)]) (st' := [vI l6, vR (jR W92 1346 t), vL (jB W92 1346 t (ix l5)), vI l5, vR (jR W92 1346 t)]) rfl ?_
    refine j_gd (fun h97 => ?_)
    refine j_lald hx (f := 1346) (o := t) kd1346 rfl (by decide +kernel) h97 ?_
    refine j_runA hx 1 (tb := [(387, .ladd)]) (jtb_ok (by decide +kernel)) (pc' := 388) (lv' := [(0, vR t), (1, vI a1), (2, vI l2), (5, vI l5), (6, vI l6), (7, vI l7)]) (st' := [vL ((jB W92 1346 t (ix l5)) + (jB W92 1346 t (ix l6))), vI l5, vR (jR W92 1346 t)]) rfl ?_
    refine j_gd (fun h98 => ?_)
    refine j_last hx (f := 1346) (o := t) kd1346 rfl (by decide +kernel) h98 ?_
    refine j_ltw rfl (fun W99 hc100 => ?_)
    have h101 : jC W99 t = 13 := (congrFun hc100 _).trans h94
    refine j_lv (lv' := [(0, vR t), (1, vI a1), (2, vI l2)]) ⟨rfl, rfl, rfl, trivial⟩ ?_
    exact wmo_gather_389 h l2 W99
  refine j_runA hx 1 (tb := [(273, .aload_n 0)]) (jtb_ok (by decide +kernel)) (pc' := 274) (lv' := [(0, vR t), (1, vI a1), (2, vI l2), (5, vI l5), (6, vI l6), (7, vI l7)]) (st' := [vR t]) rfl ?_
  refine j_getR hx flX8_114 kl1342 h76 (by decide) (by decide +kernel) ?_
  refine j_runA hx 1 (tb := [(277, .iload 7)]) (jtb_ok (by decide +kernel)) (pc' := 279) (lv' := [(0, vR t), (1, vI a1), (2, vI l2), (5, vI l5), (6, vI l6), (7, vI l7)]) (st' := [vI l7, vR (jR W 1342 t)]) rfl ?_
  refine j_gd (fun h103 => ?_)
  refine j_iald hx (f := 1342) (o := t) kd1342 rfl (by decide +kernel) h103 ?_
  refine j_runA hx 1 (tb := [(280, .iload 6)]) (jtb_ok (by decide +kernel)) (pc' := 282) (lv' := [(0, vR t), (1, vI a1), (2, vI l2), (5, vI l5), (6, vI l6), (7, vI l7)]) (st' := [vI l6, vI (jA W 1342 t (ix l7))]) rfl ?_
  refine j_icmp_ne hx (off := 42) (tgt := 324) (by decide +kernel) (by decide) (fun _ => ?_) (fun _ => ?_)
  · exact wmo_gather_324 h l2 l5 l6 l7 W
  refine j_runA hx 1 (tb := [(285, .aload_n 0)]) (jtb_ok (by decide +kernel)) (pc' := 286) (lv' := [(0, vR t), (1, vI a1), (2, vI l2), (5, vI l5), (6, vI l6), (7, vI l7)]) (st' := [vR t]) rfl ?_
  refine j_getR hx flX8_120 kl1344 h76 (by decide) (by decide +kernel) ?_
  refine j_runA hx 1 (tb := [(289, .iload 6)]) (jtb_ok (by decide +kernel)) (pc' := 291) (lv' := [(0, vR t), (1, vI a1), (2, vI l2), (5, vI l5), (6, vI l6), (7, vI l7)]) (st' := [vI l6, vR (jR W 1344 t)]) rfl ?_
  refine j_gd (fun h104 => ?_)
  refine j_iald hx (f := 1344) (o := t) kd1344 rfl (by decide +kernel) h104 ?_
  refine j_if_ne hx (off := 6) (tgt := 298) (by decide +kernel) (by decide) (fun _ => ?_) (fun _ => ?_)
  · refine j_runA hx 1 (tb := [(298, .aload_n 0)]) (jtb_ok (by decide +kernel)) (pc' := 299) (lv' := [(0, vR t), (1, vI a1), (2, vI l2), (5, vI l5), (6, vI l6), (7, vI l7)]) (st' := [vR t]) rfl ?_
    refine j_getR hx flX8_114 kl1342 h76 (by decide) (by decide +kernel) ?_
    refine j_runA hx 2 (tb := [(302, .iload 7), (304, .iload 5)]) (jtb_ok (by decide +kernel)) (pc' := 306) (lv' := [(0, vR t), (1, vI a1), (2, vI l2), (5, vI l5), (6, vI l6), (7, vI l7)]) (st' := [vI l5, vI l7, vR (jR W 1342 t)]) rfl ?_
    refine j_gd (fun h105 => ?_)
    refine j_iast hx (f := 1342) (o := t) kd1342 rfl (by decide +kernel) h105 ?_
    refine j_ltw rfl (fun W106 hc107 => ?_)
    have h108 : jC W106 t = 13 := (congrFun hc107 _).trans h76
    refine j_runA hx 1 (tb := [(307, .aload_n 0)]) (jtb_ok (by decide +kernel)) (pc' := 308) (lv' := [(0, vR t), (1, vI a1), (2, vI l2), (5, vI l5), (6, vI l6), (7, vI l7)]) (st' := [vR t]) rfl ?_
    refine j_getR hx flX8_117 kl1343 h108 (by decide) (by decide +kernel) ?_
    refine j_runA hx 2 (tb := [(311, .iload 7), (313, .dup2)]) (jtb_ok (by decide +kernel)) (pc' := 314) (lv' := [(0, vR t), (1, vI a1), (2, vI l2), (5, vI l5), (6, vI l6), (7, vI l7)]) (st' := [vI l7, vR (jR W106 1343 t), vI l7, vR (jR W106 1343 t)]) rfl ?_
    refine j_gd (fun h110 => ?_)
    refine j_iald hx (f := 1343) (o := t) kd1343 rfl (by decide +kernel) h110 ?_
    refine j_runA hx 1 (tb := [(315, .aload_n 0)]) (jtb_ok (by decide +kernel)) (pc' := 316) (lv' := [(0, vR t), (1, vI a1), (2, vI l2), (5, vI l5), (6, vI l6), (7, vI l7)]) (st' := [vR t, vI (jA W106 1343 t (ix l7)), vI l7, vR (jR W106 1343 t)]) rfl ?_
    refine j_getR hx flX8_120 kl1344 h108 (by decide) (by decide +kernel) ?_
    refine j_runA hx 1 (tb := [(319, .iload 5)]) (jtb_ok (by decide +kernel)) (pc' := 321) (lv' := [(0, vR t), (1, vI a1), (2, vI l2), (5, vI l5), (6, vI l6), (7, vI l7)]) (st' := [vI l5, vR (jR W106 1344 t), vI (jA W106 1343 t (ix l7)), vI l7, vR (jR W106 1343 t)]) rfl ?_
    refine j_gd (fun h111 => ?_)
    refine j_iald hx (f := 1344) (o := t) kd1344 rfl (by decide +kernel) h111 ?_
    refine j_runA hx 1 (tb := [(322, .iadd)]) (jtb_ok (by decide +kernel)) (pc' := 323) (lv' := [(0, vR t), (1, vI a1), (2, vI l2), (5, vI l5), (6, vI l6), (7, vI l7)]) (st' := [vI ((jA W106 1343 t (ix l7)) + (jA W106 1344 t (ix l5))), vI l7, vR (jR W106 1343 t)]) rfl ?_
    refine j_gd (fun h112 => ?_)
    refine j_iast hx (f := 1343) (o := t) kd1343 rfl (by decide +kernel) h112 ?_
    refine j_ltw rfl (fun W113 hc114 => ?_)
    have h115 : jC W113 t = 13 := (congrFun hc114 _).trans h108
    exact wmo_gather_324 h l2 l5 l6 l7 W113
  refine j_goto hx (off := 29) (by decide +kernel) (tgt := 324) (by decide) ?_
  exact wmo_gather_324 h l2 l5 l6 l7 W
theorem wmo_gather_110 {x : jCx} {en : (fmo_gather_S ⊕ (jW)) → Option (Outcome × jW)} {t : Nat} {a1 : Int32} (h : hmo_gather x en t a1) (l2 : Int32) (l3 : Int32) (l4 : Int32) (W : jW) : jJ x 8 110 [(0, vR t), (1, vI a1), (2, vI l2), (3, vI l3), (4, vI l4)] [] W (fmo_gather_110 t a1 l2 l3 l4 W) en := by
  have h0 := h
  obtain ⟨hx, hm, hr, he, k2, k97, k110, k264⟩ := h0
  unfold fmo_gather_110
  refine j_runA hx 2 (tb := [(110, .iload 4), (112, .aload_n 0)]) (jtb_ok (by decide +kernel)) (pc' := 113) (lv' := [(0, vR t), (1, vI a1), (2, vI l2), (3, vI l3), (4, vI l4)]) (st' := [vR t, vI l4]) rfl ?_
  refine j_gd (fun h48 => ?_)
  refine j_getI hx flX8_281 kd1311 h48 (by decide) (by decide +kernel) ?_
  refine j_icmp_ge hx (off := 43) (tgt := 159) (by decide +kernel) (by decide) (fun _ => ?_) (fun _ => ?_)
  · refine j_runA hx 1 (tb := [(159, .aload_n 0)]) (jtb_ok (by decide +kernel)) (pc' := 160) (lv' := [(0, vR t), (1, vI a1), (2, vI l2), (3, vI l3), (4, vI l4)]) (st' := [vR t]) rfl ?_
    refine j_getR hx flX8_99 kl1337 h48 (by decide) (by decide +kernel) ?_
    refine j_runA hx 2 (tb := [(163, .iload_n 3), (164, .iconst 1)]) (jtb_ok (by decide +kernel)) (pc' := 165) (lv' := [(0, vR t), (1, vI a1), (2, vI l2), (3, vI l3), (4, vI l4)]) (st' := [vI (kI 1), vI l3, vR (jR W 1337 t)]) rfl ?_
    refine j_gd (fun h49 => ?_)
    refine j_zast hx (f := 1337) (o := t) kd1337 rfl (by decide +kernel) h49 ?_
    refine j_ltw rfl (fun W50 hc51 => ?_)
    have h52 : jC W50 t = 13 := (congrFun hc51 _).trans h48
    refine j_runA hx 1 (tb := [(166, .aload_n 0)]) (jtb_ok (by decide +kernel)) (pc' := 167) (lv' := [(0, vR t), (1, vI a1), (2, vI l2), (3, vI l3), (4, vI l4)]) (st' := [vR t]) rfl ?_
    refine j_getR hx flX8_120 kl1344 h52 (by decide) (by decide +kernel) ?_
    refine j_runA hx 1 (tb := [(170, .aload_n 0)]) (jtb_ok (by decide +kernel)) (pc' := 171) (lv' := [(0, vR t), (1, vI a1), (2, vI l2), (3, vI l3), (4, vI l4)]) (st' := [vR t, vR (jR W50 1344 t)]) rfl ?_
    refine j_getR hx flX8_114 kl1342 h52 (by decide) (by decide +kernel) ?_
    refine j_runA hx 1 (tb := [(174, .iload_n 3)]) (jtb_ok (by decide +kernel)) (pc' := 175) (lv' := [(0, vR t), (1, vI a1), (2, vI l2), (3, vI l3), (4, vI l4)]) (st' := [vI l3, vR (jR W50 1342 t), vR (jR W50 1344 t)]) rfl ?_
    refine j_gd (fun h54 => ?_)
    refine j_iald hx (f := 1342) (o := t) kd1342 rfl (by decide +kernel) h54 ?_
    refine j_gd (fun h55 => ?_)
    refine j_iald hx (f := 1344) (o := t) kd1344 rfl (by decide +kernel) h55 ?_
    refine j_if_ne hx (off := 6) (tgt := 183) (by decide +kernel) (by decide) (fun _ => ?_) (fun _ => ?_)
    · refine j_runA hx 2 (tb := [(183, .aload_n 0), (184, .iload_n 3)]) (jtb_ok (by decide +kernel)) (pc' := 185) (lv' := [(0, vR t), (1, vI a1), (2, vI l2), (3, vI l3), (4, vI l4)]) (st' := [vI l3, vR t]) rfl ?_
      refine j_WI (j_callV (av := [vI l3]) (st := []) hx hr (Or.inl q3219) q3221 qs162 rfl md_fmo_callerOf np_fmo_callerOf (cmo_callerOf t l3 W50) (by decide) (Nat.le_of_ble_eq_true rfl) h52 (by decide) (by decide +kernel)) (fun q56 _ => ?_)
      refine j_runA hx 2 (tb := [(188, .istore 4), (190, .iload 4)]) (jtb_ok (by decide +kernel)) (pc' := 192) (lv' := [(4, vI q56.1), (0, vR t), (1, vI a1), (2, vI l2), (3, vI l3)]) (st' := [vI q56.1]) rfl ?_
      refine j_if_lt hx (off := 197) (tgt := 389) (by decide +kernel) (by decide) (fun _ => ?_) (fun _ => ?_)
      · refine j_lv (lv' := [(0, vR t), (1, vI a1), (2, vI l2)]) ⟨rfl, rfl, rfl, trivial⟩ ?_
        exact wmo_gather_389 h l2 q56.2
      refine j_runA hx 1 (tb := [(195, .aload_n 0)]) (jtb_ok (by decide +kernel)) (pc' := 196) (lv' := [(4, vI q56.1), (0, vR t), (1, vI a1), (2, vI l2), (3, vI l3)]) (st' := [vR t]) rfl ?_
      refine j_gd (fun h58 => ?_)
      refine j_getR hx flX8_114 kl1342 h58 (by decide) (by decide +kernel) ?_
      refine j_runA hx 1 (tb := [(199, .iload 4)]) (jtb_ok (by decide +kernel)) (pc' := 201) (lv' := [(4, vI q56.1), (0, vR t), (1, vI a1), (2, vI l2), (3, vI l3)]) (st' := [vI q56.1, vR (jR q56.2 1342 t)]) rfl ?_
      refine j_gd (fun h59 => ?_)
      refine j_iald hx (f := 1342) (o := t) kd1342 rfl (by decide +kernel) h59 ?_
      refine j_runA hx 1 (tb := [(202, .aload_n 0)]) (jtb_ok (by decide +kernel)) (pc' := 203) (lv' := [(4, vI q56.1), (0, vR t), (1, vI a1), (2, vI l2), (3, vI l3)]) (st' := [vR t, vI (jA q56.2 1342 t (ix q56.1))]) rfl ?_
      refine j_getR hx flX8_114 kl1342 h58 (by decide) (by decide +kernel) ?_
      refine j_runA hx 1 (tb := [(206, .iload_n 3)]) (jtb_ok (by decide +kernel)) (pc' := 207) (lv' := [(4, vI q56.1), (0, vR t), (1, vI a1), (2, vI l2), (3, vI l3)]) (st' := [vI l3, vR (jR q56.2 1342 t), vI (jA q56.2 1342 t (ix q56.1))]) rfl ?_
      refine j_gd (fun h60 => ?_)
      refine j_iald hx (f := 1342) (o := t) kd1342 rfl (by decide +kernel) h60 ?_
      refine j_icmp_eq hx (off := 181) (tgt := 389) (by decide +kernel) (by decide) (fun _ => ?_) (fun _ => ?_)
      · refine j_lv (lv' := [(0, vR t), (1, vI a1), (2, vI l2)]) ⟨rfl, rfl, rfl, trivial⟩ ?_
        exact wmo_gather_389 h l2 q56.2
      refine j_runA hx 1 (tb := [(211, .aload_n 0)]) (jtb_ok (by decide +kernel)) (pc' := 212) (lv' := [(4, vI q56.1), (0, vR t), (1, vI a1), (2, vI l2), (3, vI l3)]) (st' := [vR t]) rfl ?_
      refine j_getR hx flX8_126 kl1346 h58 (by decide) (by decide +kernel) ?_
      refine j_runA hx 1 (tb := [(215, .aload_n 0)]) (jtb_ok (by decide +kernel)) (pc' := 216) (lv' := [(4, vI q56.1), (0, vR t), (1, vI a1), (2, vI l2), (3, vI l3)]) (st' := [vR t, vR (jR q56.2 1346 t)]) rfl ?_
      refine j_getR hx flX8_114 kl1342 h58 (by decide) (by decide +kernel) ?_
      refine j_runA hx 1 (tb := [(219, .iload_n 3)]) (jtb_ok (by decide +kernel)) (pc' := 220) (lv' := [(4, vI q56.1), (0, vR t), (1, vI a1), (2, vI l2), (3, vI l3)]) (st' := [vI l3, vR (jR q56.2 1342 t), vR (jR q56.2 1346 t)]) rfl ?_
      refine j_gd (fun h61 => ?_)
      refine j_iald hx (f := 1342) (o := t) kd1342 rfl (by decide +kernel) h61 ?_
      refine j_gd (fun h62 => ?_)
      refine j_lald hx (f := 1346) (o := t) kd1346 rfl (by decide +kernel) h62 ?_
      refine j_runA hx 1 (tb := [(222, .aload_n 0)]) (jtb_ok (by decide +kernel)) (pc' := 223) (lv' := [(4, vI q56.1), (0, vR t), (1, vI a1), (2, vI l2), (3, vI l3)]) (st' := [vR t, vL (jB q56.2 1346 t (ix (jA q56.2 1342 t (ix l3))))]) rfl ?_
      refine j_getR hx flX8_126 kl1346 h58 (by decide) (by decide +kernel) ?_
      refine j_runA hx 1 (tb := [(226, .aload_n 0)]) (jtb_ok (by decide +kernel)) (pc' := 227) (lv' := [(4, vI q56.1), (0, vR t), (1, vI a1), (2, vI l2), (3, vI l3)]) (st' := [vR t, vR (jR q56.2 1346 t), vL (jB q56.2 1346 t (ix (jA q56.2 1342 t (ix l3))))]) rfl ?_
      refine j_getR hx flX8_114 kl1342 h58 (by decide) (by decide +kernel) ?_
      refine j_runA hx 1 (tb := [(230, .iload 4)]) (jtb_ok (by decide +kernel)) (pc' := 232) (lv' := [(4, vI q56.1), (0, vR t), (1, vI a1), (2, vI l2), (3, vI l3)]) (st' := [vI q56.1, vR (jR q56.2 1342 t), vR (jR q56.2 1346 t), vL (jB q56.2 1346 t (ix (jA q56.2 1342 t (ix l3))))]) rfl ?_
      refine j_gd (fun h63 => ?_)
      refine j_iald hx (f := 1342) (o := t) kd1342 rfl (by decide +kernel) h63 ?_
      refine j_gd (fun h64 => ?_)
      refine j_lald hx (f := 1346) (o := t) kd1346 rfl (by decide +kernel) h64 ?_
      refine j_runA hx 3 (tb := [(234, .ladd), (235, .iload_n 1), (236, .i2l)]) (jtb_ok (by decide +kernel)) (pc' := 237) (lv' := [(4, vI q56.1), (0, vR t), (1, vI a1), (2, vI l2), (3, vI l3)]) (st' := [vL a1.toInt64, vL ((jB q56.2 1346 t (ix (jA q56.2 1342 t (ix l3)))) + (jB q56.2 1346 t (ix (jA q56.2 1342 t (ix q56.1)))))]) rfl ?_
      refine j_lcmp_le hx (off := 6) (tgt := 244) (by decide +kernel) (by decide +kernel) (by decide) (fun _ => ?_) (fun _ => ?_)
      · refine j_runA hx 1 (tb := [(244, .aload_n 0)]) (jtb_ok (by decide +kernel)) (pc' := 245) (lv' := [(4, vI q56.1), (0, vR t), (1, vI a1), (2, vI l2), (3, vI l3)]) (st' := [vR t]) rfl ?_
        refine j_getR hx flX8_114 kl1342 h58 (by decide) (by decide +kernel) ?_
        refine j_runA hx 1 (tb := [(248, .iload 4)]) (jtb_ok (by decide +kernel)) (pc' := 250) (lv' := [(4, vI q56.1), (0, vR t), (1, vI a1), (2, vI l2), (3, vI l3)]) (st' := [vI q56.1, vR (jR q56.2 1342 t)]) rfl ?_
        refine j_gd (fun h65 => ?_)
        refine j_iald hx (f := 1342) (o := t) kd1342 rfl (by decide +kernel) h65 ?_
        refine j_runA hx 1 (tb := [(251, .istore 5)]) (jtb_ok (by decide +kernel)) (pc' := 253) (lv' := [(5, vI (jA q56.2 1342 t (ix q56.1))), (4, vI q56.1), (0, vR t), (1, vI a1), (2, vI l2), (3, vI l3)]) (st' := []) rfl ?_
        refine j_let (v := (jA q56.2 1342 t (ix q56.1))) (lv := fun v66 => [(5, vI v66), (4, vI q56.1), (0, vR t), (1, vI a1), (2, vI l2), (3, vI l3)]) (st := fun _ => []) (fun v66 => ?_)
        refine j_runA hx 1 (tb := [(253, .aload_n 0)]) (jtb_ok (by decide +kernel)) (pc' := 254) (lv' := [(5, vI v66), (4, vI q56.1), (0, vR t), (1, vI a1), (2, vI l2), (3, vI l3)]) (st' := [vR t]) rfl ?_
        refine j_getR hx flX8_114 kl1342 h58 (by decide) (by decide +kernel) ?_
        refine j_runA hx 1 (tb := [(257, .iload_n 3)]) (jtb_ok (by decide +kernel)) (pc' := 258) (lv' := [(5, vI v66), (4, vI q56.1), (0, vR t), (1, vI a1), (2, vI l2), (3, vI l3)]) (st' := [vI l3, vR (jR q56.2 1342 t)]) rfl ?_
        refine j_gd (fun h67 => ?_)
        refine j_iald hx (f := 1342) (o := t) kd1342 rfl (by decide +kernel) h67 ?_
        refine j_runA hx 1 (tb := [(259, .istore 6)]) (jtb_ok (by decide +kernel)) (pc' := 261) (lv' := [(6, vI (jA q56.2 1342 t (ix l3))), (5, vI v66), (4, vI q56.1), (0, vR t), (1, vI a1), (2, vI l2), (3, vI l3)]) (st' := []) rfl ?_
        refine j_let (v := (jA q56.2 1342 t (ix l3))) (lv := fun v68 => [(6, vI v68), (5, vI v66), (4, vI q56.1), (0, vR t), (1, vI a1), (2, vI l2), (3, vI l3)]) (st := fun _ => []) (fun v68 => ?_)
        refine j_runA hx 2 (tb := [(261, .iconst 0), (262, .istore 7)]) (jtb_ok (by decide +kernel)) (pc' := 264) (lv' := [(7, vI (kI 0)), (6, vI v68), (5, vI v66), (4, vI q56.1), (0, vR t), (1, vI a1), (2, vI l2), (3, vI l3)]) (st' := []) rfl ?_
        refine j_lv (lv' := [(0, vR t), (1, vI a1), (2, vI l2), (5, vI v66), (6, vI v68), (7, vI (kI 0))]) ⟨rfl, rfl, rfl, rfl, rfl, rfl, trivial⟩ ?_
        exact k264 l2 v66 v68 (kI 0) q56.2
      refine j_goto hx (off := 148) (by decide +kernel) (tgt := 389) (by decide) ?_
      refine j_lv (lv' := [(0, vR t), (1, vI a1), (2, vI l2)]) ⟨rfl, rfl, rfl, trivial⟩ ?_
      exact wmo_gather_389 h l2 q56.2
    refine j_goto hx (off := 209) (by decide +kernel) (tgt := 389) (by decide) ?_
    refine j_lv (lv' := [(0, vR t), (1, vI a1), (2, vI l2)]) ⟨rfl, rfl, rfl, trivial⟩ ?_
    exact wmo_gather_389 h l2 W50
  refine j_runA hx 1 (tb := [(119, .aload_n 0)]) (jtb_ok (by decide +kernel)) (pc' := 120) (lv' := [(0, vR t), (1, vI a1), (2, vI l2), (3, vI l3), (4, vI l4)]) (st' := [vR t]) rfl ?_
  refine j_getR hx flX8_99 kl1337 h48 (by decide) (by decide +kernel) ?_
  refine j_runA hx 1 (tb := [(123, .iload 4)]) (jtb_ok (by decide +kernel)) (pc' := 125) (lv' := [(0, vR t), (1, vI a1), (2, vI l2), (3, vI l3), (4, vI l4)]) (st' := [vI l4, vR (jR W 1337 t)]) rfl ?_
  refine j_gd (fun h69 => ?_)
  refine j_zald hx (f := 1337) (o := t) kd1337 rfl (by decide +kernel) h69 ?_
  refine j_if_ne hx (off := 27) (tgt := 153) (by decide +kernel) (by decide) (fun _ => ?_) (fun _ => ?_)
  · exact wmo_gather_153 h l2 l3 l4 W
  refine j_runA hx 1 (tb := [(129, .iload_n 3)]) (jtb_ok (by decide +kernel)) (pc' := 130) (lv' := [(0, vR t), (1, vI a1), (2, vI l2), (3, vI l3), (4, vI l4)]) (st' := [vI l3]) rfl ?_
  refine j_if_lt hx (off := 20) (tgt := 150) (by decide +kernel) (by decide) (fun _ => ?_) (fun _ => ?_)
  · refine j_lv (lv' := [(0, vR t), (1, vI a1), (2, vI l2), (4, vI l4)]) ⟨rfl, rfl, rfl, rfl, trivial⟩ ?_
    exact wmo_gather_150 h l2 l4 W
  refine j_runA hx 1 (tb := [(133, .aload_n 0)]) (jtb_ok (by decide +kernel)) (pc' := 134) (lv' := [(0, vR t), (1, vI a1), (2, vI l2), (3, vI l3), (4, vI l4)]) (st' := [vR t]) rfl ?_
  refine j_getR hx flX8_129 kl1347 h48 (by decide) (by decide +kernel) ?_
  refine j_runA hx 1 (tb := [(137, .iload 4)]) (jtb_ok (by decide +kernel)) (pc' := 139) (lv' := [(0, vR t), (1, vI a1), (2, vI l2), (3, vI l3), (4, vI l4)]) (st' := [vI l4, vR (jR W 1347 t)]) rfl ?_
  refine j_gd (fun h70 => ?_)
  refine j_lald hx (f := 1347) (o := t) kd1347 rfl (by decide +kernel) h70 ?_
  refine j_runA hx 1 (tb := [(140, .aload_n 0)]) (jtb_ok (by decide +kernel)) (pc' := 141) (lv' := [(0, vR t), (1, vI a1), (2, vI l2), (3, vI l3), (4, vI l4)]) (st' := [vR t, vL (jB W 1347 t (ix l4))]) rfl ?_
  refine j_getR hx flX8_129 kl1347 h48 (by decide) (by decide +kernel) ?_
  refine j_runA hx 1 (tb := [(144, .iload_n 3)]) (jtb_ok (by decide +kernel)) (pc' := 145) (lv' := [(0, vR t), (1, vI a1), (2, vI l2), (3, vI l3), (4, vI l4)]) (st' := [vI l3, vR (jR W 1347 t), vL (jB W 1347 t (ix l4))]) rfl ?_
  refine j_gd (fun h71 => ?_)
  refine j_lald hx (f := 1347) (o := t) kd1347 rfl (by decide +kernel) h71 ?_
  refine j_lcmp_le hx (off := 6) (tgt := 153) (by decide +kernel) (by decide +kernel) (by decide) (fun _ => ?_) (fun _ => ?_)
  · exact wmo_gather_153 h l2 l3 l4 W
  refine j_lv (lv' := [(0, vR t), (1, vI a1), (2, vI l2), (4, vI l4)]) ⟨rfl, rfl, rfl, rfl, trivial⟩ ?_
  exact wmo_gather_150 h l2 l4 W
theorem wmo_gather_97 {x : jCx} {en : (fmo_gather_S ⊕ (jW)) → Option (Outcome × jW)} {t : Nat} {a1 : Int32} (h : hmo_gather x en t a1) (l2 : Int32) (W : jW) : jJ x 8 97 [(0, vR t), (1, vI a1), (2, vI l2)] [] W (fmo_gather_97 t a1 l2 W) en := by
  have h0 := h
  obtain ⟨hx, hm, hr, he, k2, k97, k110, k264⟩ := h0
  unfold fmo_gather_97
  refine j_runA hx 2 (tb := [(97, .iload_n 2), (98, .aload_n 0)]) (jtb_ok (by decide +kernel)) (pc' := 99) (lv' := [(0, vR t), (1, vI a1), (2, vI l2)]) (st' := [vR t, vI l2]) rfl ?_
  refine j_gd (fun h46 => ?_)
  refine j_getI hx flX8_281 kd1311 h46 (by decide) (by decide +kernel) ?_
  refine j_icmp_ge hx (off := 293) (tgt := 395) (by decide +kernel) (by decide) (fun _ => ?_) (fun _ => ?_)
  · exact j_vret hx hm (by decide +kernel) (he _)
  refine j_runA hx 4 (tb := [(105, .iconst (-1)), (106, .istore_n 3), (107, .iconst 0), (108, .istore 4)]) (jtb_ok (by decide +kernel)) (pc' := 110) (lv' := [(4, vI (kI 0)), (3, vI (kI (-1))), (0, vR t), (1, vI a1), (2, vI l2)]) (st' := []) rfl ?_
  refine j_lv (lv' := [(0, vR t), (1, vI a1), (2, vI l2), (3, vI (kI (-1))), (4, vI (kI 0))]) ⟨rfl, rfl, rfl, rfl, rfl, trivial⟩ ?_
  exact k110 l2 (kI (-1)) (kI 0) W
theorem wmo_gather_2 {x : jCx} {en : (fmo_gather_S ⊕ (jW)) → Option (Outcome × jW)} {t : Nat} {a1 : Int32} (h : hmo_gather x en t a1) (l2 : Int32) (W : jW) : jJ x 8 2 [(0, vR t), (1, vI a1), (2, vI l2)] [] W (fmo_gather_2 t a1 l2 W) en := by
  have h0 := h
  obtain ⟨hx, hm, hr, he, k2, k97, k110, k264⟩ := h0
  unfold fmo_gather_2
  refine j_runA hx 2 (tb := [(2, .iload_n 2), (3, .aload_n 0)]) (jtb_ok (by decide +kernel)) (pc' := 4) (lv' := [(0, vR t), (1, vI a1), (2, vI l2)]) (st' := [vR t, vI l2]) rfl ?_
  refine j_gd (fun h2 => ?_)
  refine j_getI hx flX8_281 kd1311 h2 (by decide) (by decide +kernel) ?_
  refine j_icmp_ge hx (off := 88) (tgt := 95) (by decide +kernel) (by decide) (fun _ => ?_) (fun _ => ?_)
  · refine j_runA hx 2 (tb := [(95, .iconst 0), (96, .istore_n 2)]) (jtb_ok (by decide +kernel)) (pc' := 97) (lv' := [(2, vI (kI 0)), (0, vR t), (1, vI a1)]) (st' := []) rfl ?_
    refine j_lv (lv' := [(0, vR t), (1, vI a1), (2, vI (kI 0))]) ⟨rfl, rfl, rfl, trivial⟩ ?_
    exact k97 (kI 0) W
  refine j_runA hx 1 (tb := [(10, .aload_n 0)]) (jtb_ok (by decide +kernel)) (pc' := 11) (lv' := [(0, vR t), (1, vI a1), (2, vI l2)]) (st' := [vR t]) rfl ?_
  refine j_getR hx flX8_114 kl1342 h2 (by decide) (by decide +kernel) ?_
  refine j_runA hx 2 (tb := [(14, .iload_n 2), (15, .iload_n 2)]) (jtb_ok (by decide +kernel)) (pc' := 16) (lv' := [(0, vR t), (1, vI a1), (2, vI l2)]) (st' := [vI l2, vI l2, vR (jR W 1342 t)]) rfl ?_
  refine j_gd (fun h3 => ?_)
  refine j_iast hx (f := 1342) (o := t) kd1342 rfl (by decide +kernel) h3 ?_
  refine j_ltw rfl (fun W4 hc5 => ?_)
  have h6 : jC W4 t = 13 := (congrFun hc5 _).trans h2
  refine j_runA hx 1 (tb := [(17, .aload_n 0)]) (jtb_ok (by decide +kernel)) (pc' := 18) (lv' := [(0, vR t), (1, vI a1), (2, vI l2)]) (st' := [vR t]) rfl ?_
  refine j_getR hx flX8_117 kl1343 h6 (by decide) (by decide +kernel) ?_
  refine j_runA hx 2 (tb := [(21, .iload_n 2), (22, .iconst 0)]) (jtb_ok (by decide +kernel)) (pc' := 23) (lv' := [(0, vR t), (1, vI a1), (2, vI l2)]) (st' := [vI (kI 0), vI l2, vR (jR W4 1343 t)]) rfl ?_
  refine j_gd (fun h8 => ?_)
  refine j_iast hx (f := 1343) (o := t) kd1343 rfl (by decide +kernel) h8 ?_
  refine j_ltw rfl (fun W9 hc10 => ?_)
  have h11 : jC W9 t = 13 := (congrFun hc10 _).trans h6
  refine j_runA hx 1 (tb := [(24, .aload_n 0)]) (jtb_ok (by decide +kernel)) (pc' := 25) (lv' := [(0, vR t), (1, vI a1), (2, vI l2)]) (st' := [vR t]) rfl ?_
  refine j_getR hx flX8_120 kl1344 h11 (by decide) (by decide +kernel) ?_
  refine j_runA hx 3 (tb := [(28, .iload_n 2), (29, .aload_n 0), (30, .iload_n 2)]) (jtb_ok (by decide +kernel)) (pc' := 31) (lv' := [(0, vR t), (1, vI a1), (2, vI l2)]) (st' := [vI l2, vR t, vI l2, vR (jR W9 1344 t)]) rfl ?_
  refine j_OI (j_callV (av := [vI l2]) (st := [vI l2, vR (jR W9 1344 t)]) hx hr (Or.inl q3215) q3217 qs161 rfl md_fmo_hotWords np_fmo_hotWords (cmo_hotWords t l2 W9) (by decide) (Nat.le_of_ble_eq_true rfl) h11 (by decide) (by decide +kernel)) (fun q13 _ => ?_)
  refine j_if_le hx (off := 7) (tgt := 41) (by decide +kernel) (by decide) (fun _ => ?_) (fun _ => ?_)
  · refine j_runA hx 1 (tb := [(41, .iconst 0)]) (jtb_ok (by decide +kernel)) (pc' := 42) (lv' := [(0, vR t), (1, vI a1), (2, vI l2)]) (st' := [vI (kI 0), vI l2, vR (jR W9 1344 t)]) rfl ?_
    exact wmo_gather_42 h l2 (kI 0) l2 (jR W9 1344 t) W9
  refine j_runA hx 1 (tb := [(37, .iconst 1)]) (jtb_ok (by decide +kernel)) (pc' := 38) (lv' := [(0, vR t), (1, vI a1), (2, vI l2)]) (st' := [vI (kI 1), vI l2, vR (jR W9 1344 t)]) rfl ?_
  refine j_goto hx (off := 4) (by decide +kernel) (tgt := 42) (by decide) ?_
  exact wmo_gather_42 h l2 (kI 1) l2 (jR W9 1344 t) W9
theorem wmo_gather {x : jCx} {en : (fmo_gather_S ⊕ (jW)) → Option (Outcome × jW)} {t : Nat} {a1 : Int32} (h : hmo_gather x en t a1) (W : jW) : jJ x 8 0 [(0, vR t), (1, vI a1)] [] W (fmo_gather_0 t a1 W) en := by
  have h0 := h
  obtain ⟨hx, hm, hr, he, k2, k97, k110, k264⟩ := h0
  unfold fmo_gather_0
  refine j_runA hx 2 (tb := [(0, .iconst 0), (1, .istore_n 2)]) (jtb_ok (by decide +kernel)) (pc' := 2) (lv' := [(2, vI (kI 0)), (0, vR t), (1, vI a1)]) (st' := []) rfl ?_
  refine j_lv (lv' := [(0, vR t), (1, vI a1), (2, vI (kI 0))]) ⟨rfl, rfl, rfl, trivial⟩ ?_
  exact k2 (kI 0) W
theorem cmo_gather (t : Nat) (a1 : Int32) (W : jW) : jM yX8_gather cX8_gather 8 (Option.none : Option Jvm.ClassFile.FieldType) [] 1 19 [vR t, vI a1] W ((fmo_gather t a1 W).bind (fun q => some (.returned none, q))) := by
  refine jM.of (Nat.le_of_ble_eq_true rfl) (fun x hx hm hr => ?_)
  refine j_begin (P := (Sum.elim (fun s => (2, [(0, vR t), (1, vI a1), (2, vI s.1)], s.2)) (Sum.elim (fun s => (97, [(0, vR t), (1, vI a1), (2, vI s.1)], s.2)) (Sum.elim (fun s => (110, [(0, vR t), (1, vI a1), (2, vI s.1), (3, vI s.2.1), (4, vI s.2.2.1)], s.2.2.2)) (fun s => (264, [(0, vR t), (1, vI a1), (2, vI s.1), (5, vI s.2.1), (6, vI s.2.2.1), (7, vI s.2.2.2.1)], s.2.2.2.2)))))) (fun en he hk => ?_)
  have h : hmo_gather x en t a1 := ⟨hx, hm, hr, fun q => he _, fun l2 W => hk (.inl (l2, W)), fun l2 W => hk (.inr (.inl (l2, W))), fun l2 l3 l4 W => hk (.inr (.inr (.inl (l2, l3, l4, W)))), fun l2 l5 l6 l7 W => hk (.inr (.inr (.inr (l2, l5, l6, l7, W))))⟩
  refine ⟨fun s => ?_, wmo_gather h W⟩
  rcases s with s | s | s | s
  · exact wmo_gather_2 h s.1 s.2
  · exact wmo_gather_97 h s.1 s.2
  · exact wmo_gather_110 h s.1 s.2.1 s.2.2.1 s.2.2.2
  · exact wmo_gather_264 h s.1 s.2.1 s.2.2.1 s.2.2.2.1 s.2.2.2.2
def hmo_falls (x : jCx) (en : (Int32) → Option (Outcome × jW)) (t : Nat) (a1 : Int32) (a2 : Int32) (W : jW) : Prop :=
  jOK x RX8 cX8_falls 3 ∧
  jMt x "falls" (Option.some Jvm.ClassFile.FieldType.boolean) [] ∧
  jRm x 1 13 ∧
  (∀ q : Int32, en q = some (.returned (some (.int q)), W))
theorem wmo_falls_41 {x : jCx} {en : (Int32) → Option (Outcome × jW)} {W : jW} {t : Nat} {a1 : Int32} {a2 : Int32} (h : hmo_falls x en t a1 a2 W) : jJ x 3 41 [(0, vR t), (1, vI a1), (2, vI a2)] [] W (fmo_falls_41 t a1 a2 W) en := by
  have h0 := h
  obtain ⟨hx, hm, hr, he⟩ := h0
  unfold fmo_falls_41
  refine j_runA hx 1 (tb := [(41, .iconst 0)]) (jtb_ok (by decide +kernel)) (pc' := 42) (lv' := [(0, vR t), (1, vI a1), (2, vI a2)]) (st' := [vI (kI 0)]) rfl ?_
  exact j_iret hx hm (by decide +kernel) jz0n (he _)
theorem wmo_falls_72 {x : jCx} {en : (Int32) → Option (Outcome × jW)} {W : jW} {t : Nat} {a1 : Int32} {a2 : Int32} (h : hmo_falls x en t a1 a2 W) : jJ x 3 72 [(0, vR t), (1, vI a1), (2, vI a2)] [] W (fmo_falls_72 t a1 a2 W) en := by
  have h0 := h
  obtain ⟨hx, hm, hr, he⟩ := h0
  unfold fmo_falls_72
  refine j_runA hx 1 (tb := [(72, .iconst 1)]) (jtb_ok (by decide +kernel)) (pc' := 73) (lv' := [(0, vR t), (1, vI a1), (2, vI a2)]) (st' := [vI (kI 1)]) rfl ?_
  refine j_goto hx (off := 4) (by decide +kernel) (tgt := 77) (by decide) ?_
  exact j_iret hx hm (by decide +kernel) jz1n (he _)
theorem wmo_falls_76 {x : jCx} {en : (Int32) → Option (Outcome × jW)} {W : jW} {t : Nat} {a1 : Int32} {a2 : Int32} (h : hmo_falls x en t a1 a2 W) : jJ x 3 76 [(0, vR t), (1, vI a1), (2, vI a2)] [] W (fmo_falls_76 t a1 a2 W) en := by
  have h0 := h
  obtain ⟨hx, hm, hr, he⟩ := h0
  unfold fmo_falls_76
  refine j_runA hx 1 (tb := [(76, .iconst 0)]) (jtb_ok (by decide +kernel)) (pc' := 77) (lv' := [(0, vR t), (1, vI a1), (2, vI a2)]) (st' := [vI (kI 0)]) rfl ?_
  exact j_iret hx hm (by decide +kernel) jz0n (he _)
theorem wmo_falls {x : jCx} {en : (Int32) → Option (Outcome × jW)} {W : jW} {t : Nat} {a1 : Int32} {a2 : Int32} (h : hmo_falls x en t a1 a2 W) : jJ x 3 0 [(0, vR t), (1, vI a1), (2, vI a2)] [] W (fmo_falls t a1 a2 W) en := by
  have h0 := h
  obtain ⟨hx, hm, hr, he⟩ := h0
  unfold fmo_falls
  refine j_runA hx 1 (tb := [(0, .aload_n 0)]) (jtb_ok (by decide +kernel)) (pc' := 1) (lv' := [(0, vR t), (1, vI a1), (2, vI a2)]) (st' := [vR t]) rfl ?_
  refine j_gd (fun h1 => ?_)
  refine j_getR hx flX8_68 kl1325 h1 (by decide) (by decide +kernel) ?_
  refine j_runA hx 1 (tb := [(4, .iload_n 1)]) (jtb_ok (by decide +kernel)) (pc' := 5) (lv' := [(0, vR t), (1, vI a1), (2, vI a2)]) (st' := [vI a1, vR (jR W 1325 t)]) rfl ?_
  refine j_gd (fun h2 => ?_)
  refine j_iald hx (f := 1325) (o := t) kd1325 rfl (by decide +kernel) h2 ?_
  refine j_runA hx 1 (tb := [(6, .iconst 1)]) (jtb_ok (by decide +kernel)) (pc' := 7) (lv' := [(0, vR t), (1, vI a1), (2, vI a2)]) (st' := [vI (kI 1), vI (jA W 1325 t (ix a1))]) rfl ?_
  refine j_icmp_ne hx (off := 36) (tgt := 43) (by decide +kernel) (by decide) (fun _ => ?_) (fun _ => ?_)
  · refine j_runA hx 2 (tb := [(43, .aload_n 0), (44, .iload_n 1)]) (jtb_ok (by decide +kernel)) (pc' := 45) (lv' := [(0, vR t), (1, vI a1), (2, vI a2)]) (st' := [vI a1, vR t]) rfl ?_
    refine j_OI (j_callV (av := [vI a1]) (st := []) hx hr (Or.inl q3092) q3094 qs150 rfl md_fmo_next np_fmo_next (cmo_next t a1 W) (by decide) (Nat.le_of_ble_eq_true rfl) h1 (by decide) (by decide +kernel)) (fun q3 _ => ?_)
    refine j_runA hx 1 (tb := [(48, .iload_n 2)]) (jtb_ok (by decide +kernel)) (pc' := 49) (lv' := [(0, vR t), (1, vI a1), (2, vI a2)]) (st' := [vI a2, vI q3]) rfl ?_
    refine j_icmp_eq hx (off := 23) (tgt := 72) (by decide +kernel) (by decide) (fun _ => ?_) (fun _ => ?_)
    · exact wmo_falls_72 h
    refine j_runA hx 1 (tb := [(52, .aload_n 0)]) (jtb_ok (by decide +kernel)) (pc' := 53) (lv' := [(0, vR t), (1, vI a1), (2, vI a2)]) (st' := [vR t]) rfl ?_
    refine j_getR hx flX8_68 kl1325 h1 (by decide) (by decide +kernel) ?_
    refine j_runA hx 1 (tb := [(56, .iload_n 1)]) (jtb_ok (by decide +kernel)) (pc' := 57) (lv' := [(0, vR t), (1, vI a1), (2, vI a2)]) (st' := [vI a1, vR (jR W 1325 t)]) rfl ?_
    refine j_gd (fun h4 => ?_)
    refine j_iald hx (f := 1325) (o := t) kd1325 rfl (by decide +kernel) h4 ?_
    refine j_runA hx 1 (tb := [(58, .iconst 3)]) (jtb_ok (by decide +kernel)) (pc' := 59) (lv' := [(0, vR t), (1, vI a1), (2, vI a2)]) (st' := [vI (kI 3), vI (jA W 1325 t (ix a1))]) rfl ?_
    refine j_icmp_ne hx (off := 17) (tgt := 76) (by decide +kernel) (by decide) (fun _ => ?_) (fun _ => ?_)
    · exact wmo_falls_76 h
    refine j_runA hx 1 (tb := [(62, .aload_n 0)]) (jtb_ok (by decide +kernel)) (pc' := 63) (lv' := [(0, vR t), (1, vI a1), (2, vI a2)]) (st' := [vR t]) rfl ?_
    refine j_getR hx flX8_71 kl1326 h1 (by decide) (by decide +kernel) ?_
    refine j_runA hx 1 (tb := [(66, .iload_n 1)]) (jtb_ok (by decide +kernel)) (pc' := 67) (lv' := [(0, vR t), (1, vI a1), (2, vI a2)]) (st' := [vI a1, vR (jR W 1326 t)]) rfl ?_
    refine j_gd (fun h5 => ?_)
    refine j_iald hx (f := 1326) (o := t) kd1326 rfl (by decide +kernel) h5 ?_
    refine j_runA hx 1 (tb := [(68, .iload_n 2)]) (jtb_ok (by decide +kernel)) (pc' := 69) (lv' := [(0, vR t), (1, vI a1), (2, vI a2)]) (st' := [vI a2, vI (jA W 1326 t (ix a1))]) rfl ?_
    refine j_icmp_ne hx (off := 7) (tgt := 76) (by decide +kernel) (by decide) (fun _ => ?_) (fun _ => ?_)
    · exact wmo_falls_76 h
    exact wmo_falls_72 h
  refine j_runA hx 1 (tb := [(10, .aload_n 0)]) (jtb_ok (by decide +kernel)) (pc' := 11) (lv' := [(0, vR t), (1, vI a1), (2, vI a2)]) (st' := [vR t]) rfl ?_
  refine j_getR hx flX8_71 kl1326 h1 (by decide) (by decide +kernel) ?_
  refine j_runA hx 1 (tb := [(14, .iload_n 1)]) (jtb_ok (by decide +kernel)) (pc' := 15) (lv' := [(0, vR t), (1, vI a1), (2, vI a2)]) (st' := [vI a1, vR (jR W 1326 t)]) rfl ?_
  refine j_gd (fun h6 => ?_)
  refine j_iald hx (f := 1326) (o := t) kd1326 rfl (by decide +kernel) h6 ?_
  refine j_runA hx 1 (tb := [(16, .iload_n 2)]) (jtb_ok (by decide +kernel)) (pc' := 17) (lv' := [(0, vR t), (1, vI a1), (2, vI a2)]) (st' := [vI a2, vI (jA W 1326 t (ix a1))]) rfl ?_
  refine j_icmp_ne hx (off := 24) (tgt := 41) (by decide +kernel) (by decide) (fun _ => ?_) (fun _ => ?_)
  · exact wmo_falls_41 h
  refine j_runA hx 1 (tb := [(20, .aload_n 0)]) (jtb_ok (by decide +kernel)) (pc' := 21) (lv' := [(0, vR t), (1, vI a1), (2, vI a2)]) (st' := [vR t]) rfl ?_
  refine j_getR hx flX8_62 kl1323 h1 (by decide) (by decide +kernel) ?_
  refine j_runA hx 1 (tb := [(24, .iload_n 1)]) (jtb_ok (by decide +kernel)) (pc' := 25) (lv' := [(0, vR t), (1, vI a1), (2, vI a2)]) (st' := [vI a1, vR (jR W 1323 t)]) rfl ?_
  refine j_gd (fun h7 => ?_)
  refine j_iald hx (f := 1323) (o := t) kd1323 rfl (by decide +kernel) h7 ?_
  refine j_runA hx 1 (tb := [(26, .iconst 1)]) (jtb_ok (by decide +kernel)) (pc' := 27) (lv' := [(0, vR t), (1, vI a1), (2, vI a2)]) (st' := [vI (kI 1), vI (jA W 1323 t (ix a1))]) rfl ?_
  refine j_icmp_le hx (off := 14) (tgt := 41) (by decide +kernel) (by decide) (fun _ => ?_) (fun _ => ?_)
  · exact wmo_falls_41 h
  refine j_runA hx 4 (tb := [(30, .iload_n 2), (31, .iload_n 1), (32, .iconst 1), (33, .iadd)]) (jtb_ok (by decide +kernel)) (pc' := 34) (lv' := [(0, vR t), (1, vI a1), (2, vI a2)]) (st' := [vI (a1 + (kI 1)), vI a2]) rfl ?_
  refine j_icmp_eq hx (off := 7) (tgt := 41) (by decide +kernel) (by decide) (fun _ => ?_) (fun _ => ?_)
  · exact wmo_falls_41 h
  refine j_runA hx 1 (tb := [(37, .iconst 1)]) (jtb_ok (by decide +kernel)) (pc' := 38) (lv' := [(0, vR t), (1, vI a1), (2, vI a2)]) (st' := [vI (kI 1)]) rfl ?_
  refine j_goto hx (off := 4) (by decide +kernel) (tgt := 42) (by decide) ?_
  exact j_iret hx hm (by decide +kernel) jz1n (he _)
theorem cmo_falls (t : Nat) (a1 : Int32) (a2 : Int32) (W : jW) : jM yX8_falls cX8_falls 3 (Option.some Jvm.ClassFile.FieldType.boolean) [] 1 13 [vR t, vI a1, vI a2] W ((fmo_falls t a1 a2 W).bind (fun q => some (.returned (some (.int q)), W))) := 
  jM.of (Nat.le_of_ble_eq_true rfl) (fun x hx hm hr => wmo_falls ⟨hx, hm, hr, fun _ => rfl⟩)
def hmo_comesBefore (x : jCx) (en : (Int32) → Option (Outcome × jW)) (t : Nat) (a1 : Int32) (a2 : Int32) (W : jW) : Prop :=
  jOK x RX8 cX8_comesBefore 3 ∧
  jMt x "comesBefore" (Option.some Jvm.ClassFile.FieldType.boolean) [] ∧
  jRm x 0 0 ∧
  (∀ q : Int32, en q = some (.returned (some (.int q)), W))
theorem wmo_comesBefore {x : jCx} {en : (Int32) → Option (Outcome × jW)} {W : jW} {t : Nat} {a1 : Int32} {a2 : Int32} (h : hmo_comesBefore x en t a1 a2 W) : jJ x 3 0 [(0, vR t), (1, vI a1), (2, vI a2)] [] W (fmo_comesBefore t a1 a2 W) en := by
  have h0 := h
  obtain ⟨hx, hm, hr, he⟩ := h0
  unfold fmo_comesBefore
  refine j_runA hx 1 (tb := [(0, .aload_n 0)]) (jtb_ok (by decide +kernel)) (pc' := 1) (lv' := [(0, vR t), (1, vI a1), (2, vI a2)]) (st' := [vR t]) rfl ?_
  refine j_gd (fun h1 => ?_)
  refine j_getR hx flX8_86 kl1333 h1 (by decide) (by decide +kernel) ?_
  refine j_runA hx 1 (tb := [(4, .iload_n 1)]) (jtb_ok (by decide +kernel)) (pc' := 5) (lv' := [(0, vR t), (1, vI a1), (2, vI a2)]) (st' := [vI a1, vR (jR W 1333 t)]) rfl ?_
  refine j_gd (fun h2 => ?_)
  refine j_lald hx (f := 1333) (o := t) kd1333 rfl (by decide +kernel) h2 ?_
  refine j_runA hx 1 (tb := [(6, .aload_n 0)]) (jtb_ok (by decide +kernel)) (pc' := 7) (lv' := [(0, vR t), (1, vI a1), (2, vI a2)]) (st' := [vR t, vL (jB W 1333 t (ix a1))]) rfl ?_
  refine j_getR hx flX8_86 kl1333 h1 (by decide) (by decide +kernel) ?_
  refine j_runA hx 1 (tb := [(10, .iload_n 2)]) (jtb_ok (by decide +kernel)) (pc' := 11) (lv' := [(0, vR t), (1, vI a1), (2, vI a2)]) (st' := [vI a2, vR (jR W 1333 t), vL (jB W 1333 t (ix a1))]) rfl ?_
  refine j_gd (fun h3 => ?_)
  refine j_lald hx (f := 1333) (o := t) kd1333 rfl (by decide +kernel) h3 ?_
  refine j_lcmp_eq hx (off := 25) (tgt := 38) (by decide +kernel) (by decide +kernel) (by decide) (fun _ => ?_) (fun _ => ?_)
  · refine j_runA hx 1 (tb := [(38, .aload_n 0)]) (jtb_ok (by decide +kernel)) (pc' := 39) (lv' := [(0, vR t), (1, vI a1), (2, vI a2)]) (st' := [vR t]) rfl ?_
    refine j_getR hx flX8_77 kl1330 h1 (by decide) (by decide +kernel) ?_
    refine j_runA hx 1 (tb := [(42, .iload_n 1)]) (jtb_ok (by decide +kernel)) (pc' := 43) (lv' := [(0, vR t), (1, vI a1), (2, vI a2)]) (st' := [vI a1, vR (jR W 1330 t)]) rfl ?_
    refine j_gd (fun h4 => ?_)
    refine j_iald hx (f := 1330) (o := t) kd1330 rfl (by decide +kernel) h4 ?_
    refine j_runA hx 1 (tb := [(44, .aload_n 0)]) (jtb_ok (by decide +kernel)) (pc' := 45) (lv' := [(0, vR t), (1, vI a1), (2, vI a2)]) (st' := [vR t, vI (jA W 1330 t (ix a1))]) rfl ?_
    refine j_getR hx flX8_77 kl1330 h1 (by decide) (by decide +kernel) ?_
    refine j_runA hx 1 (tb := [(48, .iload_n 2)]) (jtb_ok (by decide +kernel)) (pc' := 49) (lv' := [(0, vR t), (1, vI a1), (2, vI a2)]) (st' := [vI a2, vR (jR W 1330 t), vI (jA W 1330 t (ix a1))]) rfl ?_
    refine j_gd (fun h5 => ?_)
    refine j_iald hx (f := 1330) (o := t) kd1330 rfl (by decide +kernel) h5 ?_
    refine j_icmp_eq hx (off := 26) (tgt := 76) (by decide +kernel) (by decide) (fun _ => ?_) (fun _ => ?_)
    · refine j_runA hx 1 (tb := [(76, .aload_n 0)]) (jtb_ok (by decide +kernel)) (pc' := 77) (lv' := [(0, vR t), (1, vI a1), (2, vI a2)]) (st' := [vR t]) rfl ?_
      refine j_getR hx flX8_80 kl1331 h1 (by decide) (by decide +kernel) ?_
      refine j_runA hx 1 (tb := [(80, .iload_n 1)]) (jtb_ok (by decide +kernel)) (pc' := 81) (lv' := [(0, vR t), (1, vI a1), (2, vI a2)]) (st' := [vI a1, vR (jR W 1331 t)]) rfl ?_
      refine j_gd (fun h6 => ?_)
      refine j_iald hx (f := 1331) (o := t) kd1331 rfl (by decide +kernel) h6 ?_
      refine j_runA hx 1 (tb := [(82, .aload_n 0)]) (jtb_ok (by decide +kernel)) (pc' := 83) (lv' := [(0, vR t), (1, vI a1), (2, vI a2)]) (st' := [vR t, vI (jA W 1331 t (ix a1))]) rfl ?_
      refine j_getR hx flX8_80 kl1331 h1 (by decide) (by decide +kernel) ?_
      refine j_runA hx 1 (tb := [(86, .iload_n 2)]) (jtb_ok (by decide +kernel)) (pc' := 87) (lv' := [(0, vR t), (1, vI a1), (2, vI a2)]) (st' := [vI a2, vR (jR W 1331 t), vI (jA W 1331 t (ix a1))]) rfl ?_
      refine j_gd (fun h7 => ?_)
      refine j_iald hx (f := 1331) (o := t) kd1331 rfl (by decide +kernel) h7 ?_
      refine j_icmp_ge hx (off := 7) (tgt := 95) (by decide +kernel) (by decide) (fun _ => ?_) (fun _ => ?_)
      · refine j_runA hx 1 (tb := [(95, .iconst 0)]) (jtb_ok (by decide +kernel)) (pc' := 96) (lv' := [(0, vR t), (1, vI a1), (2, vI a2)]) (st' := [vI (kI 0)]) rfl ?_
        exact j_iret hx hm (by decide +kernel) jz0n (he _)
      refine j_runA hx 1 (tb := [(91, .iconst 1)]) (jtb_ok (by decide +kernel)) (pc' := 92) (lv' := [(0, vR t), (1, vI a1), (2, vI a2)]) (st' := [vI (kI 1)]) rfl ?_
      refine j_goto hx (off := 4) (by decide +kernel) (tgt := 96) (by decide) ?_
      exact j_iret hx hm (by decide +kernel) jz1n (he _)
    refine j_runA hx 1 (tb := [(53, .aload_n 0)]) (jtb_ok (by decide +kernel)) (pc' := 54) (lv' := [(0, vR t), (1, vI a1), (2, vI a2)]) (st' := [vR t]) rfl ?_
    refine j_getR hx flX8_77 kl1330 h1 (by decide) (by decide +kernel) ?_
    refine j_runA hx 1 (tb := [(57, .iload_n 1)]) (jtb_ok (by decide +kernel)) (pc' := 58) (lv' := [(0, vR t), (1, vI a1), (2, vI a2)]) (st' := [vI a1, vR (jR W 1330 t)]) rfl ?_
    refine j_gd (fun h8 => ?_)
    refine j_iald hx (f := 1330) (o := t) kd1330 rfl (by decide +kernel) h8 ?_
    refine j_runA hx 1 (tb := [(59, .aload_n 0)]) (jtb_ok (by decide +kernel)) (pc' := 60) (lv' := [(0, vR t), (1, vI a1), (2, vI a2)]) (st' := [vR t, vI (jA W 1330 t (ix a1))]) rfl ?_
    refine j_getR hx flX8_77 kl1330 h1 (by decide) (by decide +kernel) ?_
    refine j_runA hx 1 (tb := [(63, .iload_n 2)]) (jtb_ok (by decide +kernel)) (pc' := 64) (lv' := [(0, vR t), (1, vI a1), (2, vI a2)]) (st' := [vI a2, vR (jR W 1330 t), vI (jA W 1330 t (ix a1))]) rfl ?_
    refine j_gd (fun h9 => ?_)
    refine j_iald hx (f := 1330) (o := t) kd1330 rfl (by decide +kernel) h9 ?_
    refine j_icmp_ge hx (off := 7) (tgt := 72) (by decide +kernel) (by decide) (fun _ => ?_) (fun _ => ?_)
    · refine j_runA hx 1 (tb := [(72, .iconst 0)]) (jtb_ok (by decide +kernel)) (pc' := 73) (lv' := [(0, vR t), (1, vI a1), (2, vI a2)]) (st' := [vI (kI 0)]) rfl ?_
      refine j_goto hx (off := 23) (by decide +kernel) (tgt := 96) (by decide) ?_
      exact j_iret hx hm (by decide +kernel) jz0n (he _)
    refine j_runA hx 1 (tb := [(68, .iconst 1)]) (jtb_ok (by decide +kernel)) (pc' := 69) (lv' := [(0, vR t), (1, vI a1), (2, vI a2)]) (st' := [vI (kI 1)]) rfl ?_
    refine j_goto hx (off := 27) (by decide +kernel) (tgt := 96) (by decide) ?_
    exact j_iret hx hm (by decide +kernel) jz1n (he _)
  refine j_runA hx 1 (tb := [(16, .aload_n 0)]) (jtb_ok (by decide +kernel)) (pc' := 17) (lv' := [(0, vR t), (1, vI a1), (2, vI a2)]) (st' := [vR t]) rfl ?_
  refine j_getR hx flX8_86 kl1333 h1 (by decide) (by decide +kernel) ?_
  refine j_runA hx 1 (tb := [(20, .iload_n 1)]) (jtb_ok (by decide +kernel)) (pc' := 21) (lv' := [(0, vR t), (1, vI a1), (2, vI a2)]) (st' := [vI a1, vR (jR W 1333 t)]) rfl ?_
  refine j_gd (fun h10 => ?_)
  refine j_lald hx (f := 1333) (o := t) kd1333 rfl (by decide +kernel) h10 ?_
  refine j_runA hx 1 (tb := [(22, .aload_n 0)]) (jtb_ok (by decide +kernel)) (pc' := 23) (lv' := [(0, vR t), (1, vI a1), (2, vI a2)]) (st' := [vR t, vL (jB W 1333 t (ix a1))]) rfl ?_
  refine j_getR hx flX8_86 kl1333 h1 (by decide) (by decide +kernel) ?_
  refine j_runA hx 1 (tb := [(26, .iload_n 2)]) (jtb_ok (by decide +kernel)) (pc' := 27) (lv' := [(0, vR t), (1, vI a1), (2, vI a2)]) (st' := [vI a2, vR (jR W 1333 t), vL (jB W 1333 t (ix a1))]) rfl ?_
  refine j_gd (fun h11 => ?_)
  refine j_lald hx (f := 1333) (o := t) kd1333 rfl (by decide +kernel) h11 ?_
  refine j_lcmp_le hx (off := 7) (tgt := 36) (by decide +kernel) (by decide +kernel) (by decide) (fun _ => ?_) (fun _ => ?_)
  · refine j_runA hx 1 (tb := [(36, .iconst 0)]) (jtb_ok (by decide +kernel)) (pc' := 37) (lv' := [(0, vR t), (1, vI a1), (2, vI a2)]) (st' := [vI (kI 0)]) rfl ?_
    exact j_iret hx hm (by decide +kernel) jz0n (he _)
  refine j_runA hx 1 (tb := [(32, .iconst 1)]) (jtb_ok (by decide +kernel)) (pc' := 33) (lv' := [(0, vR t), (1, vI a1), (2, vI a2)]) (st' := [vI (kI 1)]) rfl ?_
  refine j_goto hx (off := 4) (by decide +kernel) (tgt := 37) (by decide) ?_
  exact j_iret hx hm (by decide +kernel) jz1n (he _)
theorem cmo_comesBefore (t : Nat) (a1 : Int32) (a2 : Int32) (W : jW) : jM yX8_comesBefore cX8_comesBefore 3 (Option.some Jvm.ClassFile.FieldType.boolean) [] 0 0 [vR t, vI a1, vI a2] W ((fmo_comesBefore t a1 a2 W).bind (fun q => some (.returned (some (.int q)), W))) := 
  jM.of (Nat.le_of_ble_eq_true rfl) (fun x hx hm hr => wmo_comesBefore ⟨hx, hm, hr, fun _ => rfl⟩)
def hmo_join (x : jCx) (en : (fmo_join_S ⊕ (jW)) → Option (Outcome × jW)) (t : Nat) (a1 : Int32) (a2 : Int32) : Prop :=
  jOK x RX8 cX8_join 9 ∧
  jMt x "join" (Option.none : Option Jvm.ClassFile.FieldType) [] ∧
  jRm x 2 27 ∧
  (∀ q : jW, en (.inr q) = some (.returned none, q)) ∧
  (∀ (l3 : Int32) (W : jW), jJ x 9 2 [(0, vR t), (1, vI a1), (2, vI a2), (3, vI l3)] [] W (some (.inl (.inl (l3, W)))) en) ∧
  (∀ (l3 : Int32) (l4 : Int32) (l5 : Int32) (W : jW), jJ x 9 8 [(0, vR t), (1, vI a1), (2, vI a2), (3, vI l3), (4, vI l4), (5, vI l5)] [] W (some (.inl (.inr (.inl (l3, l4, l5, W))))) en) ∧
  (∀ (l3 : Int32) (l7 : Int32) (l8 : Int32) (W : jW), jJ x 9 199 [(0, vR t), (1, vI a1), (2, vI a2), (3, vI l3), (7, vI l7), (8, vI l8)] [] W (some (.inl (.inr (.inr (l3, l7, l8, W))))) en)
theorem wmo_join_101 {x : jCx} {en : (fmo_join_S ⊕ (jW)) → Option (Outcome × jW)} {t : Nat} {a1 : Int32} {a2 : Int32} (h : hmo_join x en t a1 a2) (l3 : Int32) (l4 : Int32) (l5 : Int32) (W : jW) : jJ x 9 101 [(0, vR t), (1, vI a1), (2, vI a2), (3, vI l3), (4, vI l4), (5, vI l5)] [] W (fmo_join_101 t a1 a2 l3 l4 l5 W) en := by
  have h0 := h
  obtain ⟨hx, hm, hr, he, k2, k8, k199⟩ := h0
  unfold fmo_join_101
  refine j_runA hx 1 (tb := [(101, .iinc 5 1)]) (jtb_ok (by decide +kernel)) (pc' := 104) (lv' := [(5, vI (l5 + (kI 1))), (0, vR t), (1, vI a1), (2, vI a2), (3, vI l3), (4, vI l4)]) (st' := []) rfl ?_
  refine j_let (v := (l5 + (kI 1))) (lv := fun v29 => [(5, vI v29), (0, vR t), (1, vI a1), (2, vI a2), (3, vI l3), (4, vI l4)]) (st := fun _ => []) (fun v29 => ?_)
  refine j_goto hx (off := -96) (by decide +kernel) (tgt := 8) (by decide) ?_
  refine j_lv (lv' := [(0, vR t), (1, vI a1), (2, vI a2), (3, vI l3), (4, vI l4), (5, vI v29)]) ⟨rfl, rfl, rfl, rfl, rfl, rfl, trivial⟩ ?_
  exact k8 l3 l4 v29 W
theorem wmo_join_97 {x : jCx} {en : (fmo_join_S ⊕ (jW)) → Option (Outcome × jW)} {t : Nat} {a1 : Int32} {a2 : Int32} (h : hmo_join x en t a1 a2) (l3 : Int32) (l5 : Int32) (W : jW) : jJ x 9 97 [(0, vR t), (1, vI a1), (2, vI a2), (3, vI l3), (5, vI l5)] [] W (fmo_join_97 t a1 a2 l3 l5 W) en := by
  have h0 := h
  obtain ⟨hx, hm, hr, he, k2, k8, k199⟩ := h0
  unfold fmo_join_97
  refine j_runA hx 2 (tb := [(97, .iload 5), (99, .istore 4)]) (jtb_ok (by decide +kernel)) (pc' := 101) (lv' := [(4, vI l5), (0, vR t), (1, vI a1), (2, vI a2), (3, vI l3), (5, vI l5)]) (st' := []) rfl ?_
  refine j_lv (lv' := [(0, vR t), (1, vI a1), (2, vI a2), (3, vI l3), (4, vI l5), (5, vI l5)]) ⟨rfl, rfl, rfl, rfl, rfl, rfl, trivial⟩ ?_
  exact wmo_join_101 h l3 l5 l5 W
theorem wmo_join_81 {x : jCx} {en : (fmo_join_S ⊕ (jW)) → Option (Outcome × jW)} {t : Nat} {a1 : Int32} {a2 : Int32} (h : hmo_join x en t a1 a2) (l3 : Int32) (l4 : Int32) (l5 : Int32) (W : jW) : jJ x 9 81 [(0, vR t), (1, vI a1), (2, vI a2), (3, vI l3), (4, vI l4), (5, vI l5)] [] W (fmo_join_81 t a1 a2 l3 l4 l5 W) en := by
  have h0 := h
  obtain ⟨hx, hm, hr, he, k2, k8, k199⟩ := h0
  unfold fmo_join_81
  refine j_runA hx 1 (tb := [(81, .iload 4)]) (jtb_ok (by decide +kernel)) (pc' := 83) (lv' := [(0, vR t), (1, vI a1), (2, vI a2), (3, vI l3), (4, vI l4), (5, vI l5)]) (st' := [vI l4]) rfl ?_
  refine j_if_lt hx (off := 14) (tgt := 97) (by decide +kernel) (by decide) (fun _ => ?_) (fun _ => ?_)
  · refine j_lv (lv' := [(0, vR t), (1, vI a1), (2, vI a2), (3, vI l3), (5, vI l5)]) ⟨rfl, rfl, rfl, rfl, rfl, trivial⟩ ?_
    exact wmo_join_97 h l3 l5 W
  refine j_runA hx 3 (tb := [(86, .aload_n 0), (87, .iload 5), (89, .iload 4)]) (jtb_ok (by decide +kernel)) (pc' := 91) (lv' := [(0, vR t), (1, vI a1), (2, vI a2), (3, vI l3), (4, vI l4), (5, vI l5)]) (st' := [vI l4, vI l5, vR t]) rfl ?_
  refine j_gd (fun h25 => ?_)
  refine j_OI (j_callV (av := [vI l5, vI l4]) (st := []) hx hr (Or.inl q3239) q3241 qs167 rfl md_fmo_comesBefore np_fmo_comesBefore (cmo_comesBefore t l5 l4 W) (by decide) (Nat.le_of_ble_eq_true rfl) h25 (by decide) (by decide +kernel)) (fun q26 _ => ?_)
  refine j_if_eq hx (off := 7) (tgt := 101) (by decide +kernel) (by decide) (fun _ => ?_) (fun _ => ?_)
  · exact wmo_join_101 h l3 l4 l5 W
  refine j_lv (lv' := [(0, vR t), (1, vI a1), (2, vI a2), (3, vI l3), (5, vI l5)]) ⟨rfl, rfl, rfl, rfl, rfl, trivial⟩ ?_
  exact wmo_join_97 h l3 l5 W
theorem wmo_join_199 {x : jCx} {en : (fmo_join_S ⊕ (jW)) → Option (Outcome × jW)} {t : Nat} {a1 : Int32} {a2 : Int32} (h : hmo_join x en t a1 a2) (l3 : Int32) (l7 : Int32) (l8 : Int32) (W : jW) : jJ x 9 199 [(0, vR t), (1, vI a1), (2, vI a2), (3, vI l3), (7, vI l7), (8, vI l8)] [] W (fmo_join_199 t a1 a2 l3 l7 l8 W) en := by
  have h0 := h
  obtain ⟨hx, hm, hr, he, k2, k8, k199⟩ := h0
  unfold fmo_join_199
  refine j_runA hx 1 (tb := [(199, .iload 8)]) (jtb_ok (by decide +kernel)) (pc' := 201) (lv' := [(0, vR t), (1, vI a1), (2, vI a2), (3, vI l3), (7, vI l7), (8, vI l8)]) (st' := [vI l8]) rfl ?_
  refine j_if_lt hx (off := 24) (tgt := 225) (by decide +kernel) (by decide) (fun _ => ?_) (fun _ => ?_)
  · refine j_goto hx (off := -223) (by decide +kernel) (tgt := 2) (by decide) ?_
    refine j_lv (lv' := [(0, vR t), (1, vI a1), (2, vI a2), (3, vI l3)]) ⟨rfl, rfl, rfl, rfl, trivial⟩ ?_
    exact k2 l3 W
  refine j_runA hx 1 (tb := [(204, .aload_n 0)]) (jtb_ok (by decide +kernel)) (pc' := 205) (lv' := [(0, vR t), (1, vI a1), (2, vI a2), (3, vI l3), (7, vI l7), (8, vI l8)]) (st' := [vR t]) rfl ?_
  refine j_gd (fun h31 => ?_)
  refine j_getR hx flX8_93 kl1335 h31 (by decide) (by decide +kernel) ?_
  refine j_runA hx 2 (tb := [(208, .iload 8), (210, .iload 7)]) (jtb_ok (by decide +kernel)) (pc' := 212) (lv' := [(0, vR t), (1, vI a1), (2, vI a2), (3, vI l3), (7, vI l7), (8, vI l8)]) (st' := [vI l7, vI l8, vR (jR W 1335 t)]) rfl ?_
  refine j_gd (fun h32 => ?_)
  refine j_iast hx (f := 1335) (o := t) kd1335 rfl (by decide +kernel) h32 ?_
  refine j_ltw rfl (fun W33 hc34 => ?_)
  have h35 : jC W33 t = 13 := (congrFun hc34 _).trans h31
  refine j_runA hx 1 (tb := [(213, .aload_n 0)]) (jtb_ok (by decide +kernel)) (pc' := 214) (lv' := [(0, vR t), (1, vI a1), (2, vI a2), (3, vI l3), (7, vI l7), (8, vI l8)]) (st' := [vR t]) rfl ?_
  refine j_getR hx flX8_96 kl1336 h35 (by decide) (by decide +kernel) ?_
  refine j_runA hx 1 (tb := [(217, .iload 8)]) (jtb_ok (by decide +kernel)) (pc' := 219) (lv' := [(0, vR t), (1, vI a1), (2, vI a2), (3, vI l3), (7, vI l7), (8, vI l8)]) (st' := [vI l8, vR (jR W33 1336 t)]) rfl ?_
  refine j_gd (fun h37 => ?_)
  refine j_iald hx (f := 1336) (o := t) kd1336 rfl (by decide +kernel) h37 ?_
  refine j_runA hx 1 (tb := [(220, .istore 8)]) (jtb_ok (by decide +kernel)) (pc' := 222) (lv' := [(8, vI (jA W33 1336 t (ix l8))), (0, vR t), (1, vI a1), (2, vI a2), (3, vI l3), (7, vI l7)]) (st' := []) rfl ?_
  refine j_let (v := (jA W33 1336 t (ix l8))) (lv := fun v38 => [(8, vI v38), (0, vR t), (1, vI a1), (2, vI a2), (3, vI l3), (7, vI l7)]) (st := fun _ => []) (fun v38 => ?_)
  refine j_goto hx (off := -23) (by decide +kernel) (tgt := 199) (by decide) ?_
  refine j_lv (lv' := [(0, vR t), (1, vI a1), (2, vI a2), (3, vI l3), (7, vI l7), (8, vI v38)]) ⟨rfl, rfl, rfl, rfl, rfl, rfl, trivial⟩ ?_
  exact k199 l3 l7 v38 W33
theorem wmo_join_8 {x : jCx} {en : (fmo_join_S ⊕ (jW)) → Option (Outcome × jW)} {t : Nat} {a1 : Int32} {a2 : Int32} (h : hmo_join x en t a1 a2) (l3 : Int32) (l4 : Int32) (l5 : Int32) (W : jW) : jJ x 9 8 [(0, vR t), (1, vI a1), (2, vI a2), (3, vI l3), (4, vI l4), (5, vI l5)] [] W (fmo_join_8 t a1 a2 l3 l4 l5 W) en := by
  have h0 := h
  obtain ⟨hx, hm, hr, he, k2, k8, k199⟩ := h0
  unfold fmo_join_8
  refine j_runA hx 2 (tb := [(8, .iload 5), (10, .aload_n 0)]) (jtb_ok (by decide +kernel)) (pc' := 11) (lv' := [(0, vR t), (1, vI a1), (2, vI a2), (3, vI l3), (4, vI l4), (5, vI l5)]) (st' := [vR t, vI l5]) rfl ?_
  refine j_gd (fun h3 => ?_)
  refine j_getI hx flX8_272 kd1329 h3 (by decide) (by decide +kernel) ?_
  refine j_icmp_ge hx (off := 93) (tgt := 107) (by decide +kernel) (by decide) (fun _ => ?_) (fun _ => ?_)
  · refine j_runA hx 1 (tb := [(107, .iload 4)]) (jtb_ok (by decide +kernel)) (pc' := 109) (lv' := [(0, vR t), (1, vI a1), (2, vI a2), (3, vI l3), (4, vI l4), (5, vI l5)]) (st' := [vI l4]) rfl ?_
    refine j_if_ge hx (off := 4) (tgt := 113) (by decide +kernel) (by decide) (fun _ => ?_) (fun _ => ?_)
    · refine j_runA hx 3 (tb := [(113, .iload 4), (115, .istore_n 3), (116, .aload_n 0)]) (jtb_ok (by decide +kernel)) (pc' := 117) (lv' := [(3, vI l4), (0, vR t), (1, vI a1), (2, vI a2), (4, vI l4), (5, vI l5)]) (st' := [vR t]) rfl ?_
      refine j_getR hx flX8_77 kl1330 h3 (by decide) (by decide +kernel) ?_
      refine j_runA hx 1 (tb := [(120, .iload 4)]) (jtb_ok (by decide +kernel)) (pc' := 122) (lv' := [(3, vI l4), (0, vR t), (1, vI a1), (2, vI a2), (4, vI l4), (5, vI l5)]) (st' := [vI l4, vR (jR W 1330 t)]) rfl ?_
      refine j_gd (fun h4 => ?_)
      refine j_iald hx (f := 1330) (o := t) kd1330 rfl (by decide +kernel) h4 ?_
      refine j_runA hx 1 (tb := [(123, .istore 5)]) (jtb_ok (by decide +kernel)) (pc' := 125) (lv' := [(5, vI (jA W 1330 t (ix l4))), (3, vI l4), (0, vR t), (1, vI a1), (2, vI a2), (4, vI l4)]) (st' := []) rfl ?_
      refine j_let (v := (jA W 1330 t (ix l4))) (lv := fun v5 => [(5, vI v5), (3, vI l4), (0, vR t), (1, vI a1), (2, vI a2), (4, vI l4)]) (st := fun _ => []) (fun v5 => ?_)
      refine j_runA hx 1 (tb := [(125, .aload_n 0)]) (jtb_ok (by decide +kernel)) (pc' := 126) (lv' := [(5, vI v5), (3, vI l4), (0, vR t), (1, vI a1), (2, vI a2), (4, vI l4)]) (st' := [vR t]) rfl ?_
      refine j_getR hx flX8_80 kl1331 h3 (by decide) (by decide +kernel) ?_
      refine j_runA hx 1 (tb := [(129, .iload 4)]) (jtb_ok (by decide +kernel)) (pc' := 131) (lv' := [(5, vI v5), (3, vI l4), (0, vR t), (1, vI a1), (2, vI a2), (4, vI l4)]) (st' := [vI l4, vR (jR W 1331 t)]) rfl ?_
      refine j_gd (fun h6 => ?_)
      refine j_iald hx (f := 1331) (o := t) kd1331 rfl (by decide +kernel) h6 ?_
      refine j_runA hx 1 (tb := [(132, .istore 6)]) (jtb_ok (by decide +kernel)) (pc' := 134) (lv' := [(6, vI (jA W 1331 t (ix l4))), (5, vI v5), (3, vI l4), (0, vR t), (1, vI a1), (2, vI a2), (4, vI l4)]) (st' := []) rfl ?_
      refine j_let (v := (jA W 1331 t (ix l4))) (lv := fun v7 => [(6, vI v7), (5, vI v5), (3, vI l4), (0, vR t), (1, vI a1), (2, vI a2), (4, vI l4)]) (st := fun _ => []) (fun v7 => ?_)
      refine j_runA hx 1 (tb := [(134, .aload_n 0)]) (jtb_ok (by decide +kernel)) (pc' := 135) (lv' := [(6, vI v7), (5, vI v5), (3, vI l4), (0, vR t), (1, vI a1), (2, vI a2), (4, vI l4)]) (st' := [vR t]) rfl ?_
      refine j_getR hx flX8_96 kl1336 h3 (by decide) (by decide +kernel) ?_
      refine j_runA hx 1 (tb := [(138, .iload 5)]) (jtb_ok (by decide +kernel)) (pc' := 140) (lv' := [(6, vI v7), (5, vI v5), (3, vI l4), (0, vR t), (1, vI a1), (2, vI a2), (4, vI l4)]) (st' := [vI v5, vR (jR W 1336 t)]) rfl ?_
      refine j_gd (fun h8 => ?_)
      refine j_iald hx (f := 1336) (o := t) kd1336 rfl (by decide +kernel) h8 ?_
      refine j_if_ge hx (off := -139) (tgt := 2) (by decide +kernel) (by decide) (fun _ => ?_) (fun _ => ?_)
      · refine j_lv (lv' := [(0, vR t), (1, vI a1), (2, vI a2), (3, vI l4)]) ⟨rfl, rfl, rfl, rfl, trivial⟩ ?_
        exact k2 l4 W
      refine j_runA hx 1 (tb := [(144, .aload_n 0)]) (jtb_ok (by decide +kernel)) (pc' := 145) (lv' := [(6, vI v7), (5, vI v5), (3, vI l4), (0, vR t), (1, vI a1), (2, vI a2), (4, vI l4)]) (st' := [vR t]) rfl ?_
      refine j_getR hx flX8_93 kl1335 h3 (by decide) (by decide +kernel) ?_
      refine j_runA hx 1 (tb := [(148, .iload 6)]) (jtb_ok (by decide +kernel)) (pc' := 150) (lv' := [(6, vI v7), (5, vI v5), (3, vI l4), (0, vR t), (1, vI a1), (2, vI a2), (4, vI l4)]) (st' := [vI v7, vR (jR W 1335 t)]) rfl ?_
      refine j_gd (fun h9 => ?_)
      refine j_iald hx (f := 1335) (o := t) kd1335 rfl (by decide +kernel) h9 ?_
      refine j_runA hx 1 (tb := [(151, .iload 6)]) (jtb_ok (by decide +kernel)) (pc' := 153) (lv' := [(6, vI v7), (5, vI v5), (3, vI l4), (0, vR t), (1, vI a1), (2, vI a2), (4, vI l4)]) (st' := [vI v7, vI (jA W 1335 t (ix v7))]) rfl ?_
      refine j_icmp_ne hx (off := -151) (tgt := 2) (by decide +kernel) (by decide) (fun _ => ?_) (fun _ => ?_)
      · refine j_lv (lv' := [(0, vR t), (1, vI a1), (2, vI a2), (3, vI l4)]) ⟨rfl, rfl, rfl, rfl, trivial⟩ ?_
        exact k2 l4 W
      refine j_runA hx 1 (tb := [(156, .aload_n 0)]) (jtb_ok (by decide +kernel)) (pc' := 157) (lv' := [(6, vI v7), (5, vI v5), (3, vI l4), (0, vR t), (1, vI a1), (2, vI a2), (4, vI l4)]) (st' := [vR t]) rfl ?_
      refine j_getR hx flX8_93 kl1335 h3 (by decide) (by decide +kernel) ?_
      refine j_runA hx 1 (tb := [(160, .iload 5)]) (jtb_ok (by decide +kernel)) (pc' := 162) (lv' := [(6, vI v7), (5, vI v5), (3, vI l4), (0, vR t), (1, vI a1), (2, vI a2), (4, vI l4)]) (st' := [vI v5, vR (jR W 1335 t)]) rfl ?_
      refine j_gd (fun h10 => ?_)
      refine j_iald hx (f := 1335) (o := t) kd1335 rfl (by decide +kernel) h10 ?_
      refine j_runA hx 1 (tb := [(163, .iload 6)]) (jtb_ok (by decide +kernel)) (pc' := 165) (lv' := [(6, vI v7), (5, vI v5), (3, vI l4), (0, vR t), (1, vI a1), (2, vI a2), (4, vI l4)]) (st' := [vI v7, vI (jA W 1335 t (ix v5))]) rfl ?_
      refine j_icmp_eq hx (off := -163) (tgt := 2) (by decide +kernel) (by decide) (fun _ => ?_) (fun _ => ?_)
      · refine j_lv (lv' := [(0, vR t), (1, vI a1), (2, vI a2), (3, vI l4)]) ⟨rfl, rfl, rfl, rfl, trivial⟩ ?_
        exact k2 l4 W
      refine j_runA hx 2 (tb := [(168, .iload 6), (170, .iload_n 1)]) (jtb_ok (by decide +kernel)) (pc' := 171) (lv' := [(6, vI v7), (5, vI v5), (3, vI l4), (0, vR t), (1, vI a1), (2, vI a2), (4, vI l4)]) (st' := [vI a1, vI v7]) rfl ?_
      refine j_icmp_ne hx (off := 6) (tgt := 177) (by decide +kernel) (by decide) (fun _ => ?_) (fun _ => ?_)
      · refine j_runA hx 1 (tb := [(177, .aload_n 0)]) (jtb_ok (by decide +kernel)) (pc' := 178) (lv' := [(6, vI v7), (5, vI v5), (3, vI l4), (0, vR t), (1, vI a1), (2, vI a2), (4, vI l4)]) (st' := [vR t]) rfl ?_
        refine j_getR hx flX8_96 kl1336 h3 (by decide) (by decide +kernel) ?_
        refine j_runA hx 2 (tb := [(181, .iload 5), (183, .iload 6)]) (jtb_ok (by decide +kernel)) (pc' := 185) (lv' := [(6, vI v7), (5, vI v5), (3, vI l4), (0, vR t), (1, vI a1), (2, vI a2), (4, vI l4)]) (st' := [vI v7, vI v5, vR (jR W 1336 t)]) rfl ?_
        refine j_gd (fun h11 => ?_)
        refine j_iast hx (f := 1336) (o := t) kd1336 rfl (by decide +kernel) h11 ?_
        refine j_ltw rfl (fun W12 hc13 => ?_)
        have h14 : jC W12 t = 13 := (congrFun hc13 _).trans h3
        refine j_runA hx 1 (tb := [(186, .aload_n 0)]) (jtb_ok (by decide +kernel)) (pc' := 187) (lv' := [(6, vI v7), (5, vI v5), (3, vI l4), (0, vR t), (1, vI a1), (2, vI a2), (4, vI l4)]) (st' := [vR t]) rfl ?_
        refine j_getR hx flX8_93 kl1335 h14 (by decide) (by decide +kernel) ?_
        refine j_runA hx 1 (tb := [(190, .iload 5)]) (jtb_ok (by decide +kernel)) (pc' := 192) (lv' := [(6, vI v7), (5, vI v5), (3, vI l4), (0, vR t), (1, vI a1), (2, vI a2), (4, vI l4)]) (st' := [vI v5, vR (jR W12 1335 t)]) rfl ?_
        refine j_gd (fun h16 => ?_)
        refine j_iald hx (f := 1335) (o := t) kd1335 rfl (by decide +kernel) h16 ?_
        refine j_runA hx 1 (tb := [(193, .istore 7)]) (jtb_ok (by decide +kernel)) (pc' := 195) (lv' := [(7, vI (jA W12 1335 t (ix v5))), (6, vI v7), (5, vI v5), (3, vI l4), (0, vR t), (1, vI a1), (2, vI a2), (4, vI l4)]) (st' := []) rfl ?_
        refine j_let (v := (jA W12 1335 t (ix v5))) (lv := fun v17 => [(7, vI v17), (6, vI v7), (5, vI v5), (3, vI l4), (0, vR t), (1, vI a1), (2, vI a2), (4, vI l4)]) (st := fun _ => []) (fun v17 => ?_)
        refine j_runA hx 2 (tb := [(195, .iload 6), (197, .istore 8)]) (jtb_ok (by decide +kernel)) (pc' := 199) (lv' := [(8, vI v7), (7, vI v17), (6, vI v7), (5, vI v5), (3, vI l4), (0, vR t), (1, vI a1), (2, vI a2), (4, vI l4)]) (st' := []) rfl ?_
        refine j_lv (lv' := [(0, vR t), (1, vI a1), (2, vI a2), (3, vI l4), (7, vI v17), (8, vI v7)]) ⟨rfl, rfl, rfl, rfl, rfl, rfl, trivial⟩ ?_
        exact k199 l4 v17 v7 W12
      refine j_goto hx (off := -172) (by decide +kernel) (tgt := 2) (by decide) ?_
      refine j_lv (lv' := [(0, vR t), (1, vI a1), (2, vI a2), (3, vI l4)]) ⟨rfl, rfl, rfl, rfl, trivial⟩ ?_
      exact k2 l4 W
    exact j_vret hx hm (by decide +kernel) (he _)
  refine j_runA hx 1 (tb := [(17, .aload_n 0)]) (jtb_ok (by decide +kernel)) (pc' := 18) (lv' := [(0, vR t), (1, vI a1), (2, vI a2), (3, vI l3), (4, vI l4), (5, vI l5)]) (st' := [vR t]) rfl ?_
  refine j_getR hx flX8_77 kl1330 h3 (by decide) (by decide +kernel) ?_
  refine j_runA hx 1 (tb := [(21, .iload 5)]) (jtb_ok (by decide +kernel)) (pc' := 23) (lv' := [(0, vR t), (1, vI a1), (2, vI a2), (3, vI l3), (4, vI l4), (5, vI l5)]) (st' := [vI l5, vR (jR W 1330 t)]) rfl ?_
  refine j_gd (fun h18 => ?_)
  refine j_iald hx (f := 1330) (o := t) kd1330 rfl (by decide +kernel) h18 ?_
  refine j_runA hx 1 (tb := [(24, .istore 6)]) (jtb_ok (by decide +kernel)) (pc' := 26) (lv' := [(6, vI (jA W 1330 t (ix l5))), (0, vR t), (1, vI a1), (2, vI a2), (3, vI l3), (4, vI l4), (5, vI l5)]) (st' := []) rfl ?_
  refine j_let (v := (jA W 1330 t (ix l5))) (lv := fun v19 => [(6, vI v19), (0, vR t), (1, vI a1), (2, vI a2), (3, vI l3), (4, vI l4), (5, vI l5)]) (st := fun _ => []) (fun v19 => ?_)
  refine j_runA hx 2 (tb := [(26, .iload 6), (28, .iload_n 1)]) (jtb_ok (by decide +kernel)) (pc' := 29) (lv' := [(6, vI v19), (0, vR t), (1, vI a1), (2, vI a2), (3, vI l3), (4, vI l4), (5, vI l5)]) (st' := [vI a1, vI v19]) rfl ?_
  refine j_icmp_lt hx (off := 72) (tgt := 101) (by decide +kernel) (by decide) (fun _ => ?_) (fun _ => ?_)
  · refine j_lv (lv' := [(0, vR t), (1, vI a1), (2, vI a2), (3, vI l3), (4, vI l4), (5, vI l5)]) ⟨rfl, rfl, rfl, rfl, rfl, rfl, trivial⟩ ?_
    exact wmo_join_101 h l3 l4 l5 W
  refine j_runA hx 2 (tb := [(32, .iload 6), (34, .iload_n 2)]) (jtb_ok (by decide +kernel)) (pc' := 35) (lv' := [(6, vI v19), (0, vR t), (1, vI a1), (2, vI a2), (3, vI l3), (4, vI l4), (5, vI l5)]) (st' := [vI a2, vI v19]) rfl ?_
  refine j_icmp_ge hx (off := 66) (tgt := 101) (by decide +kernel) (by decide) (fun _ => ?_) (fun _ => ?_)
  · refine j_lv (lv' := [(0, vR t), (1, vI a1), (2, vI a2), (3, vI l3), (4, vI l4), (5, vI l5)]) ⟨rfl, rfl, rfl, rfl, rfl, rfl, trivial⟩ ?_
    exact wmo_join_101 h l3 l4 l5 W
  refine j_runA hx 1 (tb := [(38, .aload_n 0)]) (jtb_ok (by decide +kernel)) (pc' := 39) (lv' := [(6, vI v19), (0, vR t), (1, vI a1), (2, vI a2), (3, vI l3), (4, vI l4), (5, vI l5)]) (st' := [vR t]) rfl ?_
  refine j_getR hx flX8_83 kl1332 h3 (by decide) (by decide +kernel) ?_
  refine j_runA hx 1 (tb := [(42, .iload 5)]) (jtb_ok (by decide +kernel)) (pc' := 44) (lv' := [(6, vI v19), (0, vR t), (1, vI a1), (2, vI a2), (3, vI l3), (4, vI l4), (5, vI l5)]) (st' := [vI l5, vR (jR W 1332 t)]) rfl ?_
  refine j_gd (fun h20 => ?_)
  refine j_zald hx (f := 1332) (o := t) kd1332 rfl (by decide +kernel) h20 ?_
  refine j_if_ne hx (off := 56) (tgt := 101) (by decide +kernel) (by decide) (fun _ => ?_) (fun _ => ?_)
  · refine j_lv (lv' := [(0, vR t), (1, vI a1), (2, vI a2), (3, vI l3), (4, vI l4), (5, vI l5)]) ⟨rfl, rfl, rfl, rfl, rfl, rfl, trivial⟩ ?_
    exact wmo_join_101 h l3 l4 l5 W
  refine j_runA hx 3 (tb := [(48, .aload_n 0), (49, .iload 6), (51, .aload_n 0)]) (jtb_ok (by decide +kernel)) (pc' := 52) (lv' := [(6, vI v19), (0, vR t), (1, vI a1), (2, vI a2), (3, vI l3), (4, vI l4), (5, vI l5)]) (st' := [vR t, vI v19, vR t]) rfl ?_
  refine j_getR hx flX8_80 kl1331 h3 (by decide) (by decide +kernel) ?_
  refine j_runA hx 1 (tb := [(55, .iload 5)]) (jtb_ok (by decide +kernel)) (pc' := 57) (lv' := [(6, vI v19), (0, vR t), (1, vI a1), (2, vI a2), (3, vI l3), (4, vI l4), (5, vI l5)]) (st' := [vI l5, vR (jR W 1331 t), vI v19, vR t]) rfl ?_
  refine j_gd (fun h21 => ?_)
  refine j_iald hx (f := 1331) (o := t) kd1331 rfl (by decide +kernel) h21 ?_
  refine j_OI (j_callV (av := [vI v19, vI (jA W 1331 t (ix l5))]) (st := []) hx hr (Or.inl q3235) q3237 qs166 rfl md_fmo_falls np_fmo_falls (cmo_falls t v19 (jA W 1331 t (ix l5)) W) (by decide) (Nat.le_of_ble_eq_true rfl) h3 (by decide) (by decide +kernel)) (fun q22 _ => ?_)
  refine j_if_eq hx (off := 40) (tgt := 101) (by decide +kernel) (by decide) (fun _ => ?_) (fun _ => ?_)
  · refine j_lv (lv' := [(0, vR t), (1, vI a1), (2, vI a2), (3, vI l3), (4, vI l4), (5, vI l5)]) ⟨rfl, rfl, rfl, rfl, rfl, rfl, trivial⟩ ?_
    exact wmo_join_101 h l3 l4 l5 W
  refine j_runA hx 1 (tb := [(64, .iload_n 3)]) (jtb_ok (by decide +kernel)) (pc' := 65) (lv' := [(6, vI v19), (0, vR t), (1, vI a1), (2, vI a2), (3, vI l3), (4, vI l4), (5, vI l5)]) (st' := [vI l3]) rfl ?_
  refine j_if_lt hx (off := 16) (tgt := 81) (by decide +kernel) (by decide) (fun _ => ?_) (fun _ => ?_)
  · refine j_lv (lv' := [(0, vR t), (1, vI a1), (2, vI a2), (3, vI l3), (4, vI l4), (5, vI l5)]) ⟨rfl, rfl, rfl, rfl, rfl, rfl, trivial⟩ ?_
    exact wmo_join_81 h l3 l4 l5 W
  refine j_runA hx 3 (tb := [(68, .aload_n 0), (69, .iload_n 3), (70, .iload 5)]) (jtb_ok (by decide +kernel)) (pc' := 72) (lv' := [(6, vI v19), (0, vR t), (1, vI a1), (2, vI a2), (3, vI l3), (4, vI l4), (5, vI l5)]) (st' := [vI l5, vI l3, vR t]) rfl ?_
  refine j_OI (j_callV (av := [vI l3, vI l5]) (st := []) hx hr (Or.inl q3239) q3241 qs167 rfl md_fmo_comesBefore np_fmo_comesBefore (cmo_comesBefore t l3 l5 W) (by decide) (Nat.le_of_ble_eq_true rfl) h3 (by decide) (by decide +kernel)) (fun q23 _ => ?_)
  refine j_if_ne hx (off := 6) (tgt := 81) (by decide +kernel) (by decide) (fun _ => ?_) (fun _ => ?_)
  · refine j_lv (lv' := [(0, vR t), (1, vI a1), (2, vI a2), (3, vI l3), (4, vI l4), (5, vI l5)]) ⟨rfl, rfl, rfl, rfl, rfl, rfl, trivial⟩ ?_
    exact wmo_join_81 h l3 l4 l5 W
  refine j_goto hx (off := 23) (by decide +kernel) (tgt := 101) (by decide) ?_
  refine j_lv (lv' := [(0, vR t), (1, vI a1), (2, vI a2), (3, vI l3), (4, vI l4), (5, vI l5)]) ⟨rfl, rfl, rfl, rfl, rfl, rfl, trivial⟩ ?_
  exact wmo_join_101 h l3 l4 l5 W
theorem wmo_join_2 {x : jCx} {en : (fmo_join_S ⊕ (jW)) → Option (Outcome × jW)} {t : Nat} {a1 : Int32} {a2 : Int32} (h : hmo_join x en t a1 a2) (l3 : Int32) (W : jW) : jJ x 9 2 [(0, vR t), (1, vI a1), (2, vI a2), (3, vI l3)] [] W (fmo_join_2 t a1 a2 l3 W) en := by
  have h0 := h
  obtain ⟨hx, hm, hr, he, k2, k8, k199⟩ := h0
  unfold fmo_join_2
  refine j_runA hx 4 (tb := [(2, .iconst (-1)), (3, .istore 4), (5, .iconst 0), (6, .istore 5)]) (jtb_ok (by decide +kernel)) (pc' := 8) (lv' := [(5, vI (kI 0)), (4, vI (kI (-1))), (0, vR t), (1, vI a1), (2, vI a2), (3, vI l3)]) (st' := []) rfl ?_
  refine j_lv (lv' := [(0, vR t), (1, vI a1), (2, vI a2), (3, vI l3), (4, vI (kI (-1))), (5, vI (kI 0))]) ⟨rfl, rfl, rfl, rfl, rfl, rfl, trivial⟩ ?_
  exact k8 l3 (kI (-1)) (kI 0) W
theorem wmo_join {x : jCx} {en : (fmo_join_S ⊕ (jW)) → Option (Outcome × jW)} {t : Nat} {a1 : Int32} {a2 : Int32} (h : hmo_join x en t a1 a2) (W : jW) : jJ x 9 0 [(0, vR t), (1, vI a1), (2, vI a2)] [] W (fmo_join_0 t a1 a2 W) en := by
  have h0 := h
  obtain ⟨hx, hm, hr, he, k2, k8, k199⟩ := h0
  unfold fmo_join_0
  refine j_runA hx 2 (tb := [(0, .iconst (-1)), (1, .istore_n 3)]) (jtb_ok (by decide +kernel)) (pc' := 2) (lv' := [(3, vI (kI (-1))), (0, vR t), (1, vI a1), (2, vI a2)]) (st' := []) rfl ?_
  refine j_lv (lv' := [(0, vR t), (1, vI a1), (2, vI a2), (3, vI (kI (-1)))]) ⟨rfl, rfl, rfl, rfl, trivial⟩ ?_
  exact k2 (kI (-1)) W
theorem cmo_join (t : Nat) (a1 : Int32) (a2 : Int32) (W : jW) : jM yX8_join cX8_join 9 (Option.none : Option Jvm.ClassFile.FieldType) [] 2 27 [vR t, vI a1, vI a2] W ((fmo_join t a1 a2 W).bind (fun q => some (.returned none, q))) := by
  refine jM.of (Nat.le_of_ble_eq_true rfl) (fun x hx hm hr => ?_)
  refine j_begin (P := (Sum.elim (fun s => (2, [(0, vR t), (1, vI a1), (2, vI a2), (3, vI s.1)], s.2)) (Sum.elim (fun s => (8, [(0, vR t), (1, vI a1), (2, vI a2), (3, vI s.1), (4, vI s.2.1), (5, vI s.2.2.1)], s.2.2.2)) (fun s => (199, [(0, vR t), (1, vI a1), (2, vI a2), (3, vI s.1), (7, vI s.2.1), (8, vI s.2.2.1)], s.2.2.2))))) (fun en he hk => ?_)
  have h : hmo_join x en t a1 a2 := ⟨hx, hm, hr, fun q => he _, fun l3 W => hk (.inl (l3, W)), fun l3 l4 l5 W => hk (.inr (.inl (l3, l4, l5, W))), fun l3 l7 l8 W => hk (.inr (.inr (l3, l7, l8, W)))⟩
  refine ⟨fun s => ?_, wmo_join h W⟩
  rcases s with s | s | s
  · exact wmo_join_2 h s.1 s.2
  · exact wmo_join_8 h s.1 s.2.1 s.2.2.1 s.2.2.2
  · exact wmo_join_199 h s.1 s.2.1 s.2.2.1 s.2.2.2
def hmo_leastChain (x : jCx) (en : (fmo_leastChain_S ⊕ (Int32)) → Option (Outcome × jW)) (t : Nat) (a1 : Int32) (a2 : Int32) (W : jW) : Prop :=
  jOK x RX8 cX8_leastChain 4 ∧
  jMt x "leastChain" (Option.some Jvm.ClassFile.FieldType.int) [] ∧
  jRm x 0 0 ∧
  (∀ q : Int32, en (.inr q) = some (.returned (some (.int q)), W)) ∧
  (∀ (l3 : Int32), jJ x 4 2 [(0, vR t), (1, vI a1), (2, vI a2), (3, vI l3)] [] W (some (.inl l3)) en)
theorem wmo_leastChain_32 {x : jCx} {en : (fmo_leastChain_S ⊕ (Int32)) → Option (Outcome × jW)} {W : jW} {t : Nat} {a1 : Int32} {a2 : Int32} (h : hmo_leastChain x en t a1 a2 W) (l3 : Int32) : jJ x 4 32 [(0, vR t), (1, vI a1), (2, vI a2), (3, vI l3)] [] W (fmo_leastChain_32 t a1 a2 l3 W) en := by
  have h0 := h
  obtain ⟨hx, hm, hr, he, k2⟩ := h0
  unfold fmo_leastChain_32
  refine j_runA hx 1 (tb := [(32, .iinc 3 1)]) (jtb_ok (by decide +kernel)) (pc' := 35) (lv' := [(3, vI (l3 + (kI 1))), (0, vR t), (1, vI a1), (2, vI a2)]) (st' := []) rfl ?_
  refine j_let (v := (l3 + (kI 1))) (lv := fun v7 => [(3, vI v7), (0, vR t), (1, vI a1), (2, vI a2)]) (st := fun _ => []) (fun v7 => ?_)
  refine j_goto hx (off := -33) (by decide +kernel) (tgt := 2) (by decide) ?_
  refine j_lv (lv' := [(0, vR t), (1, vI a1), (2, vI a2), (3, vI v7)]) ⟨rfl, rfl, rfl, rfl, trivial⟩ ?_
  exact k2 v7
theorem wmo_leastChain_2 {x : jCx} {en : (fmo_leastChain_S ⊕ (Int32)) → Option (Outcome × jW)} {W : jW} {t : Nat} {a1 : Int32} {a2 : Int32} (h : hmo_leastChain x en t a1 a2 W) (l3 : Int32) : jJ x 4 2 [(0, vR t), (1, vI a1), (2, vI a2), (3, vI l3)] [] W (fmo_leastChain_2 t a1 a2 l3 W) en := by
  have h0 := h
  obtain ⟨hx, hm, hr, he, k2⟩ := h0
  unfold fmo_leastChain_2
  refine j_runA hx 2 (tb := [(2, .iload_n 3), (3, .iload_n 2)]) (jtb_ok (by decide +kernel)) (pc' := 4) (lv' := [(0, vR t), (1, vI a1), (2, vI a2), (3, vI l3)]) (st' := [vI a2, vI l3]) rfl ?_
  refine j_icmp_ge hx (off := 34) (tgt := 38) (by decide +kernel) (by decide) (fun _ => ?_) (fun _ => ?_)
  · refine j_runA hx 1 (tb := [(38, .iconst (-1))]) (jtb_ok (by decide +kernel)) (pc' := 39) (lv' := [(0, vR t), (1, vI a1), (2, vI a2), (3, vI l3)]) (st' := [vI (kI (-1))]) rfl ?_
    exact j_iret hx hm (by decide +kernel) rfl (he _)
  refine j_runA hx 1 (tb := [(7, .aload_n 0)]) (jtb_ok (by decide +kernel)) (pc' := 8) (lv' := [(0, vR t), (1, vI a1), (2, vI a2), (3, vI l3)]) (st' := [vR t]) rfl ?_
  refine j_gd (fun h2 => ?_)
  refine j_getR hx flX8_90 kl1334 h2 (by decide) (by decide +kernel) ?_
  refine j_runA hx 1 (tb := [(11, .iload_n 3)]) (jtb_ok (by decide +kernel)) (pc' := 12) (lv' := [(0, vR t), (1, vI a1), (2, vI a2), (3, vI l3)]) (st' := [vI l3, vR (jR W 1334 t)]) rfl ?_
  refine j_gd (fun h3 => ?_)
  refine j_zald hx (f := 1334) (o := t) kd1334 rfl (by decide +kernel) h3 ?_
  refine j_if_eq hx (off := 19) (tgt := 32) (by decide +kernel) (by decide) (fun _ => ?_) (fun _ => ?_)
  · exact wmo_leastChain_32 h l3
  refine j_runA hx 1 (tb := [(16, .aload_n 0)]) (jtb_ok (by decide +kernel)) (pc' := 17) (lv' := [(0, vR t), (1, vI a1), (2, vI a2), (3, vI l3)]) (st' := [vR t]) rfl ?_
  refine j_getR hx flX8_99 kl1337 h2 (by decide) (by decide +kernel) ?_
  refine j_runA hx 1 (tb := [(20, .iload_n 3)]) (jtb_ok (by decide +kernel)) (pc' := 21) (lv' := [(0, vR t), (1, vI a1), (2, vI a2), (3, vI l3)]) (st' := [vI l3, vR (jR W 1337 t)]) rfl ?_
  refine j_gd (fun h4 => ?_)
  refine j_zald hx (f := 1337) (o := t) kd1337 rfl (by decide +kernel) h4 ?_
  refine j_if_ne hx (off := 10) (tgt := 32) (by decide +kernel) (by decide) (fun _ => ?_) (fun _ => ?_)
  · exact wmo_leastChain_32 h l3
  refine j_runA hx 1 (tb := [(25, .aload_n 0)]) (jtb_ok (by decide +kernel)) (pc' := 26) (lv' := [(0, vR t), (1, vI a1), (2, vI a2), (3, vI l3)]) (st' := [vR t]) rfl ?_
  refine j_getR hx flX8_93 kl1335 h2 (by decide) (by decide +kernel) ?_
  refine j_runA hx 1 (tb := [(29, .iload_n 3)]) (jtb_ok (by decide +kernel)) (pc' := 30) (lv' := [(0, vR t), (1, vI a1), (2, vI a2), (3, vI l3)]) (st' := [vI l3, vR (jR W 1335 t)]) rfl ?_
  refine j_gd (fun h5 => ?_)
  refine j_iald hx (f := 1335) (o := t) kd1335 rfl (by decide +kernel) h5 ?_
  exact j_iret hx hm (by decide +kernel) rfl (he _)
theorem wmo_leastChain {x : jCx} {en : (fmo_leastChain_S ⊕ (Int32)) → Option (Outcome × jW)} {W : jW} {t : Nat} {a1 : Int32} {a2 : Int32} (h : hmo_leastChain x en t a1 a2 W) : jJ x 4 0 [(0, vR t), (1, vI a1), (2, vI a2)] [] W (fmo_leastChain_0 t a1 a2 W) en := by
  have h0 := h
  obtain ⟨hx, hm, hr, he, k2⟩ := h0
  unfold fmo_leastChain_0
  refine j_runA hx 2 (tb := [(0, .iload_n 1), (1, .istore_n 3)]) (jtb_ok (by decide +kernel)) (pc' := 2) (lv' := [(3, vI a1), (0, vR t), (1, vI a1), (2, vI a2)]) (st' := []) rfl ?_
  refine j_lv (lv' := [(0, vR t), (1, vI a1), (2, vI a2), (3, vI a1)]) ⟨rfl, rfl, rfl, rfl, trivial⟩ ?_
  exact k2 a1
theorem cmo_leastChain (t : Nat) (a1 : Int32) (a2 : Int32) (W : jW) : jM yX8_leastChain cX8_leastChain 4 (Option.some Jvm.ClassFile.FieldType.int) [] 0 0 [vR t, vI a1, vI a2] W ((fmo_leastChain t a1 a2 W).bind (fun q => some (.returned (some (.int q)), W))) := by
  refine jM.of (Nat.le_of_ble_eq_true rfl) (fun x hx hm hr => ?_)
  refine j_begin (P := (fun s => (2, [(0, vR t), (1, vI a1), (2, vI a2), (3, vI s)], W))) (fun en he hk => ?_)
  have h : hmo_leastChain x en t a1 a2 W := ⟨hx, hm, hr, fun q => he _, fun l3 => hk l3⟩
  exact ⟨fun s => wmo_leastChain_2 h s, wmo_leastChain h⟩
def hmo_placeChain (x : jCx) (en : (fmo_placeChain_S ⊕ (Int32 × jW)) → Option (Outcome × jW)) (t : Nat) (a1 : Int32) (a2 : Int32) (a3 : Int32) (a4 : Int32) : Prop :=
  jOK x RX8 cX8_placeChain 7 ∧
  jMt x "placeChain" (Option.some Jvm.ClassFile.FieldType.int) [] ∧
  jRm x 0 0 ∧
  (∀ q : Int32 × jW, en (.inr q) = some (.returned (some (.int q.1)), q.2)) ∧
  (∀ (l5 : Int32) (l6 : Int32) (W : jW), jJ x 7 13 [(0, vR t), (1, vI a1), (2, vI a2), (3, vI a3), (4, vI a4), (5, vI l5), (6, vI l6)] [] W (some (.inl (l5, l6, W))) en)
theorem wmo_placeChain_13 {x : jCx} {en : (fmo_placeChain_S ⊕ (Int32 × jW)) → Option (Outcome × jW)} {t : Nat} {a1 : Int32} {a2 : Int32} {a3 : Int32} {a4 : Int32} (h : hmo_placeChain x en t a1 a2 a3 a4) (l5 : Int32) (l6 : Int32) (W : jW) : jJ x 7 13 [(0, vR t), (1, vI a1), (2, vI a2), (3, vI a3), (4, vI a4), (5, vI l5), (6, vI l6)] [] W (fmo_placeChain_13 t a1 a2 a3 a4 l5 l6 W) en := by
  have h0 := h
  obtain ⟨hx, hm, hr, he, k13⟩ := h0
  unfold fmo_placeChain_13
  refine j_runA hx 1 (tb := [(13, .iload 6)]) (jtb_ok (by decide +kernel)) (pc' := 15) (lv' := [(0, vR t), (1, vI a1), (2, vI a2), (3, vI a3), (4, vI a4), (5, vI l5), (6, vI l6)]) (st' := [vI l6]) rfl ?_
  refine j_if_lt hx (off := 35) (tgt := 50) (by decide +kernel) (by decide) (fun _ => ?_) (fun _ => ?_)
  · refine j_runA hx 1 (tb := [(50, .iload 5)]) (jtb_ok (by decide +kernel)) (pc' := 52) (lv' := [(0, vR t), (1, vI a1), (2, vI a2), (3, vI a3), (4, vI a4), (5, vI l5), (6, vI l6)]) (st' := [vI l5]) rfl ?_
    exact j_iret hx hm (by decide +kernel) rfl (he _)
  refine j_runA hx 1 (tb := [(18, .aload_n 0)]) (jtb_ok (by decide +kernel)) (pc' := 19) (lv' := [(0, vR t), (1, vI a1), (2, vI a2), (3, vI a3), (4, vI a4), (5, vI l5), (6, vI l6)]) (st' := [vR t]) rfl ?_
  refine j_gd (fun h2 => ?_)
  refine j_getR hx flX8_132 kl1348 h2 (by decide) (by decide +kernel) ?_
  refine j_runA hx 2 (tb := [(22, .iload 5), (24, .iload 6)]) (jtb_ok (by decide +kernel)) (pc' := 26) (lv' := [(0, vR t), (1, vI a1), (2, vI a2), (3, vI a3), (4, vI a4), (5, vI l5), (6, vI l6)]) (st' := [vI l6, vI l5, vR (jR W 1348 t)]) rfl ?_
  refine j_gd (fun h3 => ?_)
  refine j_gd (fun h4 => ?_)
  refine j_iast hx (f := 9003) (o := (jR W 1348 t)) kd9003 h3 (by decide +kernel) h4 ?_
  refine j_ltw rfl (fun W5 hc6 => ?_)
  have h7 : jC W5 t = 13 := (congrFun hc6 _).trans h2
  refine j_runA hx 1 (tb := [(27, .aload_n 0)]) (jtb_ok (by decide +kernel)) (pc' := 28) (lv' := [(0, vR t), (1, vI a1), (2, vI a2), (3, vI a3), (4, vI a4), (5, vI l5), (6, vI l6)]) (st' := [vR t]) rfl ?_
  refine j_getR hx flX8_99 kl1337 h7 (by decide) (by decide +kernel) ?_
  refine j_runA hx 2 (tb := [(31, .iload 6), (33, .iconst 1)]) (jtb_ok (by decide +kernel)) (pc' := 34) (lv' := [(0, vR t), (1, vI a1), (2, vI a2), (3, vI a3), (4, vI a4), (5, vI l5), (6, vI l6)]) (st' := [vI (kI 1), vI l6, vR (jR W5 1337 t)]) rfl ?_
  refine j_gd (fun h9 => ?_)
  refine j_zast hx (f := 1337) (o := t) kd1337 rfl (by decide +kernel) h9 ?_
  refine j_ltw rfl (fun W10 hc11 => ?_)
  have h12 : jC W10 t = 13 := (congrFun hc11 _).trans h7
  refine j_runA hx 1 (tb := [(35, .iinc 5 1)]) (jtb_ok (by decide +kernel)) (pc' := 38) (lv' := [(5, vI (l5 + (kI 1))), (0, vR t), (1, vI a1), (2, vI a2), (3, vI a3), (4, vI a4), (6, vI l6)]) (st' := []) rfl ?_
  refine j_let (v := (l5 + (kI 1))) (lv := fun v14 => [(5, vI v14), (0, vR t), (1, vI a1), (2, vI a2), (3, vI a3), (4, vI a4), (6, vI l6)]) (st := fun _ => []) (fun v14 => ?_)
  refine j_runA hx 1 (tb := [(38, .aload_n 0)]) (jtb_ok (by decide +kernel)) (pc' := 39) (lv' := [(5, vI v14), (0, vR t), (1, vI a1), (2, vI a2), (3, vI a3), (4, vI a4), (6, vI l6)]) (st' := [vR t]) rfl ?_
  refine j_getR hx flX8_96 kl1336 h12 (by decide) (by decide +kernel) ?_
  refine j_runA hx 1 (tb := [(42, .iload 6)]) (jtb_ok (by decide +kernel)) (pc' := 44) (lv' := [(5, vI v14), (0, vR t), (1, vI a1), (2, vI a2), (3, vI a3), (4, vI a4), (6, vI l6)]) (st' := [vI l6, vR (jR W10 1336 t)]) rfl ?_
  refine j_gd (fun h15 => ?_)
  refine j_iald hx (f := 1336) (o := t) kd1336 rfl (by decide +kernel) h15 ?_
  refine j_runA hx 1 (tb := [(45, .istore 6)]) (jtb_ok (by decide +kernel)) (pc' := 47) (lv' := [(6, vI (jA W10 1336 t (ix l6))), (5, vI v14), (0, vR t), (1, vI a1), (2, vI a2), (3, vI a3), (4, vI a4)]) (st' := []) rfl ?_
  refine j_let (v := (jA W10 1336 t (ix l6))) (lv := fun v16 => [(6, vI v16), (5, vI v14), (0, vR t), (1, vI a1), (2, vI a2), (3, vI a3), (4, vI a4)]) (st := fun _ => []) (fun v16 => ?_)
  refine j_goto hx (off := -34) (by decide +kernel) (tgt := 13) (by decide) ?_
  refine j_lv (lv' := [(0, vR t), (1, vI a1), (2, vI a2), (3, vI a3), (4, vI a4), (5, vI v14), (6, vI v16)]) ⟨rfl, rfl, rfl, rfl, rfl, rfl, rfl, trivial⟩ ?_
  exact k13 v14 v16 W10
theorem wmo_placeChain {x : jCx} {en : (fmo_placeChain_S ⊕ (Int32 × jW)) → Option (Outcome × jW)} {t : Nat} {a1 : Int32} {a2 : Int32} {a3 : Int32} {a4 : Int32} (h : hmo_placeChain x en t a1 a2 a3 a4) (W : jW) : jJ x 7 0 [(0, vR t), (1, vI a1), (2, vI a2), (3, vI a3), (4, vI a4)] [] W (fmo_placeChain_0 t a1 a2 a3 a4 W) en := by
  have h0 := h
  obtain ⟨hx, hm, hr, he, k13⟩ := h0
  unfold fmo_placeChain_0
  refine j_runA hx 3 (tb := [(0, .iload_n 2), (1, .istore 5), (3, .iload_n 1)]) (jtb_ok (by decide +kernel)) (pc' := 4) (lv' := [(5, vI a2), (0, vR t), (1, vI a1), (2, vI a2), (3, vI a3), (4, vI a4)]) (st' := [vI a1]) rfl ?_
  refine j_if_ge hx (off := 6) (tgt := 10) (by decide +kernel) (by decide) (fun _ => ?_) (fun _ => ?_)
  · refine j_runA hx 2 (tb := [(10, .iload_n 1), (11, .istore 6)]) (jtb_ok (by decide +kernel)) (pc' := 13) (lv' := [(6, vI a1), (5, vI a2), (0, vR t), (1, vI a1), (2, vI a2), (3, vI a3), (4, vI a4)]) (st' := []) rfl ?_
    refine j_lv (lv' := [(0, vR t), (1, vI a1), (2, vI a2), (3, vI a3), (4, vI a4), (5, vI a2), (6, vI a1)]) ⟨rfl, rfl, rfl, rfl, rfl, rfl, rfl, trivial⟩ ?_
    exact k13 a2 a1 W
  refine j_runA hx 1 (tb := [(7, .iload 5)]) (jtb_ok (by decide +kernel)) (pc' := 9) (lv' := [(5, vI a2), (0, vR t), (1, vI a1), (2, vI a2), (3, vI a3), (4, vI a4)]) (st' := [vI a2]) rfl ?_
  exact j_iret hx hm (by decide +kernel) rfl (he _)
theorem cmo_placeChain (t : Nat) (a1 : Int32) (a2 : Int32) (a3 : Int32) (a4 : Int32) (W : jW) : jM yX8_placeChain cX8_placeChain 7 (Option.some Jvm.ClassFile.FieldType.int) [] 0 0 [vR t, vI a1, vI a2, vI a3, vI a4] W ((fmo_placeChain t a1 a2 a3 a4 W).bind (fun q => some (.returned (some (.int q.1)), q.2))) := by
  refine jM.of (Nat.le_of_ble_eq_true rfl) (fun x hx hm hr => ?_)
  refine j_begin (P := (fun s => (13, [(0, vR t), (1, vI a1), (2, vI a2), (3, vI a3), (4, vI a4), (5, vI s.1), (6, vI s.2.1)], s.2.2))) (fun en he hk => ?_)
  have h : hmo_placeChain x en t a1 a2 a3 a4 := ⟨hx, hm, hr, fun q => he _, fun l5 l6 W => hk (l5, l6, W)⟩
  exact ⟨fun s => wmo_placeChain_13 h s.1 s.2.1 s.2.2, wmo_placeChain h W⟩
def hmo_bestChain (x : jCx) (en : (fmo_bestChain_S ⊕ (Int32 × jW)) → Option (Outcome × jW)) (t : Nat) (a1 : Int32) (a2 : Int32) : Prop :=
  jOK x RX8 cX8_bestChain 6 ∧
  jMt x "bestChain" (Option.some Jvm.ClassFile.FieldType.int) [] ∧
  jRm x 0 0 ∧
  (∀ q : Int32 × jW, en (.inr q) = some (.returned (some (.int q.1)), q.2)) ∧
  (∀ (l3 : Int32) (W : jW), jJ x 6 2 [(0, vR t), (1, vI a1), (2, vI a2), (3, vI l3)] [] W (some (.inl (.inl (l3, W)))) en) ∧
  (∀ (l3 : Int32) (W : jW), jJ x 6 22 [(0, vR t), (1, vI a1), (2, vI a2), (3, vI l3)] [] W (some (.inl (.inr (.inl (l3, W))))) en) ∧
  (∀ (l3 : Int32) (l4 : Int32) (W : jW), jJ x 6 134 [(0, vR t), (1, vI a1), (2, vI a2), (3, vI l3), (4, vI l4)] [] W (some (.inl (.inr (.inr (l3, l4, W))))) en)
theorem wmo_bestChain_123 {x : jCx} {en : (fmo_bestChain_S ⊕ (Int32 × jW)) → Option (Outcome × jW)} {t : Nat} {a1 : Int32} {a2 : Int32} (h : hmo_bestChain x en t a1 a2) (l3 : Int32) (W : jW) : jJ x 6 123 [(0, vR t), (1, vI a1), (2, vI a2), (3, vI l3)] [] W (fmo_bestChain_123 t a1 a2 l3 W) en := by
  have h0 := h
  obtain ⟨hx, hm, hr, he, k2, k22, k134⟩ := h0
  unfold fmo_bestChain_123
  refine j_runA hx 1 (tb := [(123, .iinc 3 1)]) (jtb_ok (by decide +kernel)) (pc' := 126) (lv' := [(3, vI (l3 + (kI 1))), (0, vR t), (1, vI a1), (2, vI a2)]) (st' := []) rfl ?_
  refine j_let (v := (l3 + (kI 1))) (lv := fun v33 => [(3, vI v33), (0, vR t), (1, vI a1), (2, vI a2)]) (st := fun _ => []) (fun v33 => ?_)
  refine j_goto hx (off := -104) (by decide +kernel) (tgt := 22) (by decide) ?_
  refine j_lv (lv' := [(0, vR t), (1, vI a1), (2, vI a2), (3, vI v33)]) ⟨rfl, rfl, rfl, rfl, trivial⟩ ?_
  exact k22 v33 W
theorem wmo_bestChain_112 {x : jCx} {en : (fmo_bestChain_S ⊕ (Int32 × jW)) → Option (Outcome × jW)} {t : Nat} {a1 : Int32} {a2 : Int32} (h : hmo_bestChain x en t a1 a2) (l3 : Int32) (s0 : Int32) (s1 : Nat) (s2 : Nat) (W : jW) : jJ x 6 112 [(0, vR t), (1, vI a1), (2, vI a2), (3, vI l3)] [vI s0, vR s1, vR s2] W (fmo_bestChain_112 t a1 a2 l3 s0 s1 s2 W) en := by
  have h0 := h
  obtain ⟨hx, hm, hr, he, k2, k22, k134⟩ := h0
  unfold fmo_bestChain_112
  refine j_gd (fun h20 => ?_)
  refine j_gd (fun h21 => ?_)
  refine j_iald hx (f := 1335) (o := t) kd1335 h20 (by decide +kernel) h21 ?_
  refine j_runA hx 1 (tb := [(113, .dup2)]) (jtb_ok (by decide +kernel)) (pc' := 114) (lv' := [(0, vR t), (1, vI a1), (2, vI a2), (3, vI l3)]) (st' := [vI (jA W 1335 t (ix s0)), vR s2, vI (jA W 1335 t (ix s0)), vR s2]) rfl ?_
  refine j_gd (fun h22 => ?_)
  refine j_gd (fun h23 => ?_)
  refine j_lald hx (f := 1349) (o := t) kd1349 h22 (by decide +kernel) h23 ?_
  refine j_runA hx 1 (tb := [(115, .aload_n 0)]) (jtb_ok (by decide +kernel)) (pc' := 116) (lv' := [(0, vR t), (1, vI a1), (2, vI a2), (3, vI l3)]) (st' := [vR t, vL (jB W 1349 t (ix (jA W 1335 t (ix s0)))), vI (jA W 1335 t (ix s0)), vR s2]) rfl ?_
  refine j_gd (fun h24 => ?_)
  refine j_getR hx flX8_86 kl1333 h24 (by decide) (by decide +kernel) ?_
  refine j_runA hx 1 (tb := [(119, .iload_n 3)]) (jtb_ok (by decide +kernel)) (pc' := 120) (lv' := [(0, vR t), (1, vI a1), (2, vI a2), (3, vI l3)]) (st' := [vI l3, vR (jR W 1333 t), vL (jB W 1349 t (ix (jA W 1335 t (ix s0)))), vI (jA W 1335 t (ix s0)), vR s2]) rfl ?_
  refine j_gd (fun h25 => ?_)
  refine j_lald hx (f := 1333) (o := t) kd1333 rfl (by decide +kernel) h25 ?_
  refine j_runA hx 1 (tb := [(121, .ladd)]) (jtb_ok (by decide +kernel)) (pc' := 122) (lv' := [(0, vR t), (1, vI a1), (2, vI a2), (3, vI l3)]) (st' := [vL ((jB W 1349 t (ix (jA W 1335 t (ix s0)))) + (jB W 1333 t (ix l3))), vI (jA W 1335 t (ix s0)), vR s2]) rfl ?_
  refine j_gd (fun h26 => ?_)
  refine j_gd (fun h27 => ?_)
  refine j_last hx (f := 1349) (o := t) kd1349 h26 (by decide +kernel) h27 ?_
  refine j_ltw rfl (fun W28 hc29 => ?_)
  have h30 : jC W28 t = 13 := (congrFun hc29 _).trans h24
  exact wmo_bestChain_123 h l3 W28
theorem wmo_bestChain_194 {x : jCx} {en : (fmo_bestChain_S ⊕ (Int32 × jW)) → Option (Outcome × jW)} {t : Nat} {a1 : Int32} {a2 : Int32} (h : hmo_bestChain x en t a1 a2) (l3 : Int32) (l4 : Int32) (W : jW) : jJ x 6 194 [(0, vR t), (1, vI a1), (2, vI a2), (3, vI l3), (4, vI l4)] [] W (fmo_bestChain_194 t a1 a2 l3 l4 W) en := by
  have h0 := h
  obtain ⟨hx, hm, hr, he, k2, k22, k134⟩ := h0
  unfold fmo_bestChain_194
  refine j_runA hx 1 (tb := [(194, .iinc 4 1)]) (jtb_ok (by decide +kernel)) (pc' := 197) (lv' := [(4, vI (l4 + (kI 1))), (0, vR t), (1, vI a1), (2, vI a2), (3, vI l3)]) (st' := []) rfl ?_
  refine j_let (v := (l4 + (kI 1))) (lv := fun v46 => [(4, vI v46), (0, vR t), (1, vI a1), (2, vI a2), (3, vI l3)]) (st := fun _ => []) (fun v46 => ?_)
  refine j_goto hx (off := -63) (by decide +kernel) (tgt := 134) (by decide) ?_
  refine j_lv (lv' := [(0, vR t), (1, vI a1), (2, vI a2), (3, vI l3), (4, vI v46)]) ⟨rfl, rfl, rfl, rfl, rfl, trivial⟩ ?_
  exact k134 l3 v46 W
theorem wmo_bestChain_186 {x : jCx} {en : (fmo_bestChain_S ⊕ (Int32 × jW)) → Option (Outcome × jW)} {t : Nat} {a1 : Int32} {a2 : Int32} (h : hmo_bestChain x en t a1 a2) (l4 : Int32) (W : jW) : jJ x 6 186 [(0, vR t), (1, vI a1), (2, vI a2), (4, vI l4)] [] W (fmo_bestChain_186 t a1 a2 l4 W) en := by
  have h0 := h
  obtain ⟨hx, hm, hr, he, k2, k22, k134⟩ := h0
  unfold fmo_bestChain_186
  refine j_runA hx 1 (tb := [(186, .aload_n 0)]) (jtb_ok (by decide +kernel)) (pc' := 187) (lv' := [(0, vR t), (1, vI a1), (2, vI a2), (4, vI l4)]) (st' := [vR t]) rfl ?_
  refine j_gd (fun h42 => ?_)
  refine j_getR hx flX8_93 kl1335 h42 (by decide) (by decide +kernel) ?_
  refine j_runA hx 1 (tb := [(190, .iload 4)]) (jtb_ok (by decide +kernel)) (pc' := 192) (lv' := [(0, vR t), (1, vI a1), (2, vI a2), (4, vI l4)]) (st' := [vI l4, vR (jR W 1335 t)]) rfl ?_
  refine j_gd (fun h43 => ?_)
  refine j_iald hx (f := 1335) (o := t) kd1335 rfl (by decide +kernel) h43 ?_
  refine j_runA hx 1 (tb := [(193, .istore_n 3)]) (jtb_ok (by decide +kernel)) (pc' := 194) (lv' := [(3, vI (jA W 1335 t (ix l4))), (0, vR t), (1, vI a1), (2, vI a2), (4, vI l4)]) (st' := []) rfl ?_
  refine j_let (v := (jA W 1335 t (ix l4))) (lv := fun v44 => [(3, vI v44), (0, vR t), (1, vI a1), (2, vI a2), (4, vI l4)]) (st := fun _ => []) (fun v44 => ?_)
  refine j_lv (lv' := [(0, vR t), (1, vI a1), (2, vI a2), (3, vI v44), (4, vI l4)]) ⟨rfl, rfl, rfl, rfl, rfl, trivial⟩ ?_
  exact wmo_bestChain_194 h v44 l4 W
theorem wmo_bestChain_134 {x : jCx} {en : (fmo_bestChain_S ⊕ (Int32 × jW)) → Option (Outcome × jW)} {t : Nat} {a1 : Int32} {a2 : Int32} (h : hmo_bestChain x en t a1 a2) (l3 : Int32) (l4 : Int32) (W : jW) : jJ x 6 134 [(0, vR t), (1, vI a1), (2, vI a2), (3, vI l3), (4, vI l4)] [] W (fmo_bestChain_134 t a1 a2 l3 l4 W) en := by
  have h0 := h
  obtain ⟨hx, hm, hr, he, k2, k22, k134⟩ := h0
  unfold fmo_bestChain_134
  refine j_runA hx 2 (tb := [(134, .iload 4), (136, .iload_n 2)]) (jtb_ok (by decide +kernel)) (pc' := 137) (lv' := [(0, vR t), (1, vI a1), (2, vI a2), (3, vI l3), (4, vI l4)]) (st' := [vI a2, vI l4]) rfl ?_
  refine j_icmp_ge hx (off := 63) (tgt := 200) (by decide +kernel) (by decide) (fun _ => ?_) (fun _ => ?_)
  · refine j_runA hx 1 (tb := [(200, .iload_n 3)]) (jtb_ok (by decide +kernel)) (pc' := 201) (lv' := [(0, vR t), (1, vI a1), (2, vI a2), (3, vI l3), (4, vI l4)]) (st' := [vI l3]) rfl ?_
    exact j_iret hx hm (by decide +kernel) rfl (he _)
  refine j_runA hx 1 (tb := [(140, .aload_n 0)]) (jtb_ok (by decide +kernel)) (pc' := 141) (lv' := [(0, vR t), (1, vI a1), (2, vI a2), (3, vI l3), (4, vI l4)]) (st' := [vR t]) rfl ?_
  refine j_gd (fun h35 => ?_)
  refine j_getR hx flX8_90 kl1334 h35 (by decide) (by decide +kernel) ?_
  refine j_runA hx 1 (tb := [(144, .iload 4)]) (jtb_ok (by decide +kernel)) (pc' := 146) (lv' := [(0, vR t), (1, vI a1), (2, vI a2), (3, vI l3), (4, vI l4)]) (st' := [vI l4, vR (jR W 1334 t)]) rfl ?_
  refine j_gd (fun h36 => ?_)
  refine j_zald hx (f := 1334) (o := t) kd1334 rfl (by decide +kernel) h36 ?_
  refine j_if_eq hx (off := 47) (tgt := 194) (by decide +kernel) (by decide) (fun _ => ?_) (fun _ => ?_)
  · exact wmo_bestChain_194 h l3 l4 W
  refine j_runA hx 1 (tb := [(150, .aload_n 0)]) (jtb_ok (by decide +kernel)) (pc' := 151) (lv' := [(0, vR t), (1, vI a1), (2, vI a2), (3, vI l3), (4, vI l4)]) (st' := [vR t]) rfl ?_
  refine j_getR hx flX8_99 kl1337 h35 (by decide) (by decide +kernel) ?_
  refine j_runA hx 1 (tb := [(154, .iload 4)]) (jtb_ok (by decide +kernel)) (pc' := 156) (lv' := [(0, vR t), (1, vI a1), (2, vI a2), (3, vI l3), (4, vI l4)]) (st' := [vI l4, vR (jR W 1337 t)]) rfl ?_
  refine j_gd (fun h37 => ?_)
  refine j_zald hx (f := 1337) (o := t) kd1337 rfl (by decide +kernel) h37 ?_
  refine j_if_ne hx (off := 37) (tgt := 194) (by decide +kernel) (by decide) (fun _ => ?_) (fun _ => ?_)
  · exact wmo_bestChain_194 h l3 l4 W
  refine j_runA hx 1 (tb := [(160, .iload_n 3)]) (jtb_ok (by decide +kernel)) (pc' := 161) (lv' := [(0, vR t), (1, vI a1), (2, vI a2), (3, vI l3), (4, vI l4)]) (st' := [vI l3]) rfl ?_
  refine j_if_lt hx (off := 25) (tgt := 186) (by decide +kernel) (by decide) (fun _ => ?_) (fun _ => ?_)
  · refine j_lv (lv' := [(0, vR t), (1, vI a1), (2, vI a2), (4, vI l4)]) ⟨rfl, rfl, rfl, rfl, trivial⟩ ?_
    exact wmo_bestChain_186 h l4 W
  refine j_runA hx 1 (tb := [(164, .aload_n 0)]) (jtb_ok (by decide +kernel)) (pc' := 165) (lv' := [(0, vR t), (1, vI a1), (2, vI a2), (3, vI l3), (4, vI l4)]) (st' := [vR t]) rfl ?_
  refine j_getR hx flX8_135 kl1349 h35 (by decide) (by decide +kernel) ?_
  refine j_runA hx 1 (tb := [(168, .aload_n 0)]) (jtb_ok (by decide +kernel)) (pc' := 169) (lv' := [(0, vR t), (1, vI a1), (2, vI a2), (3, vI l3), (4, vI l4)]) (st' := [vR t, vR (jR W 1349 t)]) rfl ?_
  refine j_getR hx flX8_93 kl1335 h35 (by decide) (by decide +kernel) ?_
  refine j_runA hx 1 (tb := [(172, .iload 4)]) (jtb_ok (by decide +kernel)) (pc' := 174) (lv' := [(0, vR t), (1, vI a1), (2, vI a2), (3, vI l3), (4, vI l4)]) (st' := [vI l4, vR (jR W 1335 t), vR (jR W 1349 t)]) rfl ?_
  refine j_gd (fun h38 => ?_)
  refine j_iald hx (f := 1335) (o := t) kd1335 rfl (by decide +kernel) h38 ?_
  refine j_gd (fun h39 => ?_)
  refine j_lald hx (f := 1349) (o := t) kd1349 rfl (by decide +kernel) h39 ?_
  refine j_runA hx 1 (tb := [(176, .aload_n 0)]) (jtb_ok (by decide +kernel)) (pc' := 177) (lv' := [(0, vR t), (1, vI a1), (2, vI a2), (3, vI l3), (4, vI l4)]) (st' := [vR t, vL (jB W 1349 t (ix (jA W 1335 t (ix l4))))]) rfl ?_
  refine j_getR hx flX8_135 kl1349 h35 (by decide) (by decide +kernel) ?_
  refine j_runA hx 1 (tb := [(180, .iload_n 3)]) (jtb_ok (by decide +kernel)) (pc' := 181) (lv' := [(0, vR t), (1, vI a1), (2, vI a2), (3, vI l3), (4, vI l4)]) (st' := [vI l3, vR (jR W 1349 t), vL (jB W 1349 t (ix (jA W 1335 t (ix l4))))]) rfl ?_
  refine j_gd (fun h40 => ?_)
  refine j_lald hx (f := 1349) (o := t) kd1349 rfl (by decide +kernel) h40 ?_
  refine j_lcmp_le hx (off := 11) (tgt := 194) (by decide +kernel) (by decide +kernel) (by decide) (fun _ => ?_) (fun _ => ?_)
  · exact wmo_bestChain_194 h l3 l4 W
  refine j_lv (lv' := [(0, vR t), (1, vI a1), (2, vI a2), (4, vI l4)]) ⟨rfl, rfl, rfl, rfl, trivial⟩ ?_
  exact wmo_bestChain_186 h l4 W
theorem wmo_bestChain_22 {x : jCx} {en : (fmo_bestChain_S ⊕ (Int32 × jW)) → Option (Outcome × jW)} {t : Nat} {a1 : Int32} {a2 : Int32} (h : hmo_bestChain x en t a1 a2) (l3 : Int32) (W : jW) : jJ x 6 22 [(0, vR t), (1, vI a1), (2, vI a2), (3, vI l3)] [] W (fmo_bestChain_22 t a1 a2 l3 W) en := by
  have h0 := h
  obtain ⟨hx, hm, hr, he, k2, k22, k134⟩ := h0
  unfold fmo_bestChain_22
  refine j_runA hx 2 (tb := [(22, .iload_n 3), (23, .aload_n 0)]) (jtb_ok (by decide +kernel)) (pc' := 24) (lv' := [(0, vR t), (1, vI a1), (2, vI a2), (3, vI l3)]) (st' := [vR t, vI l3]) rfl ?_
  refine j_gd (fun h10 => ?_)
  refine j_getI hx flX8_272 kd1329 h10 (by decide) (by decide +kernel) ?_
  refine j_icmp_ge hx (off := 102) (tgt := 129) (by decide +kernel) (by decide) (fun _ => ?_) (fun _ => ?_)
  · refine j_runA hx 4 (tb := [(129, .iconst (-1)), (130, .istore_n 3), (131, .iload_n 1), (132, .istore 4)]) (jtb_ok (by decide +kernel)) (pc' := 134) (lv' := [(4, vI a1), (3, vI (kI (-1))), (0, vR t), (1, vI a1), (2, vI a2)]) (st' := []) rfl ?_
    refine j_lv (lv' := [(0, vR t), (1, vI a1), (2, vI a2), (3, vI (kI (-1))), (4, vI a1)]) ⟨rfl, rfl, rfl, rfl, rfl, trivial⟩ ?_
    exact k134 (kI (-1)) a1 W
  refine j_runA hx 1 (tb := [(30, .aload_n 0)]) (jtb_ok (by decide +kernel)) (pc' := 31) (lv' := [(0, vR t), (1, vI a1), (2, vI a2), (3, vI l3)]) (st' := [vR t]) rfl ?_
  refine j_getR hx flX8_77 kl1330 h10 (by decide) (by decide +kernel) ?_
  refine j_runA hx 1 (tb := [(34, .iload_n 3)]) (jtb_ok (by decide +kernel)) (pc' := 35) (lv' := [(0, vR t), (1, vI a1), (2, vI a2), (3, vI l3)]) (st' := [vI l3, vR (jR W 1330 t)]) rfl ?_
  refine j_gd (fun h11 => ?_)
  refine j_iald hx (f := 1330) (o := t) kd1330 rfl (by decide +kernel) h11 ?_
  refine j_runA hx 1 (tb := [(36, .istore 4)]) (jtb_ok (by decide +kernel)) (pc' := 38) (lv' := [(4, vI (jA W 1330 t (ix l3))), (0, vR t), (1, vI a1), (2, vI a2), (3, vI l3)]) (st' := []) rfl ?_
  refine j_let (v := (jA W 1330 t (ix l3))) (lv := fun v12 => [(4, vI v12), (0, vR t), (1, vI a1), (2, vI a2), (3, vI l3)]) (st := fun _ => []) (fun v12 => ?_)
  refine j_runA hx 1 (tb := [(38, .aload_n 0)]) (jtb_ok (by decide +kernel)) (pc' := 39) (lv' := [(4, vI v12), (0, vR t), (1, vI a1), (2, vI a2), (3, vI l3)]) (st' := [vR t]) rfl ?_
  refine j_getR hx flX8_80 kl1331 h10 (by decide) (by decide +kernel) ?_
  refine j_runA hx 1 (tb := [(42, .iload_n 3)]) (jtb_ok (by decide +kernel)) (pc' := 43) (lv' := [(4, vI v12), (0, vR t), (1, vI a1), (2, vI a2), (3, vI l3)]) (st' := [vI l3, vR (jR W 1331 t)]) rfl ?_
  refine j_gd (fun h13 => ?_)
  refine j_iald hx (f := 1331) (o := t) kd1331 rfl (by decide +kernel) h13 ?_
  refine j_runA hx 1 (tb := [(44, .istore 5)]) (jtb_ok (by decide +kernel)) (pc' := 46) (lv' := [(5, vI (jA W 1331 t (ix l3))), (4, vI v12), (0, vR t), (1, vI a1), (2, vI a2), (3, vI l3)]) (st' := []) rfl ?_
  refine j_let (v := (jA W 1331 t (ix l3))) (lv := fun v14 => [(5, vI v14), (4, vI v12), (0, vR t), (1, vI a1), (2, vI a2), (3, vI l3)]) (st := fun _ => []) (fun v14 => ?_)
  refine j_runA hx 2 (tb := [(46, .iload 4), (48, .iload_n 1)]) (jtb_ok (by decide +kernel)) (pc' := 49) (lv' := [(5, vI v14), (4, vI v12), (0, vR t), (1, vI a1), (2, vI a2), (3, vI l3)]) (st' := [vI a1, vI v12]) rfl ?_
  refine j_icmp_lt hx (off := 74) (tgt := 123) (by decide +kernel) (by decide) (fun _ => ?_) (fun _ => ?_)
  · refine j_lv (lv' := [(0, vR t), (1, vI a1), (2, vI a2), (3, vI l3)]) ⟨rfl, rfl, rfl, rfl, trivial⟩ ?_
    exact wmo_bestChain_123 h l3 W
  refine j_runA hx 2 (tb := [(52, .iload 4), (54, .iload_n 2)]) (jtb_ok (by decide +kernel)) (pc' := 55) (lv' := [(5, vI v14), (4, vI v12), (0, vR t), (1, vI a1), (2, vI a2), (3, vI l3)]) (st' := [vI a2, vI v12]) rfl ?_
  refine j_icmp_ge hx (off := 68) (tgt := 123) (by decide +kernel) (by decide) (fun _ => ?_) (fun _ => ?_)
  · refine j_lv (lv' := [(0, vR t), (1, vI a1), (2, vI a2), (3, vI l3)]) ⟨rfl, rfl, rfl, rfl, trivial⟩ ?_
    exact wmo_bestChain_123 h l3 W
  refine j_runA hx 1 (tb := [(58, .aload_n 0)]) (jtb_ok (by decide +kernel)) (pc' := 59) (lv' := [(5, vI v14), (4, vI v12), (0, vR t), (1, vI a1), (2, vI a2), (3, vI l3)]) (st' := [vR t]) rfl ?_
  refine j_getR hx flX8_83 kl1332 h10 (by decide) (by decide +kernel) ?_
  refine j_runA hx 1 (tb := [(62, .iload_n 3)]) (jtb_ok (by decide +kernel)) (pc' := 63) (lv' := [(5, vI v14), (4, vI v12), (0, vR t), (1, vI a1), (2, vI a2), (3, vI l3)]) (st' := [vI l3, vR (jR W 1332 t)]) rfl ?_
  refine j_gd (fun h15 => ?_)
  refine j_zald hx (f := 1332) (o := t) kd1332 rfl (by decide +kernel) h15 ?_
  refine j_if_ne hx (off := 59) (tgt := 123) (by decide +kernel) (by decide) (fun _ => ?_) (fun _ => ?_)
  · refine j_lv (lv' := [(0, vR t), (1, vI a1), (2, vI a2), (3, vI l3)]) ⟨rfl, rfl, rfl, rfl, trivial⟩ ?_
    exact wmo_bestChain_123 h l3 W
  refine j_runA hx 1 (tb := [(67, .aload_n 0)]) (jtb_ok (by decide +kernel)) (pc' := 68) (lv' := [(5, vI v14), (4, vI v12), (0, vR t), (1, vI a1), (2, vI a2), (3, vI l3)]) (st' := [vR t]) rfl ?_
  refine j_getR hx flX8_99 kl1337 h10 (by decide) (by decide +kernel) ?_
  refine j_runA hx 1 (tb := [(71, .iload 4)]) (jtb_ok (by decide +kernel)) (pc' := 73) (lv' := [(5, vI v14), (4, vI v12), (0, vR t), (1, vI a1), (2, vI a2), (3, vI l3)]) (st' := [vI v12, vR (jR W 1337 t)]) rfl ?_
  refine j_gd (fun h16 => ?_)
  refine j_zald hx (f := 1337) (o := t) kd1337 rfl (by decide +kernel) h16 ?_
  refine j_runA hx 1 (tb := [(74, .aload_n 0)]) (jtb_ok (by decide +kernel)) (pc' := 75) (lv' := [(5, vI v14), (4, vI v12), (0, vR t), (1, vI a1), (2, vI a2), (3, vI l3)]) (st' := [vR t, vI (jA W 1337 t (ix v12))]) rfl ?_
  refine j_getR hx flX8_99 kl1337 h10 (by decide) (by decide +kernel) ?_
  refine j_runA hx 1 (tb := [(78, .iload 5)]) (jtb_ok (by decide +kernel)) (pc' := 80) (lv' := [(5, vI v14), (4, vI v12), (0, vR t), (1, vI a1), (2, vI a2), (3, vI l3)]) (st' := [vI v14, vR (jR W 1337 t), vI (jA W 1337 t (ix v12))]) rfl ?_
  refine j_gd (fun h17 => ?_)
  refine j_zald hx (f := 1337) (o := t) kd1337 rfl (by decide +kernel) h17 ?_
  refine j_icmp_ne hx (off := 6) (tgt := 87) (by decide +kernel) (by decide) (fun _ => ?_) (fun _ => ?_)
  · refine j_runA hx 1 (tb := [(87, .aload_n 0)]) (jtb_ok (by decide +kernel)) (pc' := 88) (lv' := [(5, vI v14), (4, vI v12), (0, vR t), (1, vI a1), (2, vI a2), (3, vI l3)]) (st' := [vR t]) rfl ?_
    refine j_getR hx flX8_135 kl1349 h10 (by decide) (by decide +kernel) ?_
    refine j_runA hx 1 (tb := [(91, .aload_n 0)]) (jtb_ok (by decide +kernel)) (pc' := 92) (lv' := [(5, vI v14), (4, vI v12), (0, vR t), (1, vI a1), (2, vI a2), (3, vI l3)]) (st' := [vR t, vR (jR W 1349 t)]) rfl ?_
    refine j_getR hx flX8_93 kl1335 h10 (by decide) (by decide +kernel) ?_
    refine j_runA hx 1 (tb := [(95, .aload_n 0)]) (jtb_ok (by decide +kernel)) (pc' := 96) (lv' := [(5, vI v14), (4, vI v12), (0, vR t), (1, vI a1), (2, vI a2), (3, vI l3)]) (st' := [vR t, vR (jR W 1335 t), vR (jR W 1349 t)]) rfl ?_
    refine j_getR hx flX8_99 kl1337 h10 (by decide) (by decide +kernel) ?_
    refine j_runA hx 1 (tb := [(99, .iload 4)]) (jtb_ok (by decide +kernel)) (pc' := 101) (lv' := [(5, vI v14), (4, vI v12), (0, vR t), (1, vI a1), (2, vI a2), (3, vI l3)]) (st' := [vI v12, vR (jR W 1337 t), vR (jR W 1335 t), vR (jR W 1349 t)]) rfl ?_
    refine j_gd (fun h18 => ?_)
    refine j_zald hx (f := 1337) (o := t) kd1337 rfl (by decide +kernel) h18 ?_
    refine j_if_eq hx (off := 8) (tgt := 110) (by decide +kernel) (by decide) (fun _ => ?_) (fun _ => ?_)
    · refine j_runA hx 1 (tb := [(110, .iload 4)]) (jtb_ok (by decide +kernel)) (pc' := 112) (lv' := [(5, vI v14), (4, vI v12), (0, vR t), (1, vI a1), (2, vI a2), (3, vI l3)]) (st' := [vI v12, vR (jR W 1335 t), vR (jR W 1349 t)]) rfl ?_
      refine j_lv (lv' := [(0, vR t), (1, vI a1), (2, vI a2), (3, vI l3)]) ⟨rfl, rfl, rfl, rfl, trivial⟩ ?_
      exact wmo_bestChain_112 h l3 v12 (jR W 1335 t) (jR W 1349 t) W
    refine j_runA hx 1 (tb := [(105, .iload 5)]) (jtb_ok (by decide +kernel)) (pc' := 107) (lv' := [(5, vI v14), (4, vI v12), (0, vR t), (1, vI a1), (2, vI a2), (3, vI l3)]) (st' := [vI v14, vR (jR W 1335 t), vR (jR W 1349 t)]) rfl ?_
    refine j_goto hx (off := 5) (by decide +kernel) (tgt := 112) (by decide) ?_
    refine j_lv (lv' := [(0, vR t), (1, vI a1), (2, vI a2), (3, vI l3)]) ⟨rfl, rfl, rfl, rfl, trivial⟩ ?_
    exact wmo_bestChain_112 h l3 v14 (jR W 1335 t) (jR W 1349 t) W
  refine j_goto hx (off := 39) (by decide +kernel) (tgt := 123) (by decide) ?_
  refine j_lv (lv' := [(0, vR t), (1, vI a1), (2, vI a2), (3, vI l3)]) ⟨rfl, rfl, rfl, rfl, trivial⟩ ?_
  exact wmo_bestChain_123 h l3 W
theorem wmo_bestChain_2 {x : jCx} {en : (fmo_bestChain_S ⊕ (Int32 × jW)) → Option (Outcome × jW)} {t : Nat} {a1 : Int32} {a2 : Int32} (h : hmo_bestChain x en t a1 a2) (l3 : Int32) (W : jW) : jJ x 6 2 [(0, vR t), (1, vI a1), (2, vI a2), (3, vI l3)] [] W (fmo_bestChain_2 t a1 a2 l3 W) en := by
  have h0 := h
  obtain ⟨hx, hm, hr, he, k2, k22, k134⟩ := h0
  unfold fmo_bestChain_2
  refine j_runA hx 2 (tb := [(2, .iload_n 3), (3, .iload_n 2)]) (jtb_ok (by decide +kernel)) (pc' := 4) (lv' := [(0, vR t), (1, vI a1), (2, vI a2), (3, vI l3)]) (st' := [vI a2, vI l3]) rfl ?_
  refine j_icmp_ge hx (off := 16) (tgt := 20) (by decide +kernel) (by decide) (fun _ => ?_) (fun _ => ?_)
  · refine j_runA hx 2 (tb := [(20, .iconst 0), (21, .istore_n 3)]) (jtb_ok (by decide +kernel)) (pc' := 22) (lv' := [(3, vI (kI 0)), (0, vR t), (1, vI a1), (2, vI a2)]) (st' := []) rfl ?_
    refine j_lv (lv' := [(0, vR t), (1, vI a1), (2, vI a2), (3, vI (kI 0))]) ⟨rfl, rfl, rfl, rfl, trivial⟩ ?_
    exact k22 (kI 0) W
  refine j_runA hx 1 (tb := [(7, .aload_n 0)]) (jtb_ok (by decide +kernel)) (pc' := 8) (lv' := [(0, vR t), (1, vI a1), (2, vI a2), (3, vI l3)]) (st' := [vR t]) rfl ?_
  refine j_gd (fun h2 => ?_)
  refine j_getR hx flX8_135 kl1349 h2 (by decide) (by decide +kernel) ?_
  refine j_runA hx 2 (tb := [(11, .iload_n 3), (12, .lconst 0)]) (jtb_ok (by decide +kernel)) (pc' := 13) (lv' := [(0, vR t), (1, vI a1), (2, vI a2), (3, vI l3)]) (st' := [vL (kJ 0), vI l3, vR (jR W 1349 t)]) rfl ?_
  refine j_gd (fun h3 => ?_)
  refine j_last hx (f := 1349) (o := t) kd1349 rfl (by decide +kernel) h3 ?_
  refine j_ltw rfl (fun W4 hc5 => ?_)
  have h6 : jC W4 t = 13 := (congrFun hc5 _).trans h2
  refine j_runA hx 1 (tb := [(14, .iinc 3 1)]) (jtb_ok (by decide +kernel)) (pc' := 17) (lv' := [(3, vI (l3 + (kI 1))), (0, vR t), (1, vI a1), (2, vI a2)]) (st' := []) rfl ?_
  refine j_let (v := (l3 + (kI 1))) (lv := fun v8 => [(3, vI v8), (0, vR t), (1, vI a1), (2, vI a2)]) (st := fun _ => []) (fun v8 => ?_)
  refine j_goto hx (off := -15) (by decide +kernel) (tgt := 2) (by decide) ?_
  refine j_lv (lv' := [(0, vR t), (1, vI a1), (2, vI a2), (3, vI v8)]) ⟨rfl, rfl, rfl, rfl, trivial⟩ ?_
  exact k2 v8 W4
theorem wmo_bestChain {x : jCx} {en : (fmo_bestChain_S ⊕ (Int32 × jW)) → Option (Outcome × jW)} {t : Nat} {a1 : Int32} {a2 : Int32} (h : hmo_bestChain x en t a1 a2) (W : jW) : jJ x 6 0 [(0, vR t), (1, vI a1), (2, vI a2)] [] W (fmo_bestChain_0 t a1 a2 W) en := by
  have h0 := h
  obtain ⟨hx, hm, hr, he, k2, k22, k134⟩ := h0
  unfold fmo_bestChain_0
  refine j_runA hx 2 (tb := [(0, .iload_n 1), (1, .istore_n 3)]) (jtb_ok (by decide +kernel)) (pc' := 2) (lv' := [(3, vI a1), (0, vR t), (1, vI a1), (2, vI a2)]) (st' := []) rfl ?_
  refine j_lv (lv' := [(0, vR t), (1, vI a1), (2, vI a2), (3, vI a1)]) ⟨rfl, rfl, rfl, rfl, trivial⟩ ?_
  exact k2 a1 W
theorem cmo_bestChain (t : Nat) (a1 : Int32) (a2 : Int32) (W : jW) : jM yX8_bestChain cX8_bestChain 6 (Option.some Jvm.ClassFile.FieldType.int) [] 0 0 [vR t, vI a1, vI a2] W ((fmo_bestChain t a1 a2 W).bind (fun q => some (.returned (some (.int q.1)), q.2))) := by
  refine jM.of (Nat.le_of_ble_eq_true rfl) (fun x hx hm hr => ?_)
  refine j_begin (P := (Sum.elim (fun s => (2, [(0, vR t), (1, vI a1), (2, vI a2), (3, vI s.1)], s.2)) (Sum.elim (fun s => (22, [(0, vR t), (1, vI a1), (2, vI a2), (3, vI s.1)], s.2)) (fun s => (134, [(0, vR t), (1, vI a1), (2, vI a2), (3, vI s.1), (4, vI s.2.1)], s.2.2))))) (fun en he hk => ?_)
  have h : hmo_bestChain x en t a1 a2 := ⟨hx, hm, hr, fun q => he _, fun l3 W => hk (.inl (l3, W)), fun l3 W => hk (.inr (.inl (l3, W))), fun l3 l4 W => hk (.inr (.inr (l3, l4, W)))⟩
  refine ⟨fun s => ?_, wmo_bestChain h W⟩
  rcases s with s | s | s
  · exact wmo_bestChain_2 h s.1 s.2
  · exact wmo_bestChain_22 h s.1 s.2
  · exact wmo_bestChain_134 h s.1 s.2.1 s.2.2
