/-! ===== walks: fma_addNumber fwo_m fma_get fma_number fma_moved fma_add fma_isMovable fma_and fma_move fma_page fma_quotient ===== -/
set_option maxRecDepth 100000
def hma_addNumber (x : jCx) (en : ((Nat × jW) ⊕ jW) → Option (Outcome × jW)) (t : Nat) (a1 : Int32) (a2 : Int32) : Prop :=
  jOK x RX15 cX15_addNumber 12 ∧
  jMt x "addNumber" (Option.none : Option Jvm.ClassFile.FieldType) [] ∧
  jRm x 9 123 ∧
  (∀ q : jW, en (.inr q) = some (.returned none, q)) ∧
  (∀ z : Nat × jW, en (.inl z) = some (.threw (z.1 - 1), z.2))
theorem wma_addNumber_114 {x : jCx} {en : ((Nat × jW) ⊕ jW) → Option (Outcome × jW)} {t : Nat} {a1 : Int32} {a2 : Int32} (h : hma_addNumber x en t a1 a2) (l5 : Int32) (s0 : Int32) (s1 : Nat) (W : jW) : jJ x 12 114 [(0, vR t), (1, vI a1), (2, vI a2), (5, vI l5)] [vI s0, vR s1] W (fma_addNumber_114 t a1 a2 l5 s0 s1 W) en := by
  have h0 := h
  obtain ⟨hx, hm, hr, he, ht⟩ := h0
  unfold fma_addNumber_114
  refine j_gd (fun h14 => ?_)
  refine j_EV (j_callV (av := [vI s0]) (st := []) hx hr (Or.inl q2074) q2076 qs86 rfl md_fma_must np_fma_must (cma_must s1 s0 W) (by decide) (Nat.le_of_ble_eq_true rfl) h14 (by decide) (by decide +kernel)) (fun z _ r h9 => j_upE hm hx (ht z) h9) (fun q15 _ => ?_)
  refine j_runA hx 2 (tb := [(117, .aload_n 0), (118, .iload_n 1)]) (jtb_ok (by decide +kernel)) (pc' := 119) (lv' := [(0, vR t), (1, vI a1), (2, vI a2), (5, vI l5)]) (st' := [vI a1, vR t]) rfl ?_
  refine j_TI (j_callS (av := [vI a1]) (st := [vR t]) hx hr (Or.inl q2078) q992 q247 md_fwo_d np_fwo_d (cwo_d a1 q15) (by decide) (Nat.le_of_ble_eq_true rfl) (by decide +kernel)) ?_
  refine j_runA hx 1 (tb := [(122, .aload_n 0)]) (jtb_ok (by decide +kernel)) (pc' := 123) (lv' := [(0, vR t), (1, vI a1), (2, vI a2), (5, vI l5)]) (st' := [vR t, vI (fwo_d a1), vR t]) rfl ?_
  refine j_gd (fun h17 => ?_)
  refine j_getR hx flX15_43 kl1001 h17 (by decide) (by decide +kernel) ?_
  refine j_runA hx 1 (tb := [(126, .iload 5)]) (jtb_ok (by decide +kernel)) (pc' := 128) (lv' := [(0, vR t), (1, vI a1), (2, vI a2), (5, vI l5)]) (st' := [vI l5, vR (jR q15 1001 t), vI (fwo_d a1), vR t]) rfl ?_
  refine j_gd (fun h18 => ?_)
  refine j_OL (j_callV (av := [vI l5]) (st := [vI (fwo_d a1), vR t]) hx hr (Or.inl q2043) q1609 q1610 rfl md_fpg_addressOf np_fpg_addressOf (cpg_addressOf (jR q15 1001 t) l5 q15) (by decide) (Nat.le_of_ble_eq_true rfl) h18 (by decide) (by decide +kernel)) (fun q19 _ => ?_)
  refine j_runA hx 2 (tb := [(131, .iconst 1), (132, .aload_n 0)]) (jtb_ok (by decide +kernel)) (pc' := 133) (lv' := [(0, vR t), (1, vI a1), (2, vI a2), (5, vI l5)]) (st' := [vR t, vI (kI 1), vL q19, vI (fwo_d a1), vR t]) rfl ?_
  refine j_getR hx flX15_43 kl1001 h17 (by decide) (by decide +kernel) ?_
  refine j_getR hx flX15_187 kl206 h18 (by decide) (by decide +kernel) ?_
  refine j_runA hx 1 (tb := [(139, .iload 5)]) (jtb_ok (by decide +kernel)) (pc' := 141) (lv' := [(0, vR t), (1, vI a1), (2, vI a2), (5, vI l5)]) (st' := [vI l5, vR (jR q15 206 (jR q15 1001 t)), vI (kI 1), vL q19, vI (fwo_d a1), vR t]) rfl ?_
  refine j_gd (fun h20 => ?_)
  refine j_iald hx (f := 206) (o := (jR q15 1001 t)) kd206 rfl (by decide +kernel) h20 ?_
  refine j_WV (j_callV (av := [vI (fwo_d a1), vL q19, vI (kI 1), vI (jA q15 206 (jR q15 1001 t) (ix l5))]) (st := []) hx hr (Or.inl q2079) q2081 qs87 rfl md_fma_code np_fma_code (cma_code t (fwo_d a1) q19 (kI 1) (jA q15 206 (jR q15 1001 t) (ix l5)) q15) (by decide) (Nat.le_of_ble_eq_true rfl) h17 (by decide) (by decide +kernel)) (fun q21 _ => ?_)
  exact j_vret hx hm (by decide +kernel) (he _)
theorem wma_addNumber_113 {x : jCx} {en : ((Nat × jW) ⊕ jW) → Option (Outcome × jW)} {t : Nat} {a1 : Int32} {a2 : Int32} (h : hma_addNumber x en t a1 a2) (l5 : Int32) (s0 : Nat) (W : jW) : jJ x 12 113 [(0, vR t), (1, vI a1), (2, vI a2), (5, vI l5)] [vR s0] W (fma_addNumber_113 t a1 a2 l5 s0 W) en := by
  have h0 := h
  obtain ⟨hx, hm, hr, he, ht⟩ := h0
  unfold fma_addNumber_113
  refine j_runA hx 1 (tb := [(113, .iconst 0)]) (jtb_ok (by decide +kernel)) (pc' := 114) (lv' := [(0, vR t), (1, vI a1), (2, vI a2), (5, vI l5)]) (st' := [vI (kI 0), vR s0]) rfl ?_
  exact wma_addNumber_114 h l5 (kI 0) s0 W
theorem wma_addNumber_220 {x : jCx} {en : ((Nat × jW) ⊕ jW) → Option (Outcome × jW)} {t : Nat} {a1 : Int32} {a2 : Int32} (h : hma_addNumber x en t a1 a2) (l4 : Int32) (l7 : Int32) (s0 : Int32) (s1 : Int64) (s2 : Int64) (s3 : Nat) (W : jW) : jJ x 12 220 [(0, vR t), (1, vI a1), (2, vI a2), (4, vI l4), (7, vI l7)] [vI s0, vL s1, vL s2, vR s3] W (fma_addNumber_220 t a1 a2 l4 l7 s0 s1 s2 s3 W) en := by
  have h0 := h
  obtain ⟨hx, hm, hr, he, ht⟩ := h0
  unfold fma_addNumber_220
  refine j_runA hx 2 (tb := [(220, .iload 7), (222, .iload 4)]) (jtb_ok (by decide +kernel)) (pc' := 224) (lv' := [(0, vR t), (1, vI a1), (2, vI a2), (4, vI l4), (7, vI l7)]) (st' := [vI l4, vI l7, vI s0, vL s1, vL s2, vR s3]) rfl ?_
  refine j_gd (fun h36 => ?_)
  refine j_WL (j_callV (av := [vL s2, vL s1, vI s0, vI l7, vI l4]) (st := []) hx hr (Or.inl q2090) q2092 qs89 rfl md_fma_sum np_fma_sum (cma_sum s3 s2 s1 s0 l7 l4 W) (by decide) (Nat.le_of_ble_eq_true rfl) h36 (by decide) (by decide +kernel)) (fun q37 _ => ?_)
  refine j_runA hx 2 (tb := [(227, .lstore 10), (229, .iload 4)]) (jtb_ok (by decide +kernel)) (pc' := 231) (lv' := [(10, vL q37.1), (0, vR t), (1, vI a1), (2, vI a2), (4, vI l4), (7, vI l7)]) (st' := [vI l4]) rfl ?_
  refine j_if_eq hx (off := 18) (tgt := 249) (by decide +kernel) (by decide) (fun _ => ?_) (fun _ => ?_)
  · refine j_runA hx 2 (tb := [(249, .aload_n 0), (250, .iload_n 1)]) (jtb_ok (by decide +kernel)) (pc' := 251) (lv' := [(10, vL q37.1), (0, vR t), (1, vI a1), (2, vI a2), (4, vI l4), (7, vI l7)]) (st' := [vI a1, vR t]) rfl ?_
    refine j_TI (j_callS (av := [vI a1]) (st := [vR t]) hx hr (Or.inl q2078) q992 q247 md_fwo_d np_fwo_d (cwo_d a1 q37.2) (by decide) (Nat.le_of_ble_eq_true rfl) (by decide +kernel)) ?_
    refine j_runA hx 2 (tb := [(254, .lload 10), (256, .iload 7)]) (jtb_ok (by decide +kernel)) (pc' := 258) (lv' := [(10, vL q37.1), (0, vR t), (1, vI a1), (2, vI a2), (4, vI l4), (7, vI l7)]) (st' := [vI l7, vL q37.1, vI (fwo_d a1), vR t]) rfl ?_
    refine j_gd (fun h39 => ?_)
    refine j_WV (j_callV (av := [vI (fwo_d a1), vL q37.1, vI l7]) (st := []) hx hr (Or.inl q2099) q2101 qs91 rfl md_fma_putBase np_fma_putBase (cma_putBase t (fwo_d a1) q37.1 l7 q37.2) (by decide) (Nat.le_of_ble_eq_true rfl) h39 (by decide) (by decide +kernel)) (fun q40 _ => ?_)
    exact j_vret hx hm (by decide +kernel) (he _)
  refine j_runA hx 2 (tb := [(234, .aload_n 0), (235, .iload_n 1)]) (jtb_ok (by decide +kernel)) (pc' := 236) (lv' := [(10, vL q37.1), (0, vR t), (1, vI a1), (2, vI a2), (4, vI l4), (7, vI l7)]) (st' := [vI a1, vR t]) rfl ?_
  refine j_TI (j_callS (av := [vI a1]) (st := [vR t]) hx hr (Or.inl q2078) q992 q247 md_fwo_d np_fwo_d (cwo_d a1 q37.2) (by decide) (Nat.le_of_ble_eq_true rfl) (by decide +kernel)) ?_
  refine j_runA hx 2 (tb := [(239, .lload 10), (241, .iload 7)]) (jtb_ok (by decide +kernel)) (pc' := 243) (lv' := [(10, vL q37.1), (0, vR t), (1, vI a1), (2, vI a2), (4, vI l4), (7, vI l7)]) (st' := [vI l7, vL q37.1, vI (fwo_d a1), vR t]) rfl ?_
  refine j_gd (fun h42 => ?_)
  refine j_WV (j_callV (av := [vI (fwo_d a1), vL q37.1, vI l7]) (st := []) hx hr (Or.inl q2095) q2097 qs90 rfl md_fma_put np_fma_put (cma_put t (fwo_d a1) q37.1 l7 q37.2) (by decide) (Nat.le_of_ble_eq_true rfl) h42 (by decide) (by decide +kernel)) (fun q43 _ => ?_)
  refine j_goto hx (off := 15) (by decide +kernel) (tgt := 261) (by decide) ?_
  exact j_vret hx hm (by decide +kernel) (he _)
theorem wma_addNumber_198 {x : jCx} {en : ((Nat × jW) ⊕ jW) → Option (Outcome × jW)} {t : Nat} {a1 : Int32} {a2 : Int32} (h : hma_addNumber x en t a1 a2) (l4 : Int32) (l5 : Int64) (l7 : Int32) (s0 : Int64) (W : jW) : jJ x 12 198 [(0, vR t), (1, vI a1), (2, vI a2), (4, vI l4), (5, vL l5), (7, vI l7)] [vL s0] W (fma_addNumber_198 t a1 a2 l4 l5 l7 s0 W) en := by
  have h0 := h
  obtain ⟨hx, hm, hr, he, ht⟩ := h0
  unfold fma_addNumber_198
  refine j_runA hx 10 (tb := [(198, .lstore 8), (200, .aload_n 0), (201, .lload 8), (203, .lload 5), (205, .iload_n 1), (206, .bipush 30), (208, .ishr), (209, .iconst 1), (210, .iand), (211, .iconst 1)]) (jtb_ok (by decide +kernel)) (pc' := 212) (lv' := [(8, vL s0), (0, vR t), (1, vI a1), (2, vI a2), (4, vI l4), (5, vL l5), (7, vI l7)]) (st' := [vI (kI 1), vI ((ixr a1 (kI 30)) &&& (kI 1)), vL l5, vL s0, vR t]) rfl ?_
  refine j_icmp_ne hx (off := 7) (tgt := 219) (by decide +kernel) (by decide) (fun _ => ?_) (fun _ => ?_)
  · refine j_runA hx 1 (tb := [(219, .iconst 0)]) (jtb_ok (by decide +kernel)) (pc' := 220) (lv' := [(8, vL s0), (0, vR t), (1, vI a1), (2, vI a2), (4, vI l4), (5, vL l5), (7, vI l7)]) (st' := [vI (kI 0), vL l5, vL s0, vR t]) rfl ?_
    refine j_lv (lv' := [(0, vR t), (1, vI a1), (2, vI a2), (4, vI l4), (7, vI l7)]) ⟨rfl, rfl, rfl, rfl, rfl, trivial⟩ ?_
    exact wma_addNumber_220 h l4 l7 (kI 0) l5 s0 t W
  refine j_runA hx 1 (tb := [(215, .iconst 1)]) (jtb_ok (by decide +kernel)) (pc' := 216) (lv' := [(8, vL s0), (0, vR t), (1, vI a1), (2, vI a2), (4, vI l4), (5, vL l5), (7, vI l7)]) (st' := [vI (kI 1), vL l5, vL s0, vR t]) rfl ?_
  refine j_goto hx (off := 4) (by decide +kernel) (tgt := 220) (by decide) ?_
  refine j_lv (lv' := [(0, vR t), (1, vI a1), (2, vI a2), (4, vI l4), (7, vI l7)]) ⟨rfl, rfl, rfl, rfl, rfl, trivial⟩ ?_
  exact wma_addNumber_220 h l4 l7 (kI 1) l5 s0 t W
theorem wma_addNumber_167 {x : jCx} {en : ((Nat × jW) ⊕ jW) → Option (Outcome × jW)} {t : Nat} {a1 : Int32} {a2 : Int32} (h : hma_addNumber x en t a1 a2) (l3 : Int32) (l4 : Int32) (s0 : Int32) (s1 : Int64) (W : jW) : jJ x 12 167 [(0, vR t), (1, vI a1), (2, vI a2), (3, vI l3), (4, vI l4)] [vI s0, vL s1] W (fma_addNumber_167 t a1 a2 l3 l4 s0 s1 W) en := by
  have h0 := h
  obtain ⟨hx, hm, hr, he, ht⟩ := h0
  unfold fma_addNumber_167
  refine j_runA hx 2 (tb := [(167, .lshl), (168, .lstore 5)]) (jtb_ok (by decide +kernel)) (pc' := 170) (lv' := [(5, vL (lxl s1 s0)), (0, vR t), (1, vI a1), (2, vI a2), (3, vI l3), (4, vI l4)]) (st' := []) rfl ?_
  refine j_let (v := (lxl s1 s0)) (lv := fun v26 => [(5, vL v26), (0, vR t), (1, vI a1), (2, vI a2), (3, vI l3), (4, vI l4)]) (st := fun _ => []) (fun v26 => ?_)
  refine j_runA hx 1 (tb := [(170, .iload_n 1)]) (jtb_ok (by decide +kernel)) (pc' := 171) (lv' := [(5, vL v26), (0, vR t), (1, vI a1), (2, vI a2), (3, vI l3), (4, vI l4)]) (st' := [vI a1]) rfl ?_
  refine j_TI (j_callS (av := [vI a1]) (st := []) hx hr (Or.inl q2084) q961 q247 md_fwo_isLong np_fwo_isLong (cwo_isLong a1 W) (by decide) (Nat.le_of_ble_eq_true rfl) (by decide +kernel)) ?_
  refine j_runA hx 1 (tb := [(174, .istore 7)]) (jtb_ok (by decide +kernel)) (pc' := 176) (lv' := [(7, vI (fwo_isLong a1)), (5, vL v26), (0, vR t), (1, vI a1), (2, vI a2), (3, vI l3), (4, vI l4)]) (st' := []) rfl ?_
  refine j_let (v := (fwo_isLong a1)) (lv := fun v27 => [(7, vI v27), (5, vL v26), (0, vR t), (1, vI a1), (2, vI a2), (3, vI l3), (4, vI l4)]) (st := fun _ => []) (fun v27 => ?_)
  refine j_runA hx 1 (tb := [(176, .iload 7)]) (jtb_ok (by decide +kernel)) (pc' := 178) (lv' := [(7, vI v27), (5, vL v26), (0, vR t), (1, vI a1), (2, vI a2), (3, vI l3), (4, vI l4)]) (st' := [vI v27]) rfl ?_
  refine j_if_eq hx (off := 11) (tgt := 189) (by decide +kernel) (by decide) (fun _ => ?_) (fun _ => ?_)
  · refine j_runA hx 2 (tb := [(189, .aload_n 0), (190, .iload_n 3)]) (jtb_ok (by decide +kernel)) (pc' := 191) (lv' := [(7, vI v27), (5, vL v26), (0, vR t), (1, vI a1), (2, vI a2), (3, vI l3), (4, vI l4)]) (st' := [vI l3, vR t]) rfl ?_
    refine j_gd (fun h28 => ?_)
    refine j_EL (j_callV (av := [vI l3]) (st := []) hx hr (Or.inl q2085) q2087 qs88 rfl md_fma_base np_fma_base (cma_base t l3 W) (by decide) (Nat.le_of_ble_eq_true rfl) h28 (by decide) (by decide +kernel)) (fun z _ r h9 => j_upE hm hx (ht z) h9) (fun q29 _ => ?_)
    refine j_ldc2 hx (v := (kJ 4294967295)) (jkd2 q2089 (by decide +kernel)) (by decide +kernel) ?_
    refine j_runA hx 1 (tb := [(197, .land)]) (jtb_ok (by decide +kernel)) (pc' := 198) (lv' := [(7, vI v27), (5, vL v26), (0, vR t), (1, vI a1), (2, vI a2), (3, vI l3), (4, vI l4)]) (st' := [vL (q29.1 &&& (kJ 4294967295))]) rfl ?_
    refine j_lv (lv' := [(0, vR t), (1, vI a1), (2, vI a2), (4, vI l4), (5, vL v26), (7, vI v27)]) ⟨rfl, rfl, rfl, rfl, rfl, rfl, trivial⟩ ?_
    exact wma_addNumber_198 h l4 v26 v27 (q29.1 &&& (kJ 4294967295)) q29.2
  refine j_runA hx 2 (tb := [(181, .aload_n 0), (182, .iload_n 3)]) (jtb_ok (by decide +kernel)) (pc' := 183) (lv' := [(7, vI v27), (5, vL v26), (0, vR t), (1, vI a1), (2, vI a2), (3, vI l3), (4, vI l4)]) (st' := [vI l3, vR t]) rfl ?_
  refine j_gd (fun h31 => ?_)
  refine j_EL (j_callV (av := [vI l3]) (st := []) hx hr (Or.inl q2085) q2087 qs88 rfl md_fma_base np_fma_base (cma_base t l3 W) (by decide) (Nat.le_of_ble_eq_true rfl) h31 (by decide) (by decide +kernel)) (fun z _ r h9 => j_upE hm hx (ht z) h9) (fun q32 _ => ?_)
  refine j_goto hx (off := 12) (by decide +kernel) (tgt := 198) (by decide) ?_
  refine j_lv (lv' := [(0, vR t), (1, vI a1), (2, vI a2), (4, vI l4), (5, vL v26), (7, vI v27)]) ⟨rfl, rfl, rfl, rfl, rfl, rfl, trivial⟩ ?_
  exact wma_addNumber_198 h l4 v26 v27 q32.1 q32.2
theorem wma_addNumber_146 {x : jCx} {en : ((Nat × jW) ⊕ jW) → Option (Outcome × jW)} {t : Nat} {a1 : Int32} {a2 : Int32} (h : hma_addNumber x en t a1 a2) (l3 : Int32) (l4 : Int32) (W : jW) : jJ x 12 146 [(0, vR t), (1, vI a1), (2, vI a2), (3, vI l3), (4, vI l4)] [] W (fma_addNumber_146 t a1 a2 l3 l4 W) en := by
  have h0 := h
  obtain ⟨hx, hm, hr, he, ht⟩ := h0
  unfold fma_addNumber_146
  refine j_runA hx 1 (tb := [(146, .iload_n 1)]) (jtb_ok (by decide +kernel)) (pc' := 147) (lv' := [(0, vR t), (1, vI a1), (2, vI a2), (3, vI l3), (4, vI l4)]) (st' := [vI a1]) rfl ?_
  refine j_TI (j_callS (av := [vI a1]) (st := []) hx hr (Or.inl q2083) q1082 q247 md_fwo_twelve np_fwo_twelve (cwo_twelve a1 W) (by decide) (Nat.le_of_ble_eq_true rfl) (by decide +kernel)) ?_
  refine j_runA hx 7 (tb := [(150, .i2l), (151, .iload_n 1), (152, .bipush 22), (154, .ishr), (155, .iconst 1), (156, .iand), (157, .iconst 1)]) (jtb_ok (by decide +kernel)) (pc' := 158) (lv' := [(0, vR t), (1, vI a1), (2, vI a2), (3, vI l3), (4, vI l4)]) (st' := [vI (kI 1), vI ((ixr a1 (kI 22)) &&& (kI 1)), vL ((fwo_twelve a1).toInt64)]) rfl ?_
  refine j_icmp_ne hx (off := 8) (tgt := 166) (by decide +kernel) (by decide) (fun _ => ?_) (fun _ => ?_)
  · refine j_runA hx 1 (tb := [(166, .iconst 0)]) (jtb_ok (by decide +kernel)) (pc' := 167) (lv' := [(0, vR t), (1, vI a1), (2, vI a2), (3, vI l3), (4, vI l4)]) (st' := [vI (kI 0), vL ((fwo_twelve a1).toInt64)]) rfl ?_
    exact wma_addNumber_167 h l3 l4 (kI 0) ((fwo_twelve a1).toInt64) W
  refine j_runA hx 1 (tb := [(161, .bipush 12)]) (jtb_ok (by decide +kernel)) (pc' := 163) (lv' := [(0, vR t), (1, vI a1), (2, vI a2), (3, vI l3), (4, vI l4)]) (st' := [vI (kI 12), vL ((fwo_twelve a1).toInt64)]) rfl ?_
  refine j_goto hx (off := 4) (by decide +kernel) (tgt := 167) (by decide) ?_
  exact wma_addNumber_167 h l3 l4 (kI 12) ((fwo_twelve a1).toInt64) W
theorem wma_addNumber_20 {x : jCx} {en : ((Nat × jW) ⊕ jW) → Option (Outcome × jW)} {t : Nat} {a1 : Int32} {a2 : Int32} (h : hma_addNumber x en t a1 a2) (l3 : Int32) (s0 : Int32) (W : jW) : jJ x 12 20 [(0, vR t), (1, vI a1), (2, vI a2), (3, vI l3)] [vI s0] W (fma_addNumber_20 t a1 a2 l3 s0 W) en := by
  have h0 := h
  obtain ⟨hx, hm, hr, he, ht⟩ := h0
  unfold fma_addNumber_20
  refine j_runA hx 2 (tb := [(20, .istore 4), (22, .aload_n 0)]) (jtb_ok (by decide +kernel)) (pc' := 23) (lv' := [(4, vI s0), (0, vR t), (1, vI a1), (2, vI a2), (3, vI l3)]) (st' := [vR t]) rfl ?_
  refine j_gd (fun h3 => ?_)
  refine j_getI hx flX15_39 kd1000 h3 (by decide) (by decide +kernel) ?_
  refine j_runA hx 1 (tb := [(26, .iconst 1)]) (jtb_ok (by decide +kernel)) (pc' := 27) (lv' := [(4, vI s0), (0, vR t), (1, vI a1), (2, vI a2), (3, vI l3)]) (st' := [vI (kI 1), vI (jI W 1000 t)]) rfl ?_
  refine j_icmp_ne hx (off := 119) (tgt := 146) (by decide +kernel) (by decide) (fun _ => ?_) (fun _ => ?_)
  · refine j_lv (lv' := [(0, vR t), (1, vI a1), (2, vI a2), (3, vI l3), (4, vI s0)]) ⟨rfl, rfl, rfl, rfl, rfl, trivial⟩ ?_
    exact wma_addNumber_146 h l3 s0 W
  refine j_runA hx 1 (tb := [(30, .aload_n 0)]) (jtb_ok (by decide +kernel)) (pc' := 31) (lv' := [(4, vI s0), (0, vR t), (1, vI a1), (2, vI a2), (3, vI l3)]) (st' := [vR t]) rfl ?_
  refine j_getR hx flX15_43 kl1001 h3 (by decide) (by decide +kernel) ?_
  refine j_gd (fun h4 => ?_)
  refine j_getR hx flX15_370 kl207 h4 (by decide) (by decide +kernel) ?_
  refine j_runA hx 1 (tb := [(37, .iload_n 2)]) (jtb_ok (by decide +kernel)) (pc' := 38) (lv' := [(4, vI s0), (0, vR t), (1, vI a1), (2, vI a2), (3, vI l3)]) (st' := [vI a2, vR (jR W 207 (jR W 1001 t))]) rfl ?_
  refine j_gd (fun h5 => ?_)
  refine j_iald hx (f := 207) (o := (jR W 1001 t)) kd207 rfl (by decide +kernel) h5 ?_
  refine j_if_le hx (off := 107) (tgt := 146) (by decide +kernel) (by decide) (fun _ => ?_) (fun _ => ?_)
  · refine j_lv (lv' := [(0, vR t), (1, vI a1), (2, vI a2), (3, vI l3), (4, vI s0)]) ⟨rfl, rfl, rfl, rfl, rfl, trivial⟩ ?_
    exact wma_addNumber_146 h l3 s0 W
  refine j_runA hx 1 (tb := [(42, .aload_n 0)]) (jtb_ok (by decide +kernel)) (pc' := 43) (lv' := [(4, vI s0), (0, vR t), (1, vI a1), (2, vI a2), (3, vI l3)]) (st' := [vR t]) rfl ?_
  refine j_getR hx flX15_43 kl1001 h3 (by decide) (by decide +kernel) ?_
  refine j_runA hx 1 (tb := [(46, .aload_n 0)]) (jtb_ok (by decide +kernel)) (pc' := 47) (lv' := [(4, vI s0), (0, vR t), (1, vI a1), (2, vI a2), (3, vI l3)]) (st' := [vR t, vR (jR W 1001 t)]) rfl ?_
  refine j_getR hx flX15_43 kl1001 h3 (by decide) (by decide +kernel) ?_
  refine j_getR hx flX15_370 kl207 h4 (by decide) (by decide +kernel) ?_
  refine j_runA hx 1 (tb := [(53, .iload_n 2)]) (jtb_ok (by decide +kernel)) (pc' := 54) (lv' := [(4, vI s0), (0, vR t), (1, vI a1), (2, vI a2), (3, vI l3)]) (st' := [vI a2, vR (jR W 207 (jR W 1001 t)), vR (jR W 1001 t)]) rfl ?_
  refine j_gd (fun h6 => ?_)
  refine j_iald hx (f := 207) (o := (jR W 1001 t)) kd207 rfl (by decide +kernel) h6 ?_
  refine j_OI (j_callV (av := [vI (jA W 207 (jR W 1001 t) (ix a2))]) (st := []) hx hr (Or.inl q2010) q1121 q1122 rfl md_fpg_targetWord np_fpg_targetWord (cpg_targetWord (jR W 1001 t) (jA W 207 (jR W 1001 t) (ix a2)) W) (by decide) (Nat.le_of_ble_eq_true rfl) h4 (by decide) (by decide +kernel)) (fun q7 _ => ?_)
  refine j_if_lt hx (off := 88) (tgt := 146) (by decide +kernel) (by decide) (fun _ => ?_) (fun _ => ?_)
  · refine j_lv (lv' := [(0, vR t), (1, vI a1), (2, vI a2), (3, vI l3), (4, vI s0)]) ⟨rfl, rfl, rfl, rfl, rfl, trivial⟩ ?_
    exact wma_addNumber_146 h l3 s0 W
  refine j_runA hx 1 (tb := [(61, .aload_n 0)]) (jtb_ok (by decide +kernel)) (pc' := 62) (lv' := [(4, vI s0), (0, vR t), (1, vI a1), (2, vI a2), (3, vI l3)]) (st' := [vR t]) rfl ?_
  refine j_getR hx flX15_43 kl1001 h3 (by decide) (by decide +kernel) ?_
  refine j_runA hx 1 (tb := [(65, .aload_n 0)]) (jtb_ok (by decide +kernel)) (pc' := 66) (lv' := [(4, vI s0), (0, vR t), (1, vI a1), (2, vI a2), (3, vI l3)]) (st' := [vR t, vR (jR W 1001 t)]) rfl ?_
  refine j_getR hx flX15_43 kl1001 h3 (by decide) (by decide +kernel) ?_
  refine j_getR hx flX15_370 kl207 h4 (by decide) (by decide +kernel) ?_
  refine j_runA hx 1 (tb := [(72, .iload_n 2)]) (jtb_ok (by decide +kernel)) (pc' := 73) (lv' := [(4, vI s0), (0, vR t), (1, vI a1), (2, vI a2), (3, vI l3)]) (st' := [vI a2, vR (jR W 207 (jR W 1001 t)), vR (jR W 1001 t)]) rfl ?_
  refine j_gd (fun h8 => ?_)
  refine j_iald hx (f := 207) (o := (jR W 1001 t)) kd207 rfl (by decide +kernel) h8 ?_
  refine j_OI (j_callV (av := [vI (jA W 207 (jR W 1001 t) (ix a2))]) (st := []) hx hr (Or.inl q2010) q1121 q1122 rfl md_fpg_targetWord np_fpg_targetWord (cpg_targetWord (jR W 1001 t) (jA W 207 (jR W 1001 t) (ix a2)) W) (by decide) (Nat.le_of_ble_eq_true rfl) h4 (by decide) (by decide +kernel)) (fun q9 _ => ?_)
  refine j_runA hx 3 (tb := [(77, .istore 5), (79, .aload_n 0), (80, .aload_n 0)]) (jtb_ok (by decide +kernel)) (pc' := 81) (lv' := [(5, vI q9), (4, vI s0), (0, vR t), (1, vI a1), (2, vI a2), (3, vI l3)]) (st' := [vR t, vR t]) rfl ?_
  refine j_getR hx flX15_22 kl1008 h3 (by decide) (by decide +kernel) ?_
  refine j_runA hx 1 (tb := [(84, .iload_n 3)]) (jtb_ok (by decide +kernel)) (pc' := 85) (lv' := [(5, vI q9), (4, vI s0), (0, vR t), (1, vI a1), (2, vI a2), (3, vI l3)]) (st' := [vI l3, vR (jR W 1008 t), vR t]) rfl ?_
  refine j_gd (fun h10 => ?_)
  refine j_iald hx (f := 1008) (o := t) kd1008 rfl (by decide +kernel) h10 ?_
  refine j_runA hx 1 (tb := [(86, .iconst 3)]) (jtb_ok (by decide +kernel)) (pc' := 87) (lv' := [(5, vI q9), (4, vI s0), (0, vR t), (1, vI a1), (2, vI a2), (3, vI l3)]) (st' := [vI (kI 3), vI (jA W 1008 t (ix l3)), vR t]) rfl ?_
  refine j_icmp_ne hx (off := 26) (tgt := 113) (by decide +kernel) (by decide) (fun _ => ?_) (fun _ => ?_)
  · refine j_lv (lv' := [(0, vR t), (1, vI a1), (2, vI a2), (5, vI q9)]) ⟨rfl, rfl, rfl, rfl, trivial⟩ ?_
    exact wma_addNumber_113 h q9 t W
  refine j_runA hx 1 (tb := [(90, .aload_n 0)]) (jtb_ok (by decide +kernel)) (pc' := 91) (lv' := [(5, vI q9), (4, vI s0), (0, vR t), (1, vI a1), (2, vI a2), (3, vI l3)]) (st' := [vR t, vR t]) rfl ?_
  refine j_getR hx flX15_26 kl1009 h3 (by decide) (by decide +kernel) ?_
  refine j_runA hx 1 (tb := [(94, .iload_n 3)]) (jtb_ok (by decide +kernel)) (pc' := 95) (lv' := [(5, vI q9), (4, vI s0), (0, vR t), (1, vI a1), (2, vI a2), (3, vI l3)]) (st' := [vI l3, vR (jR W 1009 t), vR t]) rfl ?_
  refine j_gd (fun h11 => ?_)
  refine j_iald hx (f := 1009) (o := t) kd1009 rfl (by decide +kernel) h11 ?_
  refine j_runA hx 1 (tb := [(96, .aload_n 0)]) (jtb_ok (by decide +kernel)) (pc' := 97) (lv' := [(5, vI q9), (4, vI s0), (0, vR t), (1, vI a1), (2, vI a2), (3, vI l3)]) (st' := [vR t, vI (jA W 1009 t (ix l3)), vR t]) rfl ?_
  refine j_getR hx flX15_43 kl1001 h3 (by decide) (by decide +kernel) ?_
  refine j_getR hx flX15_187 kl206 h4 (by decide) (by decide +kernel) ?_
  refine j_runA hx 1 (tb := [(103, .iload 5)]) (jtb_ok (by decide +kernel)) (pc' := 105) (lv' := [(5, vI q9), (4, vI s0), (0, vR t), (1, vI a1), (2, vI a2), (3, vI l3)]) (st' := [vI q9, vR (jR W 206 (jR W 1001 t)), vI (jA W 1009 t (ix l3)), vR t]) rfl ?_
  refine j_gd (fun h12 => ?_)
  refine j_iald hx (f := 206) (o := (jR W 1001 t)) kd206 rfl (by decide +kernel) h12 ?_
  refine j_icmp_ne hx (off := 7) (tgt := 113) (by decide +kernel) (by decide) (fun _ => ?_) (fun _ => ?_)
  · refine j_lv (lv' := [(0, vR t), (1, vI a1), (2, vI a2), (5, vI q9)]) ⟨rfl, rfl, rfl, rfl, trivial⟩ ?_
    exact wma_addNumber_113 h q9 t W
  refine j_runA hx 1 (tb := [(109, .iconst 1)]) (jtb_ok (by decide +kernel)) (pc' := 110) (lv' := [(5, vI q9), (4, vI s0), (0, vR t), (1, vI a1), (2, vI a2), (3, vI l3)]) (st' := [vI (kI 1), vR t]) rfl ?_
  refine j_goto hx (off := 4) (by decide +kernel) (tgt := 114) (by decide) ?_
  refine j_lv (lv' := [(0, vR t), (1, vI a1), (2, vI a2), (5, vI q9)]) ⟨rfl, rfl, rfl, rfl, trivial⟩ ?_
  exact wma_addNumber_114 h q9 (kI 1) t W
theorem wma_addNumber {x : jCx} {en : ((Nat × jW) ⊕ jW) → Option (Outcome × jW)} {t : Nat} {a1 : Int32} {a2 : Int32} (h : hma_addNumber x en t a1 a2) (W : jW) : jJ x 12 0 [(0, vR t), (1, vI a1), (2, vI a2)] [] W (fma_addNumber t a1 a2 W) en := by
  have h0 := h
  obtain ⟨hx, hm, hr, he, ht⟩ := h0
  unfold fma_addNumber
  refine j_runA hx 1 (tb := [(0, .iload_n 1)]) (jtb_ok (by decide +kernel)) (pc' := 1) (lv' := [(0, vR t), (1, vI a1), (2, vI a2)]) (st' := [vI a1]) rfl ?_
  refine j_TI (j_callS (av := [vI a1]) (st := []) hx hr (Or.inl q2073) q998 q247 md_fwo_n np_fwo_n (cwo_n a1 W) (by decide) (Nat.le_of_ble_eq_true rfl) (by decide +kernel)) ?_
  refine j_runA hx 1 (tb := [(4, .istore_n 3)]) (jtb_ok (by decide +kernel)) (pc' := 5) (lv' := [(3, vI (fwo_n a1)), (0, vR t), (1, vI a1), (2, vI a2)]) (st' := []) rfl ?_
  refine j_let (v := (fwo_n a1)) (lv := fun v1 => [(3, vI v1), (0, vR t), (1, vI a1), (2, vI a2)]) (st := fun _ => []) (fun v1 => ?_)
  refine j_runA hx 6 (tb := [(5, .iload_n 1), (6, .bipush 29), (8, .ishr), (9, .iconst 1), (10, .iand), (11, .iconst 1)]) (jtb_ok (by decide +kernel)) (pc' := 12) (lv' := [(3, vI v1), (0, vR t), (1, vI a1), (2, vI a2)]) (st' := [vI (kI 1), vI ((ixr a1 (kI 29)) &&& (kI 1))]) rfl ?_
  refine j_icmp_ne hx (off := 7) (tgt := 19) (by decide +kernel) (by decide) (fun _ => ?_) (fun _ => ?_)
  · refine j_runA hx 1 (tb := [(19, .iconst 0)]) (jtb_ok (by decide +kernel)) (pc' := 20) (lv' := [(3, vI v1), (0, vR t), (1, vI a1), (2, vI a2)]) (st' := [vI (kI 0)]) rfl ?_
    refine j_lv (lv' := [(0, vR t), (1, vI a1), (2, vI a2), (3, vI v1)]) ⟨rfl, rfl, rfl, rfl, trivial⟩ ?_
    exact wma_addNumber_20 h v1 (kI 0) W
  refine j_runA hx 1 (tb := [(15, .iconst 1)]) (jtb_ok (by decide +kernel)) (pc' := 16) (lv' := [(3, vI v1), (0, vR t), (1, vI a1), (2, vI a2)]) (st' := [vI (kI 1)]) rfl ?_
  refine j_goto hx (off := 4) (by decide +kernel) (tgt := 20) (by decide) ?_
  refine j_lv (lv' := [(0, vR t), (1, vI a1), (2, vI a2), (3, vI v1)]) ⟨rfl, rfl, rfl, rfl, trivial⟩ ?_
  exact wma_addNumber_20 h v1 (kI 1) W
theorem cma_addNumber (t : Nat) (a1 : Int32) (a2 : Int32) (W : jW) : jM yX15_addNumber cX15_addNumber 12 (Option.none : Option Jvm.ClassFile.FieldType) [] 9 123 [vR t, vI a1, vI a2] W ((fma_addNumber t a1 a2 W).bind (fun q => some (Sum.elim (fun z => (.threw (z.1 - 1), z.2)) (fun q => (.returned none, q)) q))) := 
  jM.of (Nat.le_of_ble_eq_true rfl) (fun x hx hm hr => wma_addNumber ⟨hx, hm, hr, fun _ => rfl, fun _ => rfl⟩ W)
def hwo_m (x : jCx) (en : (Int32) → Option (Outcome × jW)) (a0 : Int32) (W : jW) : Prop :=
  jOK x RX12 cX12_m 1 ∧
  jMt x "m" (Option.some Jvm.ClassFile.FieldType.int) [] ∧
  jRm x 0 0 ∧
  (∀ q : Int32, en q = some (.returned (some (.int q)), W))
theorem wwo_m {x : jCx} {en : (Int32) → Option (Outcome × jW)} {W : jW} {a0 : Int32} (h : hwo_m x en a0 W) : jJ x 1 0 [(0, vI a0)] [] W (some (fwo_m a0)) en := by
  have h0 := h
  obtain ⟨hx, hm, hr, he⟩ := h0
  unfold fwo_m
  refine j_runA hx 5 (tb := [(0, .iload_n 0), (1, .bipush 16), (3, .ishr), (4, .bipush 31), (6, .iand)]) (jtb_ok (by decide +kernel)) (pc' := 7) (lv' := [(0, vI a0)]) (st' := [vI ((ixr a0 (kI 16)) &&& (kI 31))]) rfl ?_
  exact j_iret hx hm (by decide +kernel) rfl (he _)
theorem cwo_m (a0 : Int32) (W : jW) : jM yX12_m cX12_m 1 (Option.some Jvm.ClassFile.FieldType.int) [] 0 0 [vI a0] W (some (.returned (some (.int (fwo_m a0))), W)) := 
  jM.of (mm := some (fwo_m a0)) (en := fun q => some (.returned (some (.int q)), W)) (Nat.le_of_ble_eq_true rfl) (fun x hx hm hr => wwo_m ⟨hx, hm, hr, fun _ => rfl⟩)
def hma_get (x : jCx) (en : (Int64) → Option (Outcome × jW)) (t : Nat) (a1 : Int32) (W : jW) : Prop :=
  jOK x RX15 cX15_get 2 ∧
  jMt x "get" (Option.some Jvm.ClassFile.FieldType.long) [] ∧
  jRm x 0 0 ∧
  (∀ q : Int64, en q = some (.returned (some (.long q)), W))
theorem wma_get {x : jCx} {en : (Int64) → Option (Outcome × jW)} {W : jW} {t : Nat} {a1 : Int32} (h : hma_get x en t a1 W) : jJ x 2 0 [(0, vR t), (1, vI a1)] [] W (fma_get t a1 W) en := by
  have h0 := h
  obtain ⟨hx, hm, hr, he⟩ := h0
  unfold fma_get
  refine j_runA hx 2 (tb := [(0, .iload_n 1), (1, .bipush 31)]) (jtb_ok (by decide +kernel)) (pc' := 3) (lv' := [(0, vR t), (1, vI a1)]) (st' := [vI (kI 31), vI a1]) rfl ?_
  refine j_icmp_ne hx (off := 7) (tgt := 10) (by decide +kernel) (by decide) (fun _ => ?_) (fun _ => ?_)
  · refine j_runA hx 1 (tb := [(10, .aload_n 0)]) (jtb_ok (by decide +kernel)) (pc' := 11) (lv' := [(0, vR t), (1, vI a1)]) (st' := [vR t]) rfl ?_
    refine j_gd (fun h1 => ?_)
    refine j_getR hx flX15_18 kl1007 h1 (by decide) (by decide +kernel) ?_
    refine j_runA hx 1 (tb := [(14, .iload_n 1)]) (jtb_ok (by decide +kernel)) (pc' := 15) (lv' := [(0, vR t), (1, vI a1)]) (st' := [vI a1, vR (jR W 1007 t)]) rfl ?_
    refine j_gd (fun h2 => ?_)
    refine j_lald hx (f := 1007) (o := t) kd1007 rfl (by decide +kernel) h2 ?_
    exact j_lret hx hm (by decide +kernel) (he _)
  refine j_runA hx 1 (tb := [(6, .lconst 0)]) (jtb_ok (by decide +kernel)) (pc' := 7) (lv' := [(0, vR t), (1, vI a1)]) (st' := [vL (kJ 0)]) rfl ?_
  refine j_goto hx (off := 9) (by decide +kernel) (tgt := 16) (by decide) ?_
  exact j_lret hx hm (by decide +kernel) (he _)
theorem cma_get (t : Nat) (a1 : Int32) (W : jW) : jM yX15_get cX15_get 2 (Option.some Jvm.ClassFile.FieldType.long) [] 0 0 [vR t, vI a1] W ((fma_get t a1 W).bind (fun q => some (.returned (some (.long q)), W))) := 
  jM.of (Nat.le_of_ble_eq_true rfl) (fun x hx hm hr => wma_get ⟨hx, hm, hr, fun _ => rfl⟩)
def hma_number (x : jCx) (en : ((Nat × jW) ⊕ Int64 × jW) → Option (Outcome × jW)) (t : Nat) (a1 : Int32) : Prop :=
  jOK x RX15 cX15_number 2 ∧
  jMt x "number" (Option.some Jvm.ClassFile.FieldType.long) [] ∧
  jRm x 2 26 ∧
  (∀ q : Int64 × jW, en (.inr q) = some (.returned (some (.long q.1)), q.2)) ∧
  (∀ z : Nat × jW, en (.inl z) = some (.threw (z.1 - 1), z.2))
theorem wma_number_21 {x : jCx} {en : ((Nat × jW) ⊕ Int64 × jW) → Option (Outcome × jW)} {t : Nat} {a1 : Int32} (h : hma_number x en t a1) (s0 : Int32) (s1 : Nat) (W : jW) : jJ x 2 21 [(0, vR t), (1, vI a1)] [vI s0, vR s1] W (fma_number_21 t a1 s0 s1 W) en := by
  have h0 := h
  obtain ⟨hx, hm, hr, he, ht⟩ := h0
  unfold fma_number_21
  refine j_gd (fun h4 => ?_)
  refine j_EV (j_callV (av := [vI s0]) (st := []) hx hr (Or.inl q2074) q2076 qs86 rfl md_fma_must np_fma_must (cma_must s1 s0 W) (by decide) (Nat.le_of_ble_eq_true rfl) h4 (by decide) (by decide +kernel)) (fun z _ r h9 => j_upE hm hx (ht z) h9) (fun q5 _ => ?_)
  refine j_runA hx 2 (tb := [(24, .aload_n 0), (25, .iload_n 1)]) (jtb_ok (by decide +kernel)) (pc' := 26) (lv' := [(0, vR t), (1, vI a1)]) (st' := [vI a1, vR t]) rfl ?_
  refine j_gd (fun h7 => ?_)
  refine j_OL (j_callV (av := [vI a1]) (st := []) hx hr (Or.inl q2118) q2120 qs95 rfl md_fma_get np_fma_get (cma_get t a1 q5) (by decide) (Nat.le_of_ble_eq_true rfl) h7 (by decide) (by decide +kernel)) (fun q8 _ => ?_)
  exact j_lret hx hm (by decide +kernel) (he _)
theorem wma_number_16 {x : jCx} {en : ((Nat × jW) ⊕ Int64 × jW) → Option (Outcome × jW)} {t : Nat} {a1 : Int32} (h : hma_number x en t a1) (s0 : Nat) (W : jW) : jJ x 2 16 [(0, vR t), (1, vI a1)] [vR s0] W (fma_number_16 t a1 s0 W) en := by
  have h0 := h
  obtain ⟨hx, hm, hr, he, ht⟩ := h0
  unfold fma_number_16
  refine j_runA hx 1 (tb := [(16, .iconst 1)]) (jtb_ok (by decide +kernel)) (pc' := 17) (lv' := [(0, vR t), (1, vI a1)]) (st' := [vI (kI 1), vR s0]) rfl ?_
  refine j_goto hx (off := 4) (by decide +kernel) (tgt := 21) (by decide) ?_
  exact wma_number_21 h (kI 1) s0 W
theorem wma_number {x : jCx} {en : ((Nat × jW) ⊕ Int64 × jW) → Option (Outcome × jW)} {t : Nat} {a1 : Int32} (h : hma_number x en t a1) (W : jW) : jJ x 2 0 [(0, vR t), (1, vI a1)] [] W (fma_number t a1 W) en := by
  have h0 := h
  obtain ⟨hx, hm, hr, he, ht⟩ := h0
  unfold fma_number
  refine j_runA hx 3 (tb := [(0, .aload_n 0), (1, .iload_n 1), (2, .bipush 31)]) (jtb_ok (by decide +kernel)) (pc' := 4) (lv' := [(0, vR t), (1, vI a1)]) (st' := [vI (kI 31), vI a1, vR t]) rfl ?_
  refine j_icmp_eq hx (off := 12) (tgt := 16) (by decide +kernel) (by decide) (fun _ => ?_) (fun _ => ?_)
  · exact wma_number_16 h t W
  refine j_runA hx 1 (tb := [(7, .aload_n 0)]) (jtb_ok (by decide +kernel)) (pc' := 8) (lv' := [(0, vR t), (1, vI a1)]) (st' := [vR t, vR t]) rfl ?_
  refine j_gd (fun h1 => ?_)
  refine j_getR hx flX15_22 kl1008 h1 (by decide) (by decide +kernel) ?_
  refine j_runA hx 1 (tb := [(11, .iload_n 1)]) (jtb_ok (by decide +kernel)) (pc' := 12) (lv' := [(0, vR t), (1, vI a1)]) (st' := [vI a1, vR (jR W 1008 t), vR t]) rfl ?_
  refine j_gd (fun h2 => ?_)
  refine j_iald hx (f := 1008) (o := t) kd1008 rfl (by decide +kernel) h2 ?_
  refine j_if_ne hx (off := 7) (tgt := 20) (by decide +kernel) (by decide) (fun _ => ?_) (fun _ => ?_)
  · refine j_runA hx 1 (tb := [(20, .iconst 0)]) (jtb_ok (by decide +kernel)) (pc' := 21) (lv' := [(0, vR t), (1, vI a1)]) (st' := [vI (kI 0), vR t]) rfl ?_
    exact wma_number_21 h (kI 0) t W
  exact wma_number_16 h t W
theorem cma_number (t : Nat) (a1 : Int32) (W : jW) : jM yX15_number cX15_number 2 (Option.some Jvm.ClassFile.FieldType.long) [] 2 26 [vR t, vI a1] W ((fma_number t a1 W).bind (fun q => some (Sum.elim (fun z => (.threw (z.1 - 1), z.2)) (fun q => (.returned (some (.long q.1)), q.2)) q))) := 
  jM.of (Nat.le_of_ble_eq_true rfl) (fun x hx hm hr => wma_number ⟨hx, hm, hr, fun _ => rfl, fun _ => rfl⟩ W)
def hma_moved (x : jCx) (en : ((Nat × jW) ⊕ Int64 × jW) → Option (Outcome × jW)) (t : Nat) (a1 : Int32) : Prop :=
  jOK x RX15 cX15_moved 7 ∧
  jMt x "moved" (Option.some Jvm.ClassFile.FieldType.long) [] ∧
  jRm x 3 39 ∧
  (∀ q : Int64 × jW, en (.inr q) = some (.returned (some (.long q.1)), q.2)) ∧
  (∀ z : Nat × jW, en (.inl z) = some (.threw (z.1 - 1), z.2))
theorem wma_moved_136 {x : jCx} {en : ((Nat × jW) ⊕ Int64 × jW) → Option (Outcome × jW)} {t : Nat} {a1 : Int32} (h : hma_moved x en t a1) (s0 : Int32) (W : jW) : jJ x 7 136 [(0, vR t), (1, vI a1)] [vI s0] W (fma_moved_136 t a1 s0 W) en := by
  have h0 := h
  obtain ⟨hx, hm, hr, he, ht⟩ := h0
  unfold fma_moved_136
  refine j_runA hx 1 (tb := [(136, .i2l)]) (jtb_ok (by decide +kernel)) (pc' := 137) (lv' := [(0, vR t), (1, vI a1)]) (st' := [vL s0.toInt64]) rfl ?_
  refine j_ldc2 hx (v := (kJ 4294967295)) (jkd2 q2089 (by decide +kernel)) (by decide +kernel) ?_
  refine j_runA hx 1 (tb := [(140, .land)]) (jtb_ok (by decide +kernel)) (pc' := 141) (lv' := [(0, vR t), (1, vI a1)]) (st' := [vL (s0.toInt64 &&& (kJ 4294967295))]) rfl ?_
  exact j_lret hx hm (by decide +kernel) (he _)
theorem wma_moved {x : jCx} {en : ((Nat × jW) ⊕ Int64 × jW) → Option (Outcome × jW)} {t : Nat} {a1 : Int32} (h : hma_moved x en t a1) (W : jW) : jJ x 7 0 [(0, vR t), (1, vI a1)] [] W (fma_moved t a1 W) en := by
  have h0 := h
  obtain ⟨hx, hm, hr, he, ht⟩ := h0
  unfold fma_moved
  refine j_runA hx 2 (tb := [(0, .aload_n 0), (1, .iload_n 1)]) (jtb_ok (by decide +kernel)) (pc' := 2) (lv' := [(0, vR t), (1, vI a1)]) (st' := [vI a1, vR t]) rfl ?_
  refine j_TI (j_callS (av := [vI a1]) (st := [vR t]) hx hr (Or.inl q2111) q2112 q247 md_fwo_m np_fwo_m (cwo_m a1 W) (by decide) (Nat.le_of_ble_eq_true rfl) (by decide +kernel)) ?_
  refine j_gd (fun h1 => ?_)
  refine j_EL (j_callV (av := [vI (fwo_m a1)]) (st := []) hx hr (Or.inl q2114) q2116 qs94 rfl md_fma_number np_fma_number (cma_number t (fwo_m a1) W) (by decide) (Nat.le_of_ble_eq_true rfl) h1 (by decide) (by decide +kernel)) (fun z _ r h9 => j_upE hm hx (ht z) h9) (fun q2 _ => ?_)
  refine j_runA hx 2 (tb := [(8, .lstore_n 2), (9, .iload_n 1)]) (jtb_ok (by decide +kernel)) (pc' := 10) (lv' := [(2, vL q2.1), (0, vR t), (1, vI a1)]) (st' := [vI a1]) rfl ?_
  refine j_TI (j_callS (av := [vI a1]) (st := []) hx hr (Or.inl q2122) q964 q247 md_fwo_amount np_fwo_amount (cwo_amount a1 q2.2) (by decide) (Nat.le_of_ble_eq_true rfl) (by decide +kernel)) ?_
  refine j_runA hx 1 (tb := [(13, .istore 4)]) (jtb_ok (by decide +kernel)) (pc' := 15) (lv' := [(4, vI (fwo_amount a1)), (2, vL q2.1), (0, vR t), (1, vI a1)]) (st' := []) rfl ?_
  refine j_let (v := (fwo_amount a1)) (lv := fun v4 => [(4, vI v4), (2, vL q2.1), (0, vR t), (1, vI a1)]) (st := fun _ => []) (fun v4 => ?_)
  refine j_runA hx 6 (tb := [(15, .iload_n 1), (16, .bipush 22), (18, .ishr), (19, .iconst 3), (20, .iand), (21, .istore 5)]) (jtb_ok (by decide +kernel)) (pc' := 23) (lv' := [(5, vI ((ixr a1 (kI 22)) &&& (kI 3))), (4, vI v4), (2, vL q2.1), (0, vR t), (1, vI a1)]) (st' := []) rfl ?_
  refine j_let (v := ((ixr a1 (kI 22)) &&& (kI 3))) (lv := fun v5 => [(5, vI v5), (4, vI v4), (2, vL q2.1), (0, vR t), (1, vI a1)]) (st := fun _ => []) (fun v5 => ?_)
  refine j_runA hx 1 (tb := [(23, .iload_n 1)]) (jtb_ok (by decide +kernel)) (pc' := 24) (lv' := [(5, vI v5), (4, vI v4), (2, vL q2.1), (0, vR t), (1, vI a1)]) (st' := [vI a1]) rfl ?_
  refine j_TI (j_callS (av := [vI a1]) (st := []) hx hr (Or.inl q2084) q961 q247 md_fwo_isLong np_fwo_isLong (cwo_isLong a1 q2.2) (by decide) (Nat.le_of_ble_eq_true rfl) (by decide +kernel)) ?_
  refine j_if_eq hx (off := 52) (tgt := 79) (by decide +kernel) (by decide) (fun _ => ?_) (fun _ => ?_)
  · refine j_runA hx 4 (tb := [(79, .lload_n 2), (80, .l2i), (81, .istore 6), (83, .iload 5)]) (jtb_ok (by decide +kernel)) (pc' := 85) (lv' := [(6, vI q2.1.toInt32), (5, vI v5), (4, vI v4), (2, vL q2.1), (0, vR t), (1, vI a1)]) (st' := [vI v5]) rfl ?_
    refine j_if_ne hx (off := 11) (tgt := 96) (by decide +kernel) (by decide) (fun _ => ?_) (fun _ => ?_)
    · refine j_runA hx 2 (tb := [(96, .iload 5), (98, .iconst 1)]) (jtb_ok (by decide +kernel)) (pc' := 99) (lv' := [(6, vI q2.1.toInt32), (5, vI v5), (4, vI v4), (2, vL q2.1), (0, vR t), (1, vI a1)]) (st' := [vI (kI 1), vI v5]) rfl ?_
      refine j_icmp_ne hx (off := 11) (tgt := 110) (by decide +kernel) (by decide) (fun _ => ?_) (fun _ => ?_)
      · refine j_runA hx 2 (tb := [(110, .iload 5), (112, .iconst 2)]) (jtb_ok (by decide +kernel)) (pc' := 113) (lv' := [(6, vI q2.1.toInt32), (5, vI v5), (4, vI v4), (2, vL q2.1), (0, vR t), (1, vI a1)]) (st' := [vI (kI 2), vI v5]) rfl ?_
        refine j_icmp_ne hx (off := 11) (tgt := 124) (by decide +kernel) (by decide) (fun _ => ?_) (fun _ => ?_)
        · refine j_runA hx 8 (tb := [(124, .iload 6), (126, .iload 4), (128, .iushr), (129, .iload 6), (131, .iload 4), (133, .ineg), (134, .ishl), (135, .ior)]) (jtb_ok (by decide +kernel)) (pc' := 136) (lv' := [(6, vI q2.1.toInt32), (5, vI v5), (4, vI v4), (2, vL q2.1), (0, vR t), (1, vI a1)]) (st' := [vI ((ixu q2.1.toInt32 v4) ||| (ixl q2.1.toInt32 (-v4)))]) rfl ?_
          refine j_lv (lv' := [(0, vR t), (1, vI a1)]) ⟨rfl, rfl, trivial⟩ ?_
          exact wma_moved_136 h ((ixu q2.1.toInt32 v4) ||| (ixl q2.1.toInt32 (-v4))) q2.2
        refine j_runA hx 3 (tb := [(116, .iload 6), (118, .iload 4), (120, .ishr)]) (jtb_ok (by decide +kernel)) (pc' := 121) (lv' := [(6, vI q2.1.toInt32), (5, vI v5), (4, vI v4), (2, vL q2.1), (0, vR t), (1, vI a1)]) (st' := [vI (ixr q2.1.toInt32 v4)]) rfl ?_
        refine j_goto hx (off := 15) (by decide +kernel) (tgt := 136) (by decide) ?_
        refine j_lv (lv' := [(0, vR t), (1, vI a1)]) ⟨rfl, rfl, trivial⟩ ?_
        exact wma_moved_136 h (ixr q2.1.toInt32 v4) q2.2
      refine j_runA hx 3 (tb := [(102, .iload 6), (104, .iload 4), (106, .iushr)]) (jtb_ok (by decide +kernel)) (pc' := 107) (lv' := [(6, vI q2.1.toInt32), (5, vI v5), (4, vI v4), (2, vL q2.1), (0, vR t), (1, vI a1)]) (st' := [vI (ixu q2.1.toInt32 v4)]) rfl ?_
      refine j_goto hx (off := 29) (by decide +kernel) (tgt := 136) (by decide) ?_
      refine j_lv (lv' := [(0, vR t), (1, vI a1)]) ⟨rfl, rfl, trivial⟩ ?_
      exact wma_moved_136 h (ixu q2.1.toInt32 v4) q2.2
    refine j_runA hx 3 (tb := [(88, .iload 6), (90, .iload 4), (92, .ishl)]) (jtb_ok (by decide +kernel)) (pc' := 93) (lv' := [(6, vI q2.1.toInt32), (5, vI v5), (4, vI v4), (2, vL q2.1), (0, vR t), (1, vI a1)]) (st' := [vI (ixl q2.1.toInt32 v4)]) rfl ?_
    refine j_goto hx (off := 43) (by decide +kernel) (tgt := 136) (by decide) ?_
    refine j_lv (lv' := [(0, vR t), (1, vI a1)]) ⟨rfl, rfl, trivial⟩ ?_
    exact wma_moved_136 h (ixl q2.1.toInt32 v4) q2.2
  refine j_runA hx 1 (tb := [(30, .iload 5)]) (jtb_ok (by decide +kernel)) (pc' := 32) (lv' := [(5, vI v5), (4, vI v4), (2, vL q2.1), (0, vR t), (1, vI a1)]) (st' := [vI v5]) rfl ?_
  refine j_if_ne hx (off := 10) (tgt := 42) (by decide +kernel) (by decide) (fun _ => ?_) (fun _ => ?_)
  · refine j_runA hx 2 (tb := [(42, .iload 5), (44, .iconst 1)]) (jtb_ok (by decide +kernel)) (pc' := 45) (lv' := [(5, vI v5), (4, vI v4), (2, vL q2.1), (0, vR t), (1, vI a1)]) (st' := [vI (kI 1), vI v5]) rfl ?_
    refine j_icmp_ne hx (off := 10) (tgt := 55) (by decide +kernel) (by decide) (fun _ => ?_) (fun _ => ?_)
    · refine j_runA hx 2 (tb := [(55, .iload 5), (57, .iconst 2)]) (jtb_ok (by decide +kernel)) (pc' := 58) (lv' := [(5, vI v5), (4, vI v4), (2, vL q2.1), (0, vR t), (1, vI a1)]) (st' := [vI (kI 2), vI v5]) rfl ?_
      refine j_icmp_ne hx (off := 10) (tgt := 68) (by decide +kernel) (by decide) (fun _ => ?_) (fun _ => ?_)
      · refine j_runA hx 8 (tb := [(68, .lload_n 2), (69, .iload 4), (71, .lushr), (72, .lload_n 2), (73, .iload 4), (75, .ineg), (76, .lshl), (77, .lor)]) (jtb_ok (by decide +kernel)) (pc' := 78) (lv' := [(5, vI v5), (4, vI v4), (2, vL q2.1), (0, vR t), (1, vI a1)]) (st' := [vL ((lxu q2.1 v4) ||| (lxl q2.1 (-v4)))]) rfl ?_
        exact j_lret hx hm (by decide +kernel) (he _)
      refine j_runA hx 3 (tb := [(61, .lload_n 2), (62, .iload 4), (64, .lshr)]) (jtb_ok (by decide +kernel)) (pc' := 65) (lv' := [(5, vI v5), (4, vI v4), (2, vL q2.1), (0, vR t), (1, vI a1)]) (st' := [vL (lxr q2.1 v4)]) rfl ?_
      refine j_goto hx (off := 13) (by decide +kernel) (tgt := 78) (by decide) ?_
      exact j_lret hx hm (by decide +kernel) (he _)
    refine j_runA hx 3 (tb := [(48, .lload_n 2), (49, .iload 4), (51, .lushr)]) (jtb_ok (by decide +kernel)) (pc' := 52) (lv' := [(5, vI v5), (4, vI v4), (2, vL q2.1), (0, vR t), (1, vI a1)]) (st' := [vL (lxu q2.1 v4)]) rfl ?_
    refine j_goto hx (off := 26) (by decide +kernel) (tgt := 78) (by decide) ?_
    exact j_lret hx hm (by decide +kernel) (he _)
  refine j_runA hx 3 (tb := [(35, .lload_n 2), (36, .iload 4), (38, .lshl)]) (jtb_ok (by decide +kernel)) (pc' := 39) (lv' := [(5, vI v5), (4, vI v4), (2, vL q2.1), (0, vR t), (1, vI a1)]) (st' := [vL (lxl q2.1 v4)]) rfl ?_
  refine j_goto hx (off := 39) (by decide +kernel) (tgt := 78) (by decide) ?_
  exact j_lret hx hm (by decide +kernel) (he _)
theorem cma_moved (t : Nat) (a1 : Int32) (W : jW) : jM yX15_moved cX15_moved 7 (Option.some Jvm.ClassFile.FieldType.long) [] 3 39 [vR t, vI a1] W ((fma_moved t a1 W).bind (fun q => some (Sum.elim (fun z => (.threw (z.1 - 1), z.2)) (fun q => (.returned (some (.long q.1)), q.2)) q))) := 
  jM.of (Nat.le_of_ble_eq_true rfl) (fun x hx hm hr => wma_moved ⟨hx, hm, hr, fun _ => rfl, fun _ => rfl⟩ W)
def hma_add (x : jCx) (en : ((Nat × jW) ⊕ jW) → Option (Outcome × jW)) (t : Nat) (a1 : Int32) : Prop :=
  jOK x RX15 cX15_add 7 ∧
  jMt x "add" (Option.none : Option Jvm.ClassFile.FieldType) [] ∧
  jRm x 4 57 ∧
  (∀ q : jW, en (.inr q) = some (.returned none, q)) ∧
  (∀ z : Nat × jW, en (.inl z) = some (.threw (z.1 - 1), z.2))
theorem wma_add_74 {x : jCx} {en : ((Nat × jW) ⊕ jW) → Option (Outcome × jW)} {t : Nat} {a1 : Int32} (h : hma_add x en t a1) (l2 : Int32) (s0 : Int32) (s1 : Int32) (s2 : Int32) (s3 : Int64) (s4 : Int64) (s5 : Nat) (s6 : Int32) (s7 : Nat) (W : jW) : jJ x 7 74 [(0, vR t), (1, vI a1), (2, vI l2)] [vI s0, vI s1, vI s2, vL s3, vL s4, vR s5, vI s6, vR s7] W (fma_add_74 t a1 l2 s0 s1 s2 s3 s4 s5 s6 s7 W) en := by
  have h0 := h
  obtain ⟨hx, hm, hr, he, ht⟩ := h0
  unfold fma_add_74
  refine j_gd (fun h11 => ?_)
  refine j_WL (j_callV (av := [vL s4, vL s3, vI s2, vI s1, vI s0]) (st := [vI s6, vR s7]) hx hr (Or.inl q2090) q2092 qs89 rfl md_fma_sum np_fma_sum (cma_sum s5 s4 s3 s2 s1 s0 W) (by decide) (Nat.le_of_ble_eq_true rfl) h11 (by decide) (by decide +kernel)) (fun q12 _ => ?_)
  refine j_runA hx 1 (tb := [(77, .iload_n 2)]) (jtb_ok (by decide +kernel)) (pc' := 78) (lv' := [(0, vR t), (1, vI a1), (2, vI l2)]) (st' := [vI l2, vL q12.1, vI s6, vR s7]) rfl ?_
  refine j_gd (fun h14 => ?_)
  refine j_WV (j_callV (av := [vI s6, vL q12.1, vI l2]) (st := []) hx hr (Or.inl q2095) q2097 qs90 rfl md_fma_put np_fma_put (cma_put s7 s6 q12.1 l2 q12.2) (by decide) (Nat.le_of_ble_eq_true rfl) h14 (by decide) (by decide +kernel)) (fun q15 _ => ?_)
  exact j_vret hx hm (by decide +kernel) (he _)
theorem wma_add_58 {x : jCx} {en : ((Nat × jW) ⊕ jW) → Option (Outcome × jW)} {t : Nat} {a1 : Int32} (h : hma_add x en t a1) (l2 : Int32) (s0 : Int32) (s1 : Int64) (s2 : Int64) (s3 : Nat) (s4 : Int32) (s5 : Nat) (W : jW) : jJ x 7 58 [(0, vR t), (1, vI a1), (2, vI l2)] [vI s0, vL s1, vL s2, vR s3, vI s4, vR s5] W (fma_add_58 t a1 l2 s0 s1 s2 s3 s4 s5 W) en := by
  have h0 := h
  obtain ⟨hx, hm, hr, he, ht⟩ := h0
  unfold fma_add_58
  refine j_runA hx 7 (tb := [(58, .iload_n 2), (59, .iload_n 1), (60, .bipush 29), (62, .ishr), (63, .iconst 1), (64, .iand), (65, .iconst 1)]) (jtb_ok (by decide +kernel)) (pc' := 66) (lv' := [(0, vR t), (1, vI a1), (2, vI l2)]) (st' := [vI (kI 1), vI ((ixr a1 (kI 29)) &&& (kI 1)), vI l2, vI s0, vL s1, vL s2, vR s3, vI s4, vR s5]) rfl ?_
  refine j_icmp_ne hx (off := 7) (tgt := 73) (by decide +kernel) (by decide) (fun _ => ?_) (fun _ => ?_)
  · refine j_runA hx 1 (tb := [(73, .iconst 0)]) (jtb_ok (by decide +kernel)) (pc' := 74) (lv' := [(0, vR t), (1, vI a1), (2, vI l2)]) (st' := [vI (kI 0), vI l2, vI s0, vL s1, vL s2, vR s3, vI s4, vR s5]) rfl ?_
    exact wma_add_74 h l2 (kI 0) l2 s0 s1 s2 s3 s4 s5 W
  refine j_runA hx 1 (tb := [(69, .iconst 1)]) (jtb_ok (by decide +kernel)) (pc' := 70) (lv' := [(0, vR t), (1, vI a1), (2, vI l2)]) (st' := [vI (kI 1), vI l2, vI s0, vL s1, vL s2, vR s3, vI s4, vR s5]) rfl ?_
  refine j_goto hx (off := 4) (by decide +kernel) (tgt := 74) (by decide) ?_
  exact wma_add_74 h l2 (kI 1) l2 s0 s1 s2 s3 s4 s5 W
theorem wma_add_42 {x : jCx} {en : ((Nat × jW) ⊕ jW) → Option (Outcome × jW)} {t : Nat} {a1 : Int32} (h : hma_add x en t a1) (l2 : Int32) (l3 : Int64) (s0 : Int64) (s1 : Nat) (s2 : Int32) (s3 : Nat) (W : jW) : jJ x 7 42 [(0, vR t), (1, vI a1), (2, vI l2), (3, vL l3)] [vL s0, vR s1, vI s2, vR s3] W (fma_add_42 t a1 l2 l3 s0 s1 s2 s3 W) en := by
  have h0 := h
  obtain ⟨hx, hm, hr, he, ht⟩ := h0
  unfold fma_add_42
  refine j_runA hx 7 (tb := [(42, .lload_n 3), (43, .iload_n 1), (44, .bipush 30), (46, .ishr), (47, .iconst 1), (48, .iand), (49, .iconst 1)]) (jtb_ok (by decide +kernel)) (pc' := 50) (lv' := [(0, vR t), (1, vI a1), (2, vI l2), (3, vL l3)]) (st' := [vI (kI 1), vI ((ixr a1 (kI 30)) &&& (kI 1)), vL l3, vL s0, vR s1, vI s2, vR s3]) rfl ?_
  refine j_icmp_ne hx (off := 7) (tgt := 57) (by decide +kernel) (by decide) (fun _ => ?_) (fun _ => ?_)
  · refine j_runA hx 1 (tb := [(57, .iconst 0)]) (jtb_ok (by decide +kernel)) (pc' := 58) (lv' := [(0, vR t), (1, vI a1), (2, vI l2), (3, vL l3)]) (st' := [vI (kI 0), vL l3, vL s0, vR s1, vI s2, vR s3]) rfl ?_
    refine j_lv (lv' := [(0, vR t), (1, vI a1), (2, vI l2)]) ⟨rfl, rfl, rfl, trivial⟩ ?_
    exact wma_add_58 h l2 (kI 0) l3 s0 s1 s2 s3 W
  refine j_runA hx 1 (tb := [(53, .iconst 1)]) (jtb_ok (by decide +kernel)) (pc' := 54) (lv' := [(0, vR t), (1, vI a1), (2, vI l2), (3, vL l3)]) (st' := [vI (kI 1), vL l3, vL s0, vR s1, vI s2, vR s3]) rfl ?_
  refine j_goto hx (off := 4) (by decide +kernel) (tgt := 58) (by decide) ?_
  refine j_lv (lv' := [(0, vR t), (1, vI a1), (2, vI l2)]) ⟨rfl, rfl, rfl, trivial⟩ ?_
  exact wma_add_58 h l2 (kI 1) l3 s0 s1 s2 s3 W
theorem wma_add {x : jCx} {en : ((Nat × jW) ⊕ jW) → Option (Outcome × jW)} {t : Nat} {a1 : Int32} (h : hma_add x en t a1) (W : jW) : jJ x 7 0 [(0, vR t), (1, vI a1)] [] W (fma_add t a1 W) en := by
  have h0 := h
  obtain ⟨hx, hm, hr, he, ht⟩ := h0
  unfold fma_add
  refine j_runA hx 1 (tb := [(0, .iload_n 1)]) (jtb_ok (by decide +kernel)) (pc' := 1) (lv' := [(0, vR t), (1, vI a1)]) (st' := [vI a1]) rfl ?_
  refine j_TI (j_callS (av := [vI a1]) (st := []) hx hr (Or.inl q2084) q961 q247 md_fwo_isLong np_fwo_isLong (cwo_isLong a1 W) (by decide) (Nat.le_of_ble_eq_true rfl) (by decide +kernel)) ?_
  refine j_runA hx 1 (tb := [(4, .istore_n 2)]) (jtb_ok (by decide +kernel)) (pc' := 5) (lv' := [(2, vI (fwo_isLong a1)), (0, vR t), (1, vI a1)]) (st' := []) rfl ?_
  refine j_let (v := (fwo_isLong a1)) (lv := fun v1 => [(2, vI v1), (0, vR t), (1, vI a1)]) (st := fun _ => []) (fun v1 => ?_)
  refine j_runA hx 2 (tb := [(5, .aload_n 0), (6, .iload_n 1)]) (jtb_ok (by decide +kernel)) (pc' := 7) (lv' := [(2, vI v1), (0, vR t), (1, vI a1)]) (st' := [vI a1, vR t]) rfl ?_
  refine j_gd (fun h2 => ?_)
  refine j_EL (j_callV (av := [vI a1]) (st := []) hx hr (Or.inl q2107) q2109 qs93 rfl md_fma_moved np_fma_moved (cma_moved t a1 W) (by decide) (Nat.le_of_ble_eq_true rfl) h2 (by decide) (by decide +kernel)) (fun z _ r h9 => j_upE hm hx (ht z) h9) (fun q3 _ => ?_)
  refine j_runA hx 3 (tb := [(10, .lstore_n 3), (11, .aload_n 0), (12, .iload_n 1)]) (jtb_ok (by decide +kernel)) (pc' := 13) (lv' := [(3, vL q3.1), (2, vI v1), (0, vR t), (1, vI a1)]) (st' := [vI a1, vR t]) rfl ?_
  refine j_TI (j_callS (av := [vI a1]) (st := [vR t]) hx hr (Or.inl q2073) q998 q247 md_fwo_n np_fwo_n (cwo_n a1 q3.2) (by decide) (Nat.le_of_ble_eq_true rfl) (by decide +kernel)) ?_
  refine j_gd (fun h5 => ?_)
  refine j_EL (j_callV (av := [vI (fwo_n a1)]) (st := []) hx hr (Or.inl q2114) q2116 qs94 rfl md_fma_number np_fma_number (cma_number t (fwo_n a1) q3.2) (by decide) (Nat.le_of_ble_eq_true rfl) h5 (by decide) (by decide +kernel)) (fun z _ r h9 => j_upE hm hx (ht z) h9) (fun q6 _ => ?_)
  refine j_runA hx 3 (tb := [(19, .lstore 5), (21, .aload_n 0), (22, .iload_n 1)]) (jtb_ok (by decide +kernel)) (pc' := 23) (lv' := [(5, vL q6.1), (3, vL q3.1), (2, vI v1), (0, vR t), (1, vI a1)]) (st' := [vI a1, vR t]) rfl ?_
  refine j_TI (j_callS (av := [vI a1]) (st := [vR t]) hx hr (Or.inl q2078) q992 q247 md_fwo_d np_fwo_d (cwo_d a1 q6.2) (by decide) (Nat.le_of_ble_eq_true rfl) (by decide +kernel)) ?_
  refine j_runA hx 2 (tb := [(26, .aload_n 0), (27, .iload_n 2)]) (jtb_ok (by decide +kernel)) (pc' := 28) (lv' := [(5, vL q6.1), (3, vL q3.1), (2, vI v1), (0, vR t), (1, vI a1)]) (st' := [vI v1, vR t, vI (fwo_d a1), vR t]) rfl ?_
  refine j_if_eq hx (off := 8) (tgt := 36) (by decide +kernel) (by decide) (fun _ => ?_) (fun _ => ?_)
  · refine j_runA hx 1 (tb := [(36, .lload 5)]) (jtb_ok (by decide +kernel)) (pc' := 38) (lv' := [(5, vL q6.1), (3, vL q3.1), (2, vI v1), (0, vR t), (1, vI a1)]) (st' := [vL q6.1, vR t, vI (fwo_d a1), vR t]) rfl ?_
    refine j_ldc2 hx (v := (kJ 4294967295)) (jkd2 q2089 (by decide +kernel)) (by decide +kernel) ?_
    refine j_runA hx 1 (tb := [(41, .land)]) (jtb_ok (by decide +kernel)) (pc' := 42) (lv' := [(5, vL q6.1), (3, vL q3.1), (2, vI v1), (0, vR t), (1, vI a1)]) (st' := [vL (q6.1 &&& (kJ 4294967295)), vR t, vI (fwo_d a1), vR t]) rfl ?_
    refine j_lv (lv' := [(0, vR t), (1, vI a1), (2, vI v1), (3, vL q3.1)]) ⟨rfl, rfl, rfl, rfl, trivial⟩ ?_
    exact wma_add_42 h v1 q3.1 (q6.1 &&& (kJ 4294967295)) t (fwo_d a1) t q6.2
  refine j_runA hx 1 (tb := [(31, .lload 5)]) (jtb_ok (by decide +kernel)) (pc' := 33) (lv' := [(5, vL q6.1), (3, vL q3.1), (2, vI v1), (0, vR t), (1, vI a1)]) (st' := [vL q6.1, vR t, vI (fwo_d a1), vR t]) rfl ?_
  refine j_goto hx (off := 9) (by decide +kernel) (tgt := 42) (by decide) ?_
  refine j_lv (lv' := [(0, vR t), (1, vI a1), (2, vI v1), (3, vL q3.1)]) ⟨rfl, rfl, rfl, rfl, trivial⟩ ?_
  exact wma_add_42 h v1 q3.1 q6.1 t (fwo_d a1) t q6.2
theorem cma_add (t : Nat) (a1 : Int32) (W : jW) : jM yX15_add cX15_add 7 (Option.none : Option Jvm.ClassFile.FieldType) [] 4 57 [vR t, vI a1] W ((fma_add t a1 W).bind (fun q => some (Sum.elim (fun z => (.threw (z.1 - 1), z.2)) (fun q => (.returned none, q)) q))) := 
  jM.of (Nat.le_of_ble_eq_true rfl) (fun x hx hm hr => wma_add ⟨hx, hm, hr, fun _ => rfl, fun _ => rfl⟩ W)
def hma_isMovable (x : jCx) (en : (Int32) → Option (Outcome × jW)) (t : Nat) (a1 : Int32) (W : jW) : Prop :=
  jOK x RX15 cX15_isMovable 2 ∧
  jMt x "isMovable" (Option.some Jvm.ClassFile.FieldType.boolean) [] ∧
  jRm x 0 0 ∧
  (∀ q : Int32, en q = some (.returned (some (.int q)), W))
theorem wma_isMovable_26 {x : jCx} {en : (Int32) → Option (Outcome × jW)} {W : jW} {t : Nat} {a1 : Int32} (h : hma_isMovable x en t a1 W) : jJ x 2 26 [(0, vR t), (1, vI a1)] [] W (fma_isMovable_26 t a1 W) en := by
  have h0 := h
  obtain ⟨hx, hm, hr, he⟩ := h0
  unfold fma_isMovable_26
  refine j_runA hx 1 (tb := [(26, .iconst 1)]) (jtb_ok (by decide +kernel)) (pc' := 27) (lv' := [(0, vR t), (1, vI a1)]) (st' := [vI (kI 1)]) rfl ?_
  refine j_goto hx (off := 4) (by decide +kernel) (tgt := 31) (by decide) ?_
  exact j_iret hx hm (by decide +kernel) jz1n (he _)
theorem wma_isMovable_30 {x : jCx} {en : (Int32) → Option (Outcome × jW)} {W : jW} {t : Nat} {a1 : Int32} (h : hma_isMovable x en t a1 W) : jJ x 2 30 [(0, vR t), (1, vI a1)] [] W (fma_isMovable_30 t a1 W) en := by
  have h0 := h
  obtain ⟨hx, hm, hr, he⟩ := h0
  unfold fma_isMovable_30
  refine j_runA hx 1 (tb := [(30, .iconst 0)]) (jtb_ok (by decide +kernel)) (pc' := 31) (lv' := [(0, vR t), (1, vI a1)]) (st' := [vI (kI 0)]) rfl ?_
  exact j_iret hx hm (by decide +kernel) jz0n (he _)
theorem wma_isMovable {x : jCx} {en : (Int32) → Option (Outcome × jW)} {W : jW} {t : Nat} {a1 : Int32} (h : hma_isMovable x en t a1 W) : jJ x 2 0 [(0, vR t), (1, vI a1)] [] W (fma_isMovable t a1 W) en := by
  have h0 := h
  obtain ⟨hx, hm, hr, he⟩ := h0
  unfold fma_isMovable
  refine j_runA hx 2 (tb := [(0, .iload_n 1), (1, .bipush 31)]) (jtb_ok (by decide +kernel)) (pc' := 3) (lv' := [(0, vR t), (1, vI a1)]) (st' := [vI (kI 31), vI a1]) rfl ?_
  refine j_icmp_eq hx (off := 27) (tgt := 30) (by decide +kernel) (by decide) (fun _ => ?_) (fun _ => ?_)
  · exact wma_isMovable_30 h
  refine j_runA hx 1 (tb := [(6, .aload_n 0)]) (jtb_ok (by decide +kernel)) (pc' := 7) (lv' := [(0, vR t), (1, vI a1)]) (st' := [vR t]) rfl ?_
  refine j_gd (fun h1 => ?_)
  refine j_getR hx flX15_22 kl1008 h1 (by decide) (by decide +kernel) ?_
  refine j_runA hx 1 (tb := [(10, .iload_n 1)]) (jtb_ok (by decide +kernel)) (pc' := 11) (lv' := [(0, vR t), (1, vI a1)]) (st' := [vI a1, vR (jR W 1008 t)]) rfl ?_
  refine j_gd (fun h2 => ?_)
  refine j_iald hx (f := 1008) (o := t) kd1008 rfl (by decide +kernel) h2 ?_
  refine j_runA hx 1 (tb := [(12, .iconst 1)]) (jtb_ok (by decide +kernel)) (pc' := 13) (lv' := [(0, vR t), (1, vI a1)]) (st' := [vI (kI 1), vI (jA W 1008 t (ix a1))]) rfl ?_
  refine j_icmp_eq hx (off := 13) (tgt := 26) (by decide +kernel) (by decide) (fun _ => ?_) (fun _ => ?_)
  · exact wma_isMovable_26 h
  refine j_runA hx 1 (tb := [(16, .aload_n 0)]) (jtb_ok (by decide +kernel)) (pc' := 17) (lv' := [(0, vR t), (1, vI a1)]) (st' := [vR t]) rfl ?_
  refine j_getR hx flX15_22 kl1008 h1 (by decide) (by decide +kernel) ?_
  refine j_runA hx 1 (tb := [(20, .iload_n 1)]) (jtb_ok (by decide +kernel)) (pc' := 21) (lv' := [(0, vR t), (1, vI a1)]) (st' := [vI a1, vR (jR W 1008 t)]) rfl ?_
  refine j_gd (fun h3 => ?_)
  refine j_iald hx (f := 1008) (o := t) kd1008 rfl (by decide +kernel) h3 ?_
  refine j_runA hx 1 (tb := [(22, .iconst 2)]) (jtb_ok (by decide +kernel)) (pc' := 23) (lv' := [(0, vR t), (1, vI a1)]) (st' := [vI (kI 2), vI (jA W 1008 t (ix a1))]) rfl ?_
  refine j_icmp_ne hx (off := 7) (tgt := 30) (by decide +kernel) (by decide) (fun _ => ?_) (fun _ => ?_)
  · exact wma_isMovable_30 h
  exact wma_isMovable_26 h
theorem cma_isMovable (t : Nat) (a1 : Int32) (W : jW) : jM yX15_isMovable cX15_isMovable 2 (Option.some Jvm.ClassFile.FieldType.boolean) [] 0 0 [vR t, vI a1] W ((fma_isMovable t a1 W).bind (fun q => some (.returned (some (.int q)), W))) := 
  jM.of (Nat.le_of_ble_eq_true rfl) (fun x hx hm hr => wma_isMovable ⟨hx, hm, hr, fun _ => rfl⟩)
def hma_and (x : jCx) (en : ((Nat × jW) ⊕ jW) → Option (Outcome × jW)) (t : Nat) (a1 : Int32) : Prop :=
  jOK x RX15 cX15_and 12 ∧
  jMt x "and" (Option.none : Option Jvm.ClassFile.FieldType) [] ∧
  jRm x 4 57 ∧
  (∀ q : jW, en (.inr q) = some (.returned none, q)) ∧
  (∀ z : Nat × jW, en (.inl z) = some (.threw (z.1 - 1), z.2))
theorem wma_and_258 {x : jCx} {en : ((Nat × jW) ⊕ jW) → Option (Outcome × jW)} {t : Nat} {a1 : Int32} (h : hma_and x en t a1) (l4 : Int32) (l10 : Int64) (W : jW) : jJ x 12 258 [(0, vR t), (1, vI a1), (4, vI l4), (10, vL l10)] [] W (fma_and_258 t a1 l4 l10 W) en := by
  have h0 := h
  obtain ⟨hx, hm, hr, he, ht⟩ := h0
  unfold fma_and_258
  refine j_runA hx 2 (tb := [(258, .aload_n 0), (259, .iload_n 1)]) (jtb_ok (by decide +kernel)) (pc' := 260) (lv' := [(0, vR t), (1, vI a1), (4, vI l4), (10, vL l10)]) (st' := [vI a1, vR t]) rfl ?_
  refine j_TI (j_callS (av := [vI a1]) (st := [vR t]) hx hr (Or.inl q2078) q992 q247 md_fwo_d np_fwo_d (cwo_d a1 W) (by decide) (Nat.le_of_ble_eq_true rfl) (by decide +kernel)) ?_
  refine j_runA hx 2 (tb := [(263, .lload 10), (265, .iload 4)]) (jtb_ok (by decide +kernel)) (pc' := 267) (lv' := [(0, vR t), (1, vI a1), (4, vI l4), (10, vL l10)]) (st' := [vI l4, vL l10, vI (fwo_d a1), vR t]) rfl ?_
  refine j_gd (fun h52 => ?_)
  refine j_WV (j_callV (av := [vI (fwo_d a1), vL l10, vI l4]) (st := []) hx hr (Or.inl q2095) q2097 qs90 rfl md_fma_put np_fma_put (cma_put t (fwo_d a1) l10 l4 W) (by decide) (Nat.le_of_ble_eq_true rfl) h52 (by decide) (by decide +kernel)) (fun q53 _ => ?_)
  exact j_vret hx hm (by decide +kernel) (he _)
theorem wma_and_245 {x : jCx} {en : ((Nat × jW) ⊕ jW) → Option (Outcome × jW)} {t : Nat} {a1 : Int32} (h : hma_and x en t a1) (l4 : Int32) (l10 : Int64) (s0 : Int32) (s1 : Nat) (W : jW) : jJ x 12 245 [(0, vR t), (1, vI a1), (4, vI l4), (10, vL l10)] [vI s0, vR s1] W (fma_and_245 t a1 l4 l10 s0 s1 W) en := by
  have h0 := h
  obtain ⟨hx, hm, hr, he, ht⟩ := h0
  unfold fma_and_245
  refine j_gd (fun h34 => ?_)
  refine j_gd (fun h35 => ?_)
  refine j_putI hx fwX15_90 wf1011 kd1011 h34 (by decide) (by decide +kernel) (nz1011 h35) (fz1011 h35) ?_
  refine j_ltw rfl (fun W36 hc37 => ?_)
  have h38 : jC W36 s1 = 10 := (congrFun hc37 _).trans h34
  refine j_runA hx 2 (tb := [(248, .aload_n 0), (249, .iconst 0)]) (jtb_ok (by decide +kernel)) (pc' := 250) (lv' := [(0, vR t), (1, vI a1), (4, vI l4), (10, vL l10)]) (st' := [vI (kI 0), vR t]) rfl ?_
  refine j_gd (fun h40 => ?_)
  refine j_putI hx fwX15_93 wf1012 kd1012 h40 (by decide) (by decide +kernel) (nz1012 jz0) (fz1012 jz0) ?_
  refine j_ltw rfl (fun W41 hc42 => ?_)
  have h43 : jC W41 s1 = 10 := (congrFun hc42 _).trans h38
  have h44 : jC W41 t = 10 := (congrFun hc42 _).trans h40
  refine j_runA hx 2 (tb := [(253, .aload_n 0), (254, .iconst 0)]) (jtb_ok (by decide +kernel)) (pc' := 255) (lv' := [(0, vR t), (1, vI a1), (4, vI l4), (10, vL l10)]) (st' := [vI (kI 0), vR t]) rfl ?_
  refine j_putI hx fwX15_96 wf1013 kd1013 h44 (by decide) (by decide +kernel) (nz1013 jz0) (fz1013 jz0) ?_
  refine j_ltw rfl (fun W46 hc47 => ?_)
  have h48 : jC W46 s1 = 10 := (congrFun hc47 _).trans h43
  have h49 : jC W46 t = 10 := (congrFun hc47 _).trans h44
  exact wma_and_258 h l4 l10 W46
theorem wma_and_229 {x : jCx} {en : ((Nat × jW) ⊕ jW) → Option (Outcome × jW)} {t : Nat} {a1 : Int32} (h : hma_and x en t a1) (l4 : Int32) (l10 : Int64) (s0 : Int32) (s1 : Nat) (W : jW) : jJ x 12 229 [(0, vR t), (1, vI a1), (4, vI l4), (10, vL l10)] [vI s0, vR s1] W (fma_and_229 t a1 l4 l10 s0 s1 W) en := by
  have h0 := h
  obtain ⟨hx, hm, hr, he, ht⟩ := h0
  unfold fma_and_229
  refine j_gd (fun h27 => ?_)
  refine j_gd (fun h28 => ?_)
  refine j_putI hx fwX15_87 wf1010 kd1010 h27 (by decide) (by decide +kernel) (nz1010 h28) (fz1010 h28) ?_
  refine j_ltw rfl (fun W29 hc30 => ?_)
  have h31 : jC W29 s1 = 10 := (congrFun hc30 _).trans h27
  refine j_runA hx 3 (tb := [(232, .aload_n 0), (233, .lload 10), (235, .lconst 0)]) (jtb_ok (by decide +kernel)) (pc' := 236) (lv' := [(0, vR t), (1, vI a1), (4, vI l4), (10, vL l10)]) (st' := [vL (kJ 0), vL l10, vR t]) rfl ?_
  refine j_lcmp_ne hx (off := 7) (tgt := 244) (by decide +kernel) (by decide +kernel) (by decide) (fun _ => ?_) (fun _ => ?_)
  · refine j_runA hx 1 (tb := [(244, .iconst 0)]) (jtb_ok (by decide +kernel)) (pc' := 245) (lv' := [(0, vR t), (1, vI a1), (4, vI l4), (10, vL l10)]) (st' := [vI (kI 0), vR t]) rfl ?_
    exact wma_and_245 h l4 l10 (kI 0) t W29
  refine j_runA hx 1 (tb := [(240, .iconst 1)]) (jtb_ok (by decide +kernel)) (pc' := 241) (lv' := [(0, vR t), (1, vI a1), (4, vI l4), (10, vL l10)]) (st' := [vI (kI 1), vR t]) rfl ?_
  refine j_goto hx (off := 4) (by decide +kernel) (tgt := 245) (by decide) ?_
  exact wma_and_245 h l4 l10 (kI 1) t W29
theorem wma_and_192 {x : jCx} {en : ((Nat × jW) ⊕ jW) → Option (Outcome × jW)} {t : Nat} {a1 : Int32} (h : hma_and x en t a1) (l2 : Int32) (l4 : Int32) (l10 : Int64) (W : jW) : jJ x 12 192 [(0, vR t), (1, vI a1), (2, vI l2), (4, vI l4), (10, vL l10)] [] W (fma_and_192 t a1 l2 l4 l10 W) en := by
  have h0 := h
  obtain ⟨hx, hm, hr, he, ht⟩ := h0
  unfold fma_and_192
  refine j_runA hx 2 (tb := [(192, .iload_n 2), (193, .iconst 3)]) (jtb_ok (by decide +kernel)) (pc' := 194) (lv' := [(0, vR t), (1, vI a1), (2, vI l2), (4, vI l4), (10, vL l10)]) (st' := [vI (kI 3), vI l2]) rfl ?_
  refine j_icmp_ne hx (off := 64) (tgt := 258) (by decide +kernel) (by decide) (fun _ => ?_) (fun _ => ?_)
  · refine j_lv (lv' := [(0, vR t), (1, vI a1), (4, vI l4), (10, vL l10)]) ⟨rfl, rfl, rfl, rfl, trivial⟩ ?_
    exact wma_and_258 h l4 l10 W
  refine j_runA hx 2 (tb := [(197, .aload_n 0), (198, .iload 4)]) (jtb_ok (by decide +kernel)) (pc' := 200) (lv' := [(0, vR t), (1, vI a1), (2, vI l2), (4, vI l4), (10, vL l10)]) (st' := [vI l4, vR t]) rfl ?_
  refine j_if_eq hx (off := 18) (tgt := 218) (by decide +kernel) (by decide) (fun _ => ?_) (fun _ => ?_)
  · refine j_runA hx 2 (tb := [(218, .lload 10), (220, .l2i)]) (jtb_ok (by decide +kernel)) (pc' := 221) (lv' := [(0, vR t), (1, vI a1), (2, vI l2), (4, vI l4), (10, vL l10)]) (st' := [vI l10.toInt32, vR t]) rfl ?_
    refine j_if_ge hx (off := 7) (tgt := 228) (by decide +kernel) (by decide) (fun _ => ?_) (fun _ => ?_)
    · refine j_runA hx 1 (tb := [(228, .iconst 0)]) (jtb_ok (by decide +kernel)) (pc' := 229) (lv' := [(0, vR t), (1, vI a1), (2, vI l2), (4, vI l4), (10, vL l10)]) (st' := [vI (kI 0), vR t]) rfl ?_
      refine j_lv (lv' := [(0, vR t), (1, vI a1), (4, vI l4), (10, vL l10)]) ⟨rfl, rfl, rfl, rfl, trivial⟩ ?_
      exact wma_and_229 h l4 l10 (kI 0) t W
    refine j_runA hx 1 (tb := [(224, .iconst 1)]) (jtb_ok (by decide +kernel)) (pc' := 225) (lv' := [(0, vR t), (1, vI a1), (2, vI l2), (4, vI l4), (10, vL l10)]) (st' := [vI (kI 1), vR t]) rfl ?_
    refine j_goto hx (off := 4) (by decide +kernel) (tgt := 229) (by decide) ?_
    refine j_lv (lv' := [(0, vR t), (1, vI a1), (4, vI l4), (10, vL l10)]) ⟨rfl, rfl, rfl, rfl, trivial⟩ ?_
    exact wma_and_229 h l4 l10 (kI 1) t W
  refine j_runA hx 2 (tb := [(203, .lload 10), (205, .lconst 0)]) (jtb_ok (by decide +kernel)) (pc' := 206) (lv' := [(0, vR t), (1, vI a1), (2, vI l2), (4, vI l4), (10, vL l10)]) (st' := [vL (kJ 0), vL l10, vR t]) rfl ?_
  refine j_lcmp_ge hx (off := 7) (tgt := 214) (by decide +kernel) (by decide +kernel) (by decide) (fun _ => ?_) (fun _ => ?_)
  · refine j_runA hx 1 (tb := [(214, .iconst 0)]) (jtb_ok (by decide +kernel)) (pc' := 215) (lv' := [(0, vR t), (1, vI a1), (2, vI l2), (4, vI l4), (10, vL l10)]) (st' := [vI (kI 0), vR t]) rfl ?_
    refine j_goto hx (off := 14) (by decide +kernel) (tgt := 229) (by decide) ?_
    refine j_lv (lv' := [(0, vR t), (1, vI a1), (4, vI l4), (10, vL l10)]) ⟨rfl, rfl, rfl, rfl, trivial⟩ ?_
    exact wma_and_229 h l4 l10 (kI 0) t W
  refine j_runA hx 1 (tb := [(210, .iconst 1)]) (jtb_ok (by decide +kernel)) (pc' := 211) (lv' := [(0, vR t), (1, vI a1), (2, vI l2), (4, vI l4), (10, vL l10)]) (st' := [vI (kI 1), vR t]) rfl ?_
  refine j_goto hx (off := 18) (by decide +kernel) (tgt := 229) (by decide) ?_
  refine j_lv (lv' := [(0, vR t), (1, vI a1), (4, vI l4), (10, vL l10)]) ⟨rfl, rfl, rfl, rfl, trivial⟩ ?_
  exact wma_and_229 h l4 l10 (kI 1) t W
theorem wma_and_177 {x : jCx} {en : ((Nat × jW) ⊕ jW) → Option (Outcome × jW)} {t : Nat} {a1 : Int32} (h : hma_and x en t a1) (l2 : Int32) (l4 : Int32) (s0 : Int64) (W : jW) : jJ x 12 177 [(0, vR t), (1, vI a1), (2, vI l2), (4, vI l4)] [vL s0] W (fma_and_177 t a1 l2 l4 s0 W) en := by
  have h0 := h
  obtain ⟨hx, hm, hr, he, ht⟩ := h0
  unfold fma_and_177
  refine j_runA hx 2 (tb := [(177, .lstore 10), (179, .iload 4)]) (jtb_ok (by decide +kernel)) (pc' := 181) (lv' := [(10, vL s0), (0, vR t), (1, vI a1), (2, vI l2), (4, vI l4)]) (st' := [vI l4]) rfl ?_
  refine j_if_ne hx (off := 11) (tgt := 192) (by decide +kernel) (by decide) (fun _ => ?_) (fun _ => ?_)
  · refine j_lv (lv' := [(0, vR t), (1, vI a1), (2, vI l2), (4, vI l4), (10, vL s0)]) ⟨rfl, rfl, rfl, rfl, rfl, trivial⟩ ?_
    exact wma_and_192 h l2 l4 s0 W
  refine j_runA hx 1 (tb := [(184, .lload 10)]) (jtb_ok (by decide +kernel)) (pc' := 186) (lv' := [(10, vL s0), (0, vR t), (1, vI a1), (2, vI l2), (4, vI l4)]) (st' := [vL s0]) rfl ?_
  refine j_ldc2 hx (v := (kJ 4294967295)) (jkd2 q2089 (by decide +kernel)) (by decide +kernel) ?_
  refine j_runA hx 2 (tb := [(189, .land), (190, .lstore 10)]) (jtb_ok (by decide +kernel)) (pc' := 192) (lv' := [(10, vL (s0 &&& (kJ 4294967295))), (0, vR t), (1, vI a1), (2, vI l2), (4, vI l4)]) (st' := []) rfl ?_
  refine j_let (v := (s0 &&& (kJ 4294967295))) (lv := fun v24 => [(10, vL v24), (0, vR t), (1, vI a1), (2, vI l2), (4, vI l4)]) (st := fun _ => []) (fun v24 => ?_)
  refine j_lv (lv' := [(0, vR t), (1, vI a1), (2, vI l2), (4, vI l4), (10, vL v24)]) ⟨rfl, rfl, rfl, rfl, rfl, trivial⟩ ?_
  exact wma_and_192 h l2 l4 v24 W
theorem wma_and_134 {x : jCx} {en : ((Nat × jW) ⊕ jW) → Option (Outcome × jW)} {t : Nat} {a1 : Int32} (h : hma_and x en t a1) (l2 : Int32) (l4 : Int32) (s0 : Int64) (W : jW) : jJ x 12 134 [(0, vR t), (1, vI a1), (2, vI l2), (4, vI l4)] [vL s0] W (fma_and_134 t a1 l2 l4 s0 W) en := by
  have h0 := h
  obtain ⟨hx, hm, hr, he, ht⟩ := h0
  unfold fma_and_134
  refine j_runA hx 3 (tb := [(134, .lstore 6), (136, .aload_n 0), (137, .iload_n 1)]) (jtb_ok (by decide +kernel)) (pc' := 138) (lv' := [(6, vL s0), (0, vR t), (1, vI a1), (2, vI l2), (4, vI l4)]) (st' := [vI a1, vR t]) rfl ?_
  refine j_TI (j_callS (av := [vI a1]) (st := [vR t]) hx hr (Or.inl q2073) q998 q247 md_fwo_n np_fwo_n (cwo_n a1 W) (by decide) (Nat.le_of_ble_eq_true rfl) (by decide +kernel)) ?_
  refine j_gd (fun h20 => ?_)
  refine j_EL (j_callV (av := [vI (fwo_n a1)]) (st := []) hx hr (Or.inl q2114) q2116 qs94 rfl md_fma_number np_fma_number (cma_number t (fwo_n a1) W) (by decide) (Nat.le_of_ble_eq_true rfl) h20 (by decide) (by decide +kernel)) (fun z _ r h9 => j_upE hm hx (ht z) h9) (fun q21 _ => ?_)
  refine j_runA hx 3 (tb := [(144, .lstore 8), (146, .iload_n 2), (147, .iconst 1)]) (jtb_ok (by decide +kernel)) (pc' := 148) (lv' := [(8, vL q21.1), (6, vL s0), (0, vR t), (1, vI a1), (2, vI l2), (4, vI l4)]) (st' := [vI (kI 1), vI l2]) rfl ?_
  refine j_icmp_ne hx (off := 11) (tgt := 159) (by decide +kernel) (by decide) (fun _ => ?_) (fun _ => ?_)
  · refine j_runA hx 2 (tb := [(159, .iload_n 2), (160, .iconst 2)]) (jtb_ok (by decide +kernel)) (pc' := 161) (lv' := [(8, vL q21.1), (6, vL s0), (0, vR t), (1, vI a1), (2, vI l2), (4, vI l4)]) (st' := [vI (kI 2), vI l2]) rfl ?_
    refine j_icmp_ne hx (off := 11) (tgt := 172) (by decide +kernel) (by decide) (fun _ => ?_) (fun _ => ?_)
    · refine j_runA hx 3 (tb := [(172, .lload 8), (174, .lload 6), (176, .land)]) (jtb_ok (by decide +kernel)) (pc' := 177) (lv' := [(8, vL q21.1), (6, vL s0), (0, vR t), (1, vI a1), (2, vI l2), (4, vI l4)]) (st' := [vL (q21.1 &&& s0)]) rfl ?_
      refine j_lv (lv' := [(0, vR t), (1, vI a1), (2, vI l2), (4, vI l4)]) ⟨rfl, rfl, rfl, rfl, trivial⟩ ?_
      exact wma_and_177 h l2 l4 (q21.1 &&& s0) q21.2
    refine j_runA hx 3 (tb := [(164, .lload 8), (166, .lload 6), (168, .lxor)]) (jtb_ok (by decide +kernel)) (pc' := 169) (lv' := [(8, vL q21.1), (6, vL s0), (0, vR t), (1, vI a1), (2, vI l2), (4, vI l4)]) (st' := [vL (q21.1 ^^^ s0)]) rfl ?_
    refine j_goto hx (off := 8) (by decide +kernel) (tgt := 177) (by decide) ?_
    refine j_lv (lv' := [(0, vR t), (1, vI a1), (2, vI l2), (4, vI l4)]) ⟨rfl, rfl, rfl, rfl, trivial⟩ ?_
    exact wma_and_177 h l2 l4 (q21.1 ^^^ s0) q21.2
  refine j_runA hx 3 (tb := [(151, .lload 8), (153, .lload 6), (155, .lor)]) (jtb_ok (by decide +kernel)) (pc' := 156) (lv' := [(8, vL q21.1), (6, vL s0), (0, vR t), (1, vI a1), (2, vI l2), (4, vI l4)]) (st' := [vL (q21.1 ||| s0)]) rfl ?_
  refine j_goto hx (off := 21) (by decide +kernel) (tgt := 177) (by decide) ?_
  refine j_lv (lv' := [(0, vR t), (1, vI a1), (2, vI l2), (4, vI l4)]) ⟨rfl, rfl, rfl, rfl, trivial⟩ ?_
  exact wma_and_177 h l2 l4 (q21.1 ||| s0) q21.2
theorem wma_and_113 {x : jCx} {en : ((Nat × jW) ⊕ jW) → Option (Outcome × jW)} {t : Nat} {a1 : Int32} (h : hma_and x en t a1) (l2 : Int32) (l3 : Int32) (l4 : Int32) (W : jW) : jJ x 12 113 [(0, vR t), (1, vI a1), (2, vI l2), (3, vI l3), (4, vI l4)] [] W (fma_and_113 t a1 l2 l3 l4 W) en := by
  have h0 := h
  obtain ⟨hx, hm, hr, he, ht⟩ := h0
  unfold fma_and_113
  refine j_runA hx 1 (tb := [(113, .iload_n 3)]) (jtb_ok (by decide +kernel)) (pc' := 114) (lv' := [(0, vR t), (1, vI a1), (2, vI l2), (3, vI l3), (4, vI l4)]) (st' := [vI l3]) rfl ?_
  refine j_if_eq hx (off := 15) (tgt := 129) (by decide +kernel) (by decide) (fun _ => ?_) (fun _ => ?_)
  · refine j_runA hx 2 (tb := [(129, .aload_n 0), (130, .iload_n 1)]) (jtb_ok (by decide +kernel)) (pc' := 131) (lv' := [(0, vR t), (1, vI a1), (2, vI l2), (3, vI l3), (4, vI l4)]) (st' := [vI a1, vR t]) rfl ?_
    refine j_gd (fun h13 => ?_)
    refine j_EL (j_callV (av := [vI a1]) (st := []) hx hr (Or.inl q2107) q2109 qs93 rfl md_fma_moved np_fma_moved (cma_moved t a1 W) (by decide) (Nat.le_of_ble_eq_true rfl) h13 (by decide) (by decide +kernel)) (fun z _ r h9 => j_upE hm hx (ht z) h9) (fun q14 _ => ?_)
    refine j_lv (lv' := [(0, vR t), (1, vI a1), (2, vI l2), (4, vI l4)]) ⟨rfl, rfl, rfl, rfl, trivial⟩ ?_
    exact wma_and_134 h l2 l4 q14.1 q14.2
  refine j_runA hx 2 (tb := [(117, .aload_n 0), (118, .iload_n 1)]) (jtb_ok (by decide +kernel)) (pc' := 119) (lv' := [(0, vR t), (1, vI a1), (2, vI l2), (3, vI l3), (4, vI l4)]) (st' := [vI a1, vR t]) rfl ?_
  refine j_gd (fun h16 => ?_)
  refine j_EL (j_callV (av := [vI a1]) (st := []) hx hr (Or.inl q2107) q2109 qs93 rfl md_fma_moved np_fma_moved (cma_moved t a1 W) (by decide) (Nat.le_of_ble_eq_true rfl) h16 (by decide) (by decide +kernel)) (fun z _ r h9 => j_upE hm hx (ht z) h9) (fun q17 _ => ?_)
  refine j_ldc2 hx (v := (kJ (-1))) (jkd2 q2131 (by decide +kernel)) (by decide +kernel) ?_
  refine j_runA hx 1 (tb := [(125, .lxor)]) (jtb_ok (by decide +kernel)) (pc' := 126) (lv' := [(0, vR t), (1, vI a1), (2, vI l2), (3, vI l3), (4, vI l4)]) (st' := [vL (q17.1 ^^^ (kJ (-1)))]) rfl ?_
  refine j_goto hx (off := 8) (by decide +kernel) (tgt := 134) (by decide) ?_
  refine j_lv (lv' := [(0, vR t), (1, vI a1), (2, vI l2), (4, vI l4)]) ⟨rfl, rfl, rfl, rfl, trivial⟩ ?_
  exact wma_and_134 h l2 l4 (q17.1 ^^^ (kJ (-1))) q17.2
theorem wma_and_22 {x : jCx} {en : ((Nat × jW) ⊕ jW) → Option (Outcome × jW)} {t : Nat} {a1 : Int32} (h : hma_and x en t a1) (l2 : Int32) (s0 : Int32) (W : jW) : jJ x 12 22 [(0, vR t), (1, vI a1), (2, vI l2)] [vI s0] W (fma_and_22 t a1 l2 s0 W) en := by
  have h0 := h
  obtain ⟨hx, hm, hr, he, ht⟩ := h0
  unfold fma_and_22
  refine j_runA hx 2 (tb := [(22, .istore_n 3), (23, .iload_n 1)]) (jtb_ok (by decide +kernel)) (pc' := 24) (lv' := [(3, vI s0), (0, vR t), (1, vI a1), (2, vI l2)]) (st' := [vI a1]) rfl ?_
  refine j_TI (j_callS (av := [vI a1]) (st := []) hx hr (Or.inl q2084) q961 q247 md_fwo_isLong np_fwo_isLong (cwo_isLong a1 W) (by decide) (Nat.le_of_ble_eq_true rfl) (by decide +kernel)) ?_
  refine j_runA hx 1 (tb := [(27, .istore 4)]) (jtb_ok (by decide +kernel)) (pc' := 29) (lv' := [(4, vI (fwo_isLong a1)), (3, vI s0), (0, vR t), (1, vI a1), (2, vI l2)]) (st' := []) rfl ?_
  refine j_let (v := (fwo_isLong a1)) (lv := fun v3 => [(4, vI v3), (3, vI s0), (0, vR t), (1, vI a1), (2, vI l2)]) (st := fun _ => []) (fun v3 => ?_)
  refine j_runA hx 1 (tb := [(29, .iload_n 1)]) (jtb_ok (by decide +kernel)) (pc' := 30) (lv' := [(4, vI v3), (3, vI s0), (0, vR t), (1, vI a1), (2, vI l2)]) (st' := [vI a1]) rfl ?_
  refine j_TI (j_callS (av := [vI a1]) (st := []) hx hr (Or.inl q2111) q2112 q247 md_fwo_m np_fwo_m (cwo_m a1 W) (by decide) (Nat.le_of_ble_eq_true rfl) (by decide +kernel)) ?_
  refine j_runA hx 1 (tb := [(33, .istore 5)]) (jtb_ok (by decide +kernel)) (pc' := 35) (lv' := [(5, vI (fwo_m a1)), (4, vI v3), (3, vI s0), (0, vR t), (1, vI a1), (2, vI l2)]) (st' := []) rfl ?_
  refine j_let (v := (fwo_m a1)) (lv := fun v4 => [(5, vI v4), (4, vI v3), (3, vI s0), (0, vR t), (1, vI a1), (2, vI l2)]) (st := fun _ => []) (fun v4 => ?_)
  refine j_runA hx 2 (tb := [(35, .iload_n 2), (36, .iconst 1)]) (jtb_ok (by decide +kernel)) (pc' := 37) (lv' := [(5, vI v4), (4, vI v3), (3, vI s0), (0, vR t), (1, vI a1), (2, vI l2)]) (st' := [vI (kI 1), vI l2]) rfl ?_
  refine j_icmp_ne hx (off := 76) (tgt := 113) (by decide +kernel) (by decide) (fun _ => ?_) (fun _ => ?_)
  · refine j_lv (lv' := [(0, vR t), (1, vI a1), (2, vI l2), (3, vI s0), (4, vI v3)]) ⟨rfl, rfl, rfl, rfl, rfl, trivial⟩ ?_
    exact wma_and_113 h l2 s0 v3 W
  refine j_runA hx 1 (tb := [(40, .iload_n 1)]) (jtb_ok (by decide +kernel)) (pc' := 41) (lv' := [(5, vI v4), (4, vI v3), (3, vI s0), (0, vR t), (1, vI a1), (2, vI l2)]) (st' := [vI a1]) rfl ?_
  refine j_TI (j_callS (av := [vI a1]) (st := []) hx hr (Or.inl q2073) q998 q247 md_fwo_n np_fwo_n (cwo_n a1 W) (by decide) (Nat.le_of_ble_eq_true rfl) (by decide +kernel)) ?_
  refine j_runA hx 1 (tb := [(44, .bipush 31)]) (jtb_ok (by decide +kernel)) (pc' := 46) (lv' := [(5, vI v4), (4, vI v3), (3, vI s0), (0, vR t), (1, vI a1), (2, vI l2)]) (st' := [vI (kI 31), vI (fwo_n a1)]) rfl ?_
  refine j_icmp_ne hx (off := 67) (tgt := 113) (by decide +kernel) (by decide) (fun _ => ?_) (fun _ => ?_)
  · refine j_lv (lv' := [(0, vR t), (1, vI a1), (2, vI l2), (3, vI s0), (4, vI v3)]) ⟨rfl, rfl, rfl, rfl, rfl, trivial⟩ ?_
    exact wma_and_113 h l2 s0 v3 W
  refine j_runA hx 1 (tb := [(49, .iload_n 3)]) (jtb_ok (by decide +kernel)) (pc' := 50) (lv' := [(5, vI v4), (4, vI v3), (3, vI s0), (0, vR t), (1, vI a1), (2, vI l2)]) (st' := [vI s0]) rfl ?_
  refine j_if_ne hx (off := 63) (tgt := 113) (by decide +kernel) (by decide) (fun _ => ?_) (fun _ => ?_)
  · refine j_lv (lv' := [(0, vR t), (1, vI a1), (2, vI l2), (3, vI s0), (4, vI v3)]) ⟨rfl, rfl, rfl, rfl, rfl, trivial⟩ ?_
    exact wma_and_113 h l2 s0 v3 W
  refine j_runA hx 1 (tb := [(53, .iload 4)]) (jtb_ok (by decide +kernel)) (pc' := 55) (lv' := [(5, vI v4), (4, vI v3), (3, vI s0), (0, vR t), (1, vI a1), (2, vI l2)]) (st' := [vI v3]) rfl ?_
  refine j_if_eq hx (off := 58) (tgt := 113) (by decide +kernel) (by decide) (fun _ => ?_) (fun _ => ?_)
  · refine j_lv (lv' := [(0, vR t), (1, vI a1), (2, vI l2), (3, vI s0), (4, vI v3)]) ⟨rfl, rfl, rfl, rfl, rfl, trivial⟩ ?_
    exact wma_and_113 h l2 s0 v3 W
  refine j_runA hx 1 (tb := [(58, .iload_n 1)]) (jtb_ok (by decide +kernel)) (pc' := 59) (lv' := [(5, vI v4), (4, vI v3), (3, vI s0), (0, vR t), (1, vI a1), (2, vI l2)]) (st' := [vI a1]) rfl ?_
  refine j_TI (j_callS (av := [vI a1]) (st := []) hx hr (Or.inl q2122) q964 q247 md_fwo_amount np_fwo_amount (cwo_amount a1 W) (by decide) (Nat.le_of_ble_eq_true rfl) (by decide +kernel)) ?_
  refine j_if_ne hx (off := 51) (tgt := 113) (by decide +kernel) (by decide) (fun _ => ?_) (fun _ => ?_)
  · refine j_lv (lv' := [(0, vR t), (1, vI a1), (2, vI l2), (3, vI s0), (4, vI v3)]) ⟨rfl, rfl, rfl, rfl, rfl, trivial⟩ ?_
    exact wma_and_113 h l2 s0 v3 W
  refine j_runA hx 2 (tb := [(65, .aload_n 0), (66, .iload 5)]) (jtb_ok (by decide +kernel)) (pc' := 68) (lv' := [(5, vI v4), (4, vI v3), (3, vI s0), (0, vR t), (1, vI a1), (2, vI l2)]) (st' := [vI v4, vR t]) rfl ?_
  refine j_gd (fun h5 => ?_)
  refine j_OI (j_callV (av := [vI v4]) (st := []) hx hr (Or.inl q2127) q2129 qs97 rfl md_fma_isMovable np_fma_isMovable (cma_isMovable t v4 W) (by decide) (Nat.le_of_ble_eq_true rfl) h5 (by decide) (by decide +kernel)) (fun q6 _ => ?_)
  refine j_if_eq hx (off := 42) (tgt := 113) (by decide +kernel) (by decide) (fun _ => ?_) (fun _ => ?_)
  · refine j_lv (lv' := [(0, vR t), (1, vI a1), (2, vI l2), (3, vI s0), (4, vI v3)]) ⟨rfl, rfl, rfl, rfl, rfl, trivial⟩ ?_
    exact wma_and_113 h l2 s0 v3 W
  refine j_runA hx 1 (tb := [(74, .iload_n 1)]) (jtb_ok (by decide +kernel)) (pc' := 75) (lv' := [(5, vI v4), (4, vI v3), (3, vI s0), (0, vR t), (1, vI a1), (2, vI l2)]) (st' := [vI a1]) rfl ?_
  refine j_TI (j_callS (av := [vI a1]) (st := []) hx hr (Or.inl q2078) q992 q247 md_fwo_d np_fwo_d (cwo_d a1 W) (by decide) (Nat.le_of_ble_eq_true rfl) (by decide +kernel)) ?_
  refine j_runA hx 1 (tb := [(78, .bipush 31)]) (jtb_ok (by decide +kernel)) (pc' := 80) (lv' := [(5, vI v4), (4, vI v3), (3, vI s0), (0, vR t), (1, vI a1), (2, vI l2)]) (st' := [vI (kI 31), vI (fwo_d a1)]) rfl ?_
  refine j_icmp_eq hx (off := 32) (tgt := 112) (by decide +kernel) (by decide) (fun _ => ?_) (fun _ => ?_)
  · exact j_vret hx hm (by decide +kernel) (he _)
  refine j_runA hx 2 (tb := [(83, .aload_n 0), (84, .iload_n 1)]) (jtb_ok (by decide +kernel)) (pc' := 85) (lv' := [(5, vI v4), (4, vI v3), (3, vI s0), (0, vR t), (1, vI a1), (2, vI l2)]) (st' := [vI a1, vR t]) rfl ?_
  refine j_TI (j_callS (av := [vI a1]) (st := [vR t]) hx hr (Or.inl q2078) q992 q247 md_fwo_d np_fwo_d (cwo_d a1 W) (by decide) (Nat.le_of_ble_eq_true rfl) (by decide +kernel)) ?_
  refine j_runA hx 1 (tb := [(88, .aload_n 0)]) (jtb_ok (by decide +kernel)) (pc' := 89) (lv' := [(5, vI v4), (4, vI v3), (3, vI s0), (0, vR t), (1, vI a1), (2, vI l2)]) (st' := [vR t, vI (fwo_d a1), vR t]) rfl ?_
  refine j_getR hx flX15_18 kl1007 h5 (by decide) (by decide +kernel) ?_
  refine j_runA hx 1 (tb := [(92, .iload 5)]) (jtb_ok (by decide +kernel)) (pc' := 94) (lv' := [(5, vI v4), (4, vI v3), (3, vI s0), (0, vR t), (1, vI a1), (2, vI l2)]) (st' := [vI v4, vR (jR W 1007 t), vI (fwo_d a1), vR t]) rfl ?_
  refine j_gd (fun h7 => ?_)
  refine j_lald hx (f := 1007) (o := t) kd1007 rfl (by decide +kernel) h7 ?_
  refine j_runA hx 1 (tb := [(95, .aload_n 0)]) (jtb_ok (by decide +kernel)) (pc' := 96) (lv' := [(5, vI v4), (4, vI v3), (3, vI s0), (0, vR t), (1, vI a1), (2, vI l2)]) (st' := [vR t, vL (jB W 1007 t (ix v4)), vI (fwo_d a1), vR t]) rfl ?_
  refine j_getR hx flX15_22 kl1008 h5 (by decide) (by decide +kernel) ?_
  refine j_runA hx 1 (tb := [(99, .iload 5)]) (jtb_ok (by decide +kernel)) (pc' := 101) (lv' := [(5, vI v4), (4, vI v3), (3, vI s0), (0, vR t), (1, vI a1), (2, vI l2)]) (st' := [vI v4, vR (jR W 1008 t), vL (jB W 1007 t (ix v4)), vI (fwo_d a1), vR t]) rfl ?_
  refine j_gd (fun h8 => ?_)
  refine j_iald hx (f := 1008) (o := t) kd1008 rfl (by decide +kernel) h8 ?_
  refine j_runA hx 1 (tb := [(102, .aload_n 0)]) (jtb_ok (by decide +kernel)) (pc' := 103) (lv' := [(5, vI v4), (4, vI v3), (3, vI s0), (0, vR t), (1, vI a1), (2, vI l2)]) (st' := [vR t, vI (jA W 1008 t (ix v4)), vL (jB W 1007 t (ix v4)), vI (fwo_d a1), vR t]) rfl ?_
  refine j_getR hx flX15_26 kl1009 h5 (by decide) (by decide +kernel) ?_
  refine j_runA hx 1 (tb := [(106, .iload 5)]) (jtb_ok (by decide +kernel)) (pc' := 108) (lv' := [(5, vI v4), (4, vI v3), (3, vI s0), (0, vR t), (1, vI a1), (2, vI l2)]) (st' := [vI v4, vR (jR W 1009 t), vI (jA W 1008 t (ix v4)), vL (jB W 1007 t (ix v4)), vI (fwo_d a1), vR t]) rfl ?_
  refine j_gd (fun h9 => ?_)
  refine j_iald hx (f := 1009) (o := t) kd1009 rfl (by decide +kernel) h9 ?_
  refine j_WV (j_callV (av := [vI (fwo_d a1), vL (jB W 1007 t (ix v4)), vI (jA W 1008 t (ix v4)), vI (jA W 1009 t (ix v4))]) (st := []) hx hr (Or.inl q2079) q2081 qs87 rfl md_fma_code np_fma_code (cma_code t (fwo_d a1) (jB W 1007 t (ix v4)) (jA W 1008 t (ix v4)) (jA W 1009 t (ix v4)) W) (by decide) (Nat.le_of_ble_eq_true rfl) h5 (by decide) (by decide +kernel)) (fun q10 _ => ?_)
  exact j_vret hx hm (by decide +kernel) (he _)
theorem wma_and {x : jCx} {en : ((Nat × jW) ⊕ jW) → Option (Outcome × jW)} {t : Nat} {a1 : Int32} (h : hma_and x en t a1) (W : jW) : jJ x 12 0 [(0, vR t), (1, vI a1)] [] W (fma_and t a1 W) en := by
  have h0 := h
  obtain ⟨hx, hm, hr, he, ht⟩ := h0
  unfold fma_and
  refine j_runA hx 6 (tb := [(0, .iload_n 1), (1, .bipush 29), (3, .ishr), (4, .iconst 3), (5, .iand), (6, .istore_n 2)]) (jtb_ok (by decide +kernel)) (pc' := 7) (lv' := [(2, vI ((ixr a1 (kI 29)) &&& (kI 3))), (0, vR t), (1, vI a1)]) (st' := []) rfl ?_
  refine j_let (v := ((ixr a1 (kI 29)) &&& (kI 3))) (lv := fun v1 => [(2, vI v1), (0, vR t), (1, vI a1)]) (st := fun _ => []) (fun v1 => ?_)
  refine j_runA hx 6 (tb := [(7, .iload_n 1), (8, .bipush 21), (10, .ishr), (11, .iconst 1), (12, .iand), (13, .iconst 1)]) (jtb_ok (by decide +kernel)) (pc' := 14) (lv' := [(2, vI v1), (0, vR t), (1, vI a1)]) (st' := [vI (kI 1), vI ((ixr a1 (kI 21)) &&& (kI 1))]) rfl ?_
  refine j_icmp_ne hx (off := 7) (tgt := 21) (by decide +kernel) (by decide) (fun _ => ?_) (fun _ => ?_)
  · refine j_runA hx 1 (tb := [(21, .iconst 0)]) (jtb_ok (by decide +kernel)) (pc' := 22) (lv' := [(2, vI v1), (0, vR t), (1, vI a1)]) (st' := [vI (kI 0)]) rfl ?_
    refine j_lv (lv' := [(0, vR t), (1, vI a1), (2, vI v1)]) ⟨rfl, rfl, rfl, trivial⟩ ?_
    exact wma_and_22 h v1 (kI 0) W
  refine j_runA hx 1 (tb := [(17, .iconst 1)]) (jtb_ok (by decide +kernel)) (pc' := 18) (lv' := [(2, vI v1), (0, vR t), (1, vI a1)]) (st' := [vI (kI 1)]) rfl ?_
  refine j_goto hx (off := 4) (by decide +kernel) (tgt := 22) (by decide) ?_
  refine j_lv (lv' := [(0, vR t), (1, vI a1), (2, vI v1)]) ⟨rfl, rfl, rfl, trivial⟩ ?_
  exact wma_and_22 h v1 (kI 1) W
theorem cma_and (t : Nat) (a1 : Int32) (W : jW) : jM yX15_and cX15_and 12 (Option.none : Option Jvm.ClassFile.FieldType) [] 4 57 [vR t, vI a1] W ((fma_and t a1 W).bind (fun q => some (Sum.elim (fun z => (.threw (z.1 - 1), z.2)) (fun q => (.returned none, q)) q))) := 
  jM.of (Nat.le_of_ble_eq_true rfl) (fun x hx hm hr => wma_and ⟨hx, hm, hr, fun _ => rfl, fun _ => rfl⟩ W)
def hma_move (x : jCx) (en : ((Nat × jW) ⊕ jW) → Option (Outcome × jW)) (t : Nat) (a1 : Int32) : Prop :=
  jOK x RX15 cX15_move 6 ∧
  jMt x "move" (Option.none : Option Jvm.ClassFile.FieldType) [] ∧
  jRm x 3 39 ∧
  (∀ q : jW, en (.inr q) = some (.returned none, q)) ∧
  (∀ z : Nat × jW, en (.inl z) = some (.threw (z.1 - 1), z.2))
theorem wma_move_75 {x : jCx} {en : ((Nat × jW) ⊕ jW) → Option (Outcome × jW)} {t : Nat} {a1 : Int32} (h : hma_move x en t a1) (s0 : Int64) (s1 : Int32) (s2 : Nat) (W : jW) : jJ x 6 75 [(0, vR t), (1, vI a1)] [vL s0, vI s1, vR s2] W (fma_move_75 t a1 s0 s1 s2 W) en := by
  have h0 := h
  obtain ⟨hx, hm, hr, he, ht⟩ := h0
  unfold fma_move_75
  refine j_runA hx 1 (tb := [(75, .iload_n 1)]) (jtb_ok (by decide +kernel)) (pc' := 76) (lv' := [(0, vR t), (1, vI a1)]) (st' := [vI a1, vL s0, vI s1, vR s2]) rfl ?_
  refine j_TI (j_callS (av := [vI a1]) (st := [vL s0, vI s1, vR s2]) hx hr (Or.inl q2084) q961 q247 md_fwo_isLong np_fwo_isLong (cwo_isLong a1 W) (by decide) (Nat.le_of_ble_eq_true rfl) (by decide +kernel)) ?_
  refine j_gd (fun h10 => ?_)
  refine j_WV (j_callV (av := [vI s1, vL s0, vI (fwo_isLong a1)]) (st := []) hx hr (Or.inl q2095) q2097 qs90 rfl md_fma_put np_fma_put (cma_put s2 s1 s0 (fwo_isLong a1) W) (by decide) (Nat.le_of_ble_eq_true rfl) h10 (by decide) (by decide +kernel)) (fun q11 _ => ?_)
  exact j_vret hx hm (by decide +kernel) (he _)
theorem wma_move_56 {x : jCx} {en : ((Nat × jW) ⊕ jW) → Option (Outcome × jW)} {t : Nat} {a1 : Int32} (h : hma_move x en t a1) (l3 : Int64) (l5 : Int32) (W : jW) : jJ x 6 56 [(0, vR t), (1, vI a1), (3, vL l3), (5, vI l5)] [] W (fma_move_56 t a1 l3 l5 W) en := by
  have h0 := h
  obtain ⟨hx, hm, hr, he, ht⟩ := h0
  unfold fma_move_56
  refine j_runA hx 2 (tb := [(56, .aload_n 0), (57, .iload_n 1)]) (jtb_ok (by decide +kernel)) (pc' := 58) (lv' := [(0, vR t), (1, vI a1), (3, vL l3), (5, vI l5)]) (st' := [vI a1, vR t]) rfl ?_
  refine j_TI (j_callS (av := [vI a1]) (st := [vR t]) hx hr (Or.inl q2078) q992 q247 md_fwo_d np_fwo_d (cwo_d a1 W) (by decide) (Nat.le_of_ble_eq_true rfl) (by decide +kernel)) ?_
  refine j_runA hx 1 (tb := [(61, .iload 5)]) (jtb_ok (by decide +kernel)) (pc' := 63) (lv' := [(0, vR t), (1, vI a1), (3, vL l3), (5, vI l5)]) (st' := [vI l5, vI (fwo_d a1), vR t]) rfl ?_
  refine j_if_ne hx (off := 11) (tgt := 74) (by decide +kernel) (by decide) (fun _ => ?_) (fun _ => ?_)
  · refine j_runA hx 1 (tb := [(74, .lload_n 3)]) (jtb_ok (by decide +kernel)) (pc' := 75) (lv' := [(0, vR t), (1, vI a1), (3, vL l3), (5, vI l5)]) (st' := [vL l3, vI (fwo_d a1), vR t]) rfl ?_
    refine j_lv (lv' := [(0, vR t), (1, vI a1)]) ⟨rfl, rfl, trivial⟩ ?_
    exact wma_move_75 h l3 (fwo_d a1) t W
  refine j_runA hx 1 (tb := [(66, .lload_n 3)]) (jtb_ok (by decide +kernel)) (pc' := 67) (lv' := [(0, vR t), (1, vI a1), (3, vL l3), (5, vI l5)]) (st' := [vL l3, vI (fwo_d a1), vR t]) rfl ?_
  refine j_ldc2 hx (v := (kJ (-1))) (jkd2 q2131 (by decide +kernel)) (by decide +kernel) ?_
  refine j_runA hx 1 (tb := [(70, .lxor)]) (jtb_ok (by decide +kernel)) (pc' := 71) (lv' := [(0, vR t), (1, vI a1), (3, vL l3), (5, vI l5)]) (st' := [vL (l3 ^^^ (kJ (-1))), vI (fwo_d a1), vR t]) rfl ?_
  refine j_goto hx (off := 4) (by decide +kernel) (tgt := 75) (by decide) ?_
  refine j_lv (lv' := [(0, vR t), (1, vI a1)]) ⟨rfl, rfl, trivial⟩ ?_
  exact wma_move_75 h (l3 ^^^ (kJ (-1))) (fwo_d a1) t W
theorem wma_move {x : jCx} {en : ((Nat × jW) ⊕ jW) → Option (Outcome × jW)} {t : Nat} {a1 : Int32} (h : hma_move x en t a1) (W : jW) : jJ x 6 0 [(0, vR t), (1, vI a1)] [] W (fma_move t a1 W) en := by
  have h0 := h
  obtain ⟨hx, hm, hr, he, ht⟩ := h0
  unfold fma_move
  refine j_runA hx 8 (tb := [(0, .bipush 16), (2, .iload_n 1), (3, .bipush 21), (5, .ishr), (6, .iconst 3), (7, .iand), (8, .imul), (9, .istore_n 2)]) (jtb_ok (by decide +kernel)) (pc' := 10) (lv' := [(2, vI ((kI 16) * ((ixr a1 (kI 21)) &&& (kI 3)))), (0, vR t), (1, vI a1)]) (st' := []) rfl ?_
  refine j_let (v := ((kI 16) * ((ixr a1 (kI 21)) &&& (kI 3)))) (lv := fun v1 => [(2, vI v1), (0, vR t), (1, vI a1)]) (st := fun _ => []) (fun v1 => ?_)
  refine j_runA hx 3 (tb := [(10, .iload_n 1), (11, .iconst 5), (12, .ishr)]) (jtb_ok (by decide +kernel)) (pc' := 13) (lv' := [(2, vI v1), (0, vR t), (1, vI a1)]) (st' := [vI (ixr a1 (kI 5))]) rfl ?_
  refine j_ldcw hx (v := (kI 65535)) (jkc q2136 (by decide +kernel)) (by decide +kernel) ?_
  refine j_runA hx 5 (tb := [(16, .iand), (17, .i2l), (18, .iload_n 2), (19, .lshl), (20, .lstore_n 3)]) (jtb_ok (by decide +kernel)) (pc' := 21) (lv' := [(3, vL (lxl (((ixr a1 (kI 5)) &&& (kI 65535)).toInt64) v1)), (2, vI v1), (0, vR t), (1, vI a1)]) (st' := []) rfl ?_
  refine j_let (v := (lxl (((ixr a1 (kI 5)) &&& (kI 65535)).toInt64) v1)) (lv := fun v2 => [(3, vL v2), (2, vI v1), (0, vR t), (1, vI a1)]) (st := fun _ => []) (fun v2 => ?_)
  refine j_runA hx 6 (tb := [(21, .iload_n 1), (22, .bipush 29), (24, .ishr), (25, .iconst 3), (26, .iand), (27, .istore 5)]) (jtb_ok (by decide +kernel)) (pc' := 29) (lv' := [(5, vI ((ixr a1 (kI 29)) &&& (kI 3))), (3, vL v2), (2, vI v1), (0, vR t), (1, vI a1)]) (st' := []) rfl ?_
  refine j_let (v := ((ixr a1 (kI 29)) &&& (kI 3))) (lv := fun v3 => [(5, vI v3), (3, vL v2), (2, vI v1), (0, vR t), (1, vI a1)]) (st := fun _ => []) (fun v3 => ?_)
  refine j_runA hx 2 (tb := [(29, .iload 5), (31, .iconst 3)]) (jtb_ok (by decide +kernel)) (pc' := 32) (lv' := [(5, vI v3), (3, vL v2), (2, vI v1), (0, vR t), (1, vI a1)]) (st' := [vI (kI 3), vI v3]) rfl ?_
  refine j_icmp_ne hx (off := 24) (tgt := 56) (by decide +kernel) (by decide) (fun _ => ?_) (fun _ => ?_)
  · refine j_lv (lv' := [(0, vR t), (1, vI a1), (3, vL v2), (5, vI v3)]) ⟨rfl, rfl, rfl, rfl, trivial⟩ ?_
    exact wma_move_56 h v2 v3 W
  refine j_runA hx 2 (tb := [(35, .aload_n 0), (36, .iload_n 1)]) (jtb_ok (by decide +kernel)) (pc' := 37) (lv' := [(5, vI v3), (3, vL v2), (2, vI v1), (0, vR t), (1, vI a1)]) (st' := [vI a1, vR t]) rfl ?_
  refine j_TI (j_callS (av := [vI a1]) (st := [vR t]) hx hr (Or.inl q2078) q992 q247 md_fwo_d np_fwo_d (cwo_d a1 W) (by decide) (Nat.le_of_ble_eq_true rfl) (by decide +kernel)) ?_
  refine j_gd (fun h4 => ?_)
  refine j_EL (j_callV (av := [vI (fwo_d a1)]) (st := []) hx hr (Or.inl q2114) q2116 qs94 rfl md_fma_number np_fma_number (cma_number t (fwo_d a1) W) (by decide) (Nat.le_of_ble_eq_true rfl) h4 (by decide) (by decide +kernel)) (fun z _ r h9 => j_upE hm hx (ht z) h9) (fun q5 _ => ?_)
  refine j_ldc2 hx (v := (kJ 65535)) (jkd2 q2137 (by decide +kernel)) (by decide +kernel) ?_
  refine j_runA hx 2 (tb := [(46, .iload_n 2), (47, .lshl)]) (jtb_ok (by decide +kernel)) (pc' := 48) (lv' := [(5, vI v3), (3, vL v2), (2, vI v1), (0, vR t), (1, vI a1)]) (st' := [vL (lxl (kJ 65535) v1), vL q5.1]) rfl ?_
  refine j_ldc2 hx (v := (kJ (-1))) (jkd2 q2131 (by decide +kernel)) (by decide +kernel) ?_
  refine j_runA hx 5 (tb := [(51, .lxor), (52, .land), (53, .lload_n 3), (54, .lor), (55, .lstore_n 3)]) (jtb_ok (by decide +kernel)) (pc' := 56) (lv' := [(3, vL ((q5.1 &&& ((lxl (kJ 65535) v1) ^^^ (kJ (-1)))) ||| v2)), (5, vI v3), (2, vI v1), (0, vR t), (1, vI a1)]) (st' := []) rfl ?_
  refine j_let (v := ((q5.1 &&& ((lxl (kJ 65535) v1) ^^^ (kJ (-1)))) ||| v2)) (lv := fun v7 => [(3, vL v7), (5, vI v3), (2, vI v1), (0, vR t), (1, vI a1)]) (st := fun _ => []) (fun v7 => ?_)
  refine j_lv (lv' := [(0, vR t), (1, vI a1), (3, vL v7), (5, vI v3)]) ⟨rfl, rfl, rfl, rfl, trivial⟩ ?_
  exact wma_move_56 h v7 v3 q5.2
theorem cma_move (t : Nat) (a1 : Int32) (W : jW) : jM yX15_move cX15_move 6 (Option.none : Option Jvm.ClassFile.FieldType) [] 3 39 [vR t, vI a1] W ((fma_move t a1 W).bind (fun q => some (Sum.elim (fun z => (.threw (z.1 - 1), z.2)) (fun q => (.returned none, q)) q))) := 
  jM.of (Nat.le_of_ble_eq_true rfl) (fun x hx hm hr => wma_move ⟨hx, hm, hr, fun _ => rfl, fun _ => rfl⟩ W)
def hma_page (x : jCx) (en : (jW) → Option (Outcome × jW)) (t : Nat) (a1 : Int32) (a2 : Int32) : Prop :=
  jOK x RX15 cX15_page 6 ∧
  jMt x "page" (Option.none : Option Jvm.ClassFile.FieldType) [] ∧
  jRm x 9 123 ∧
  (∀ q : jW, en q = some (.returned none, q))
theorem wma_page_40 {x : jCx} {en : (jW) → Option (Outcome × jW)} {t : Nat} {a1 : Int32} {a2 : Int32} (h : hma_page x en t a1 a2) (l3 : Int64) (s0 : Int32) (W : jW) : jJ x 6 40 [(0, vR t), (1, vI a1), (2, vI a2), (3, vL l3)] [vI s0] W (fma_page_40 t a1 a2 l3 s0 W) en := by
  have h0 := h
  obtain ⟨hx, hm, hr, he⟩ := h0
  unfold fma_page_40
  refine j_runA hx 2 (tb := [(40, .istore 5), (42, .iload_n 1)]) (jtb_ok (by decide +kernel)) (pc' := 43) (lv' := [(5, vI s0), (0, vR t), (1, vI a1), (2, vI a2), (3, vL l3)]) (st' := [vI a1]) rfl ?_
  refine j_TI (j_callS (av := [vI a1]) (st := []) hx hr (Or.inl q2078) q992 q247 md_fwo_d np_fwo_d (cwo_d a1 W) (by decide) (Nat.le_of_ble_eq_true rfl) (by decide +kernel)) ?_
  refine j_runA hx 1 (tb := [(46, .bipush 31)]) (jtb_ok (by decide +kernel)) (pc' := 48) (lv' := [(5, vI s0), (0, vR t), (1, vI a1), (2, vI a2), (3, vL l3)]) (st' := [vI (kI 31), vI (fwo_d a1)]) rfl ?_
  refine j_icmp_ne hx (off := 4) (tgt := 52) (by decide +kernel) (by decide) (fun _ => ?_) (fun _ => ?_)
  · refine j_runA hx 1 (tb := [(52, .iload 5)]) (jtb_ok (by decide +kernel)) (pc' := 54) (lv' := [(5, vI s0), (0, vR t), (1, vI a1), (2, vI a2), (3, vL l3)]) (st' := [vI s0]) rfl ?_
    refine j_if_lt hx (off := 26) (tgt := 80) (by decide +kernel) (by decide) (fun _ => ?_) (fun _ => ?_)
    · refine j_runA hx 2 (tb := [(80, .aload_n 0), (81, .iload_n 1)]) (jtb_ok (by decide +kernel)) (pc' := 82) (lv' := [(5, vI s0), (0, vR t), (1, vI a1), (2, vI a2), (3, vL l3)]) (st' := [vI a1, vR t]) rfl ?_
      refine j_TI (j_callS (av := [vI a1]) (st := [vR t]) hx hr (Or.inl q2078) q992 q247 md_fwo_d np_fwo_d (cwo_d a1 W) (by decide) (Nat.le_of_ble_eq_true rfl) (by decide +kernel)) ?_
      refine j_runA hx 2 (tb := [(85, .lload_n 3), (86, .iconst 1)]) (jtb_ok (by decide +kernel)) (pc' := 87) (lv' := [(5, vI s0), (0, vR t), (1, vI a1), (2, vI a2), (3, vL l3)]) (st' := [vI (kI 1), vL l3, vI (fwo_d a1), vR t]) rfl ?_
      refine j_gd (fun h8 => ?_)
      refine j_WV (j_callV (av := [vI (fwo_d a1), vL l3, vI (kI 1)]) (st := []) hx hr (Or.inl q2095) q2097 qs90 rfl md_fma_put np_fma_put (cma_put t (fwo_d a1) l3 (kI 1) W) (by decide) (Nat.le_of_ble_eq_true rfl) h8 (by decide) (by decide +kernel)) (fun q9 _ => ?_)
      exact j_vret hx hm (by decide +kernel) (he _)
    refine j_runA hx 2 (tb := [(57, .aload_n 0), (58, .iload_n 1)]) (jtb_ok (by decide +kernel)) (pc' := 59) (lv' := [(5, vI s0), (0, vR t), (1, vI a1), (2, vI a2), (3, vL l3)]) (st' := [vI a1, vR t]) rfl ?_
    refine j_TI (j_callS (av := [vI a1]) (st := [vR t]) hx hr (Or.inl q2078) q992 q247 md_fwo_d np_fwo_d (cwo_d a1 W) (by decide) (Nat.le_of_ble_eq_true rfl) (by decide +kernel)) ?_
    refine j_runA hx 3 (tb := [(62, .lload_n 3), (63, .iconst 3), (64, .aload_n 0)]) (jtb_ok (by decide +kernel)) (pc' := 65) (lv' := [(5, vI s0), (0, vR t), (1, vI a1), (2, vI a2), (3, vL l3)]) (st' := [vR t, vI (kI 3), vL l3, vI (fwo_d a1), vR t]) rfl ?_
    refine j_gd (fun h11 => ?_)
    refine j_getR hx flX15_43 kl1001 h11 (by decide) (by decide +kernel) ?_
    refine j_gd (fun h12 => ?_)
    refine j_getR hx flX15_187 kl206 h12 (by decide) (by decide +kernel) ?_
    refine j_runA hx 1 (tb := [(71, .iload 5)]) (jtb_ok (by decide +kernel)) (pc' := 73) (lv' := [(5, vI s0), (0, vR t), (1, vI a1), (2, vI a2), (3, vL l3)]) (st' := [vI s0, vR (jR W 206 (jR W 1001 t)), vI (kI 3), vL l3, vI (fwo_d a1), vR t]) rfl ?_
    refine j_gd (fun h13 => ?_)
    refine j_iald hx (f := 206) (o := (jR W 1001 t)) kd206 rfl (by decide +kernel) h13 ?_
    refine j_WV (j_callV (av := [vI (fwo_d a1), vL l3, vI (kI 3), vI (jA W 206 (jR W 1001 t) (ix s0))]) (st := []) hx hr (Or.inl q2079) q2081 qs87 rfl md_fma_code np_fma_code (cma_code t (fwo_d a1) l3 (kI 3) (jA W 206 (jR W 1001 t) (ix s0)) W) (by decide) (Nat.le_of_ble_eq_true rfl) h11 (by decide) (by decide +kernel)) (fun q14 _ => ?_)
    refine j_goto hx (off := 13) (by decide +kernel) (tgt := 90) (by decide) ?_
    exact j_vret hx hm (by decide +kernel) (he _)
  exact j_vret hx hm (by decide +kernel) (he _)
theorem wma_page {x : jCx} {en : (jW) → Option (Outcome × jW)} {t : Nat} {a1 : Int32} {a2 : Int32} (h : hma_page x en t a1 a2) (W : jW) : jJ x 6 0 [(0, vR t), (1, vI a1), (2, vI a2)] [] W (fma_page t a1 a2 W) en := by
  have h0 := h
  obtain ⟨hx, hm, hr, he⟩ := h0
  unfold fma_page
  refine j_runA hx 1 (tb := [(0, .aload_n 0)]) (jtb_ok (by decide +kernel)) (pc' := 1) (lv' := [(0, vR t), (1, vI a1), (2, vI a2)]) (st' := [vR t]) rfl ?_
  refine j_gd (fun h1 => ?_)
  refine j_getL hx flX15_134 kd1014 h1 (by decide) (by decide +kernel) ?_
  refine j_TL (j_callS (av := [vL (jL W 1014 t)]) (st := []) hx hr (Or.inl q2142) q1067 q247 md_fwo_pageOf np_fwo_pageOf (cwo_pageOf (jL W 1014 t) W) (by decide) (Nat.le_of_ble_eq_true rfl) (by decide +kernel)) ?_
  refine j_runA hx 1 (tb := [(7, .iload_n 1)]) (jtb_ok (by decide +kernel)) (pc' := 8) (lv' := [(0, vR t), (1, vI a1), (2, vI a2)]) (st' := [vI a1, vL (fwo_pageOf (jL W 1014 t))]) rfl ?_
  refine j_TL (j_callS (av := [vI a1]) (st := [vL (fwo_pageOf (jL W 1014 t))]) hx hr (Or.inl q2143) q1071 q247 md_fwo_pageBy np_fwo_pageBy (cwo_pageBy a1 W) (by decide) (Nat.le_of_ble_eq_true rfl) (by decide +kernel)) ?_
  refine j_runA hx 2 (tb := [(11, .ladd), (12, .lstore_n 3)]) (jtb_ok (by decide +kernel)) (pc' := 13) (lv' := [(3, vL ((fwo_pageOf (jL W 1014 t)) + (fwo_pageBy a1))), (0, vR t), (1, vI a1), (2, vI a2)]) (st' := []) rfl ?_
  refine j_let (v := ((fwo_pageOf (jL W 1014 t)) + (fwo_pageBy a1))) (lv := fun v2 => [(3, vL v2), (0, vR t), (1, vI a1), (2, vI a2)]) (st := fun _ => []) (fun v2 => ?_)
  refine j_runA hx 1 (tb := [(13, .aload_n 0)]) (jtb_ok (by decide +kernel)) (pc' := 14) (lv' := [(3, vL v2), (0, vR t), (1, vI a1), (2, vI a2)]) (st' := [vR t]) rfl ?_
  refine j_OI (j_callV (av := []) (st := []) hx hr (Or.inl q1978) q1980 qs72 rfl md_fma_isNew np_fma_isNew (cma_isNew t W) (by decide) (Nat.le_of_ble_eq_true rfl) h1 (by decide) (by decide +kernel)) (fun q3 _ => ?_)
  refine j_if_eq hx (off := 7) (tgt := 24) (by decide +kernel) (by decide) (fun _ => ?_) (fun _ => ?_)
  · refine j_runA hx 1 (tb := [(24, .aload_n 0)]) (jtb_ok (by decide +kernel)) (pc' := 25) (lv' := [(3, vL v2), (0, vR t), (1, vI a1), (2, vI a2)]) (st' := [vR t]) rfl ?_
    refine j_getR hx flX15_43 kl1001 h1 (by decide) (by decide +kernel) ?_
    refine j_runA hx 1 (tb := [(28, .aload_n 0)]) (jtb_ok (by decide +kernel)) (pc' := 29) (lv' := [(3, vL v2), (0, vR t), (1, vI a1), (2, vI a2)]) (st' := [vR t, vR (jR W 1001 t)]) rfl ?_
    refine j_getR hx flX15_43 kl1001 h1 (by decide) (by decide +kernel) ?_
    refine j_gd (fun h4 => ?_)
    refine j_getR hx flX15_370 kl207 h4 (by decide) (by decide +kernel) ?_
    refine j_runA hx 1 (tb := [(35, .iload_n 2)]) (jtb_ok (by decide +kernel)) (pc' := 36) (lv' := [(3, vL v2), (0, vR t), (1, vI a1), (2, vI a2)]) (st' := [vI a2, vR (jR W 207 (jR W 1001 t)), vR (jR W 1001 t)]) rfl ?_
    refine j_gd (fun h5 => ?_)
    refine j_iald hx (f := 207) (o := (jR W 1001 t)) kd207 rfl (by decide +kernel) h5 ?_
    refine j_OI (j_callV (av := [vI (jA W 207 (jR W 1001 t) (ix a2))]) (st := []) hx hr (Or.inl q2010) q1121 q1122 rfl md_fpg_targetWord np_fpg_targetWord (cpg_targetWord (jR W 1001 t) (jA W 207 (jR W 1001 t) (ix a2)) W) (by decide) (Nat.le_of_ble_eq_true rfl) h4 (by decide) (by decide +kernel)) (fun q6 _ => ?_)
    refine j_lv (lv' := [(0, vR t), (1, vI a1), (2, vI a2), (3, vL v2)]) ⟨rfl, rfl, rfl, rfl, trivial⟩ ?_
    exact wma_page_40 h v2 q6 W
  refine j_runA hx 1 (tb := [(20, .iconst (-1))]) (jtb_ok (by decide +kernel)) (pc' := 21) (lv' := [(3, vL v2), (0, vR t), (1, vI a1), (2, vI a2)]) (st' := [vI (kI (-1))]) rfl ?_
  refine j_goto hx (off := 19) (by decide +kernel) (tgt := 40) (by decide) ?_
  refine j_lv (lv' := [(0, vR t), (1, vI a1), (2, vI a2), (3, vL v2)]) ⟨rfl, rfl, rfl, rfl, trivial⟩ ?_
  exact wma_page_40 h v2 (kI (-1)) W
theorem cma_page (t : Nat) (a1 : Int32) (a2 : Int32) (W : jW) : jM yX15_page cX15_page 6 (Option.none : Option Jvm.ClassFile.FieldType) [] 9 123 [vR t, vI a1, vI a2] W ((fma_page t a1 a2 W).bind (fun q => some (.returned none, q))) := 
  jM.of (Nat.le_of_ble_eq_true rfl) (fun x hx hm hr => wma_page ⟨hx, hm, hr, fun _ => rfl⟩ W)
def hma_quotient (x : jCx) (en : (Int64) → Option (Outcome × jW)) (a0 : Int64) (a2 : Int64) (W : jW) : Prop :=
  jOK x RX15 cX15_quotient 6 ∧
  jMt x "quotient" (Option.some Jvm.ClassFile.FieldType.long) [] ∧
  jRm x 1 15 ∧
  (∀ q : Int64, en q = some (.returned (some (.long q)), W))
theorem wma_quotient {x : jCx} {en : (Int64) → Option (Outcome × jW)} {W : jW} {a0 : Int64} {a2 : Int64} (h : hma_quotient x en a0 a2 W) : jJ x 6 0 [(0, vL a0), (2, vL a2)] [] W (fma_quotient a0 a2 W) en := by
  have h0 := h
  obtain ⟨hx, hm, hr, he⟩ := h0
  unfold fma_quotient
  refine j_runA hx 2 (tb := [(0, .lload_n 2), (1, .lconst 0)]) (jtb_ok (by decide +kernel)) (pc' := 2) (lv' := [(0, vL a0), (2, vL a2)]) (st' := [vL (kJ 0), vL a2]) rfl ?_
  refine j_lcmp_ge hx (off := 17) (tgt := 20) (by decide +kernel) (by decide +kernel) (by decide) (fun _ => ?_) (fun _ => ?_)
  · refine j_runA hx 2 (tb := [(20, .lload_n 0), (21, .lconst 0)]) (jtb_ok (by decide +kernel)) (pc' := 22) (lv' := [(0, vL a0), (2, vL a2)]) (st' := [vL (kJ 0), vL a0]) rfl ?_
    refine j_lcmp_lt hx (off := 7) (tgt := 30) (by decide +kernel) (by decide +kernel) (by decide) (fun _ => ?_) (fun _ => ?_)
    · refine j_runA hx 4 (tb := [(30, .lload_n 0), (31, .iconst 1), (32, .lushr), (33, .lload_n 2)]) (jtb_ok (by decide +kernel)) (pc' := 34) (lv' := [(0, vL a0), (2, vL a2)]) (st' := [vL a2, vL (lxu a0 (kI 1))]) rfl ?_
      refine j_gd (fun h1 => ?_)
      refine j_ldiv hx (by decide +kernel) h1 ?_
      refine j_runA hx 3 (tb := [(35, .iconst 1), (36, .lshl), (37, .lstore 4)]) (jtb_ok (by decide +kernel)) (pc' := 39) (lv' := [(4, vL (lxl ((lxu a0 (kI 1)) / a2) (kI 1))), (0, vL a0), (2, vL a2)]) (st' := []) rfl ?_
      refine j_let (v := (lxl ((lxu a0 (kI 1)) / a2) (kI 1))) (lv := fun v2 => [(4, vL v2), (0, vL a0), (2, vL a2)]) (st := fun _ => []) (fun v2 => ?_)
      refine j_runA hx 6 (tb := [(39, .lload_n 2), (40, .lload_n 0), (41, .lload 4), (43, .lload_n 2), (44, .lmul), (45, .lsub)]) (jtb_ok (by decide +kernel)) (pc' := 46) (lv' := [(4, vL v2), (0, vL a0), (2, vL a2)]) (st' := [vL (a0 - (v2 * a2)), vL a2]) rfl ?_
      refine j_TI (j_callS (av := [vL a2, vL (a0 - (v2 * a2))]) (st := []) hx hr (Or.inr ⟨_, q2094⟩) q819 q226 md_fcl_isAbove np_fcl_isAbove (ccl_isAbove a2 (a0 - (v2 * a2)) W) (by decide) (Nat.le_of_ble_eq_true rfl) (by decide +kernel)) ?_
      refine j_if_eq hx (off := 8) (tgt := 57) (by decide +kernel) (by decide) (fun _ => ?_) (fun _ => ?_)
      · refine j_runA hx 3 (tb := [(57, .lload 4), (59, .lconst 1), (60, .ladd)]) (jtb_ok (by decide +kernel)) (pc' := 61) (lv' := [(4, vL v2), (0, vL a0), (2, vL a2)]) (st' := [vL (v2 + (kJ 1))]) rfl ?_
        exact j_lret hx hm (by decide +kernel) (he _)
      refine j_runA hx 1 (tb := [(52, .lload 4)]) (jtb_ok (by decide +kernel)) (pc' := 54) (lv' := [(4, vL v2), (0, vL a0), (2, vL a2)]) (st' := [vL v2]) rfl ?_
      refine j_goto hx (off := 7) (by decide +kernel) (tgt := 61) (by decide) ?_
      exact j_lret hx hm (by decide +kernel) (he _)
    refine j_runA hx 2 (tb := [(26, .lload_n 0), (27, .lload_n 2)]) (jtb_ok (by decide +kernel)) (pc' := 28) (lv' := [(0, vL a0), (2, vL a2)]) (st' := [vL a2, vL a0]) rfl ?_
    refine j_gd (fun h3 => ?_)
    refine j_ldiv hx (by decide +kernel) h3 ?_
    exact j_lret hx hm (by decide +kernel) (he _)
  refine j_runA hx 2 (tb := [(6, .lload_n 2), (7, .lload_n 0)]) (jtb_ok (by decide +kernel)) (pc' := 8) (lv' := [(0, vL a0), (2, vL a2)]) (st' := [vL a0, vL a2]) rfl ?_
  refine j_TI (j_callS (av := [vL a2, vL a0]) (st := []) hx hr (Or.inr ⟨_, q2094⟩) q819 q226 md_fcl_isAbove np_fcl_isAbove (ccl_isAbove a2 a0 W) (by decide) (Nat.le_of_ble_eq_true rfl) (by decide +kernel)) ?_
  refine j_if_eq hx (off := 7) (tgt := 18) (by decide +kernel) (by decide) (fun _ => ?_) (fun _ => ?_)
  · refine j_runA hx 1 (tb := [(18, .lconst 1)]) (jtb_ok (by decide +kernel)) (pc' := 19) (lv' := [(0, vL a0), (2, vL a2)]) (st' := [vL (kJ 1)]) rfl ?_
    exact j_lret hx hm (by decide +kernel) (he _)
  refine j_runA hx 1 (tb := [(14, .lconst 0)]) (jtb_ok (by decide +kernel)) (pc' := 15) (lv' := [(0, vL a0), (2, vL a2)]) (st' := [vL (kJ 0)]) rfl ?_
  refine j_goto hx (off := 4) (by decide +kernel) (tgt := 19) (by decide) ?_
  exact j_lret hx hm (by decide +kernel) (he _)
theorem cma_quotient (a0 : Int64) (a2 : Int64) (W : jW) : jM yX15_quotient cX15_quotient 6 (Option.some Jvm.ClassFile.FieldType.long) [] 1 15 [vL a0, vL a2] W ((fma_quotient a0 a2 W).bind (fun q => some (.returned (some (.long q)), W))) := 
  jM.of (Nat.le_of_ble_eq_true rfl) (fun x hx hm hr => wma_quotient ⟨hx, hm, hr, fun _ => rfl⟩)
