/-! ===== walks: fcl_begin fpg_functionCount fcl_read fcl_place fpg_fixes fcl_count fcl_isFunction fog_room fco_size fpg_firstBlock fog_add fog_tell ===== -/
set_option maxRecDepth 100000
def hcl_begin (x : jCx) (en : (fcl_begin_S ⊕ (jW)) → Option (Outcome × jW)) (t : Nat) : Prop :=
  jOK x RX0 cX0_begin 5 ∧
  jMt x "begin" (Option.none : Option Jvm.ClassFile.FieldType) [] ∧
  jRm x 10 153 ∧
  (∀ q : jW, en (.inr q) = some (.returned none, q)) ∧
  (∀ (l1 : Int32) (l2 : Nat) (l3 : Nat) (l4 : Int32) (W : jW), jJ x 5 103 [(0, vR t), (1, vI l1), (2, vR l2), (3, vR l3), (4, vI l4)] [] W (some (.inl (.inl (l1, l2, l3, l4, W)))) en) ∧
  (∀ (l1 : Int32) (l2 : Int32) (W : jW), jJ x 5 191 [(0, vR t), (1, vI l1), (2, vI l2)] [] W (some (.inl (.inr (l1, l2, W)))) en)
theorem wcl_begin_191 {x : jCx} {en : (fcl_begin_S ⊕ (jW)) → Option (Outcome × jW)} {t : Nat} (h : hcl_begin x en t) (l1 : Int32) (l2 : Int32) (W : jW) : jJ x 5 191 [(0, vR t), (1, vI l1), (2, vI l2)] [] W (fcl_begin_191 t l1 l2 W) en := by
  have h0 := h
  obtain ⟨hx, hm, hr, he, k103, k191⟩ := h0
  unfold fcl_begin_191
  refine j_runA hx 2 (tb := [(191, .iload_n 2), (192, .iconst 3)]) (jtb_ok (by decide +kernel)) (pc' := 193) (lv' := [(0, vR t), (1, vI l1), (2, vI l2)]) (st' := [vI (kI 3), vI l2]) rfl ?_
  refine j_icmp_ge hx (off := 30) (tgt := 223) (by decide +kernel) (by decide) (fun _ => ?_) (fun _ => ?_)
  · refine j_runA hx 1 (tb := [(223, .aload_n 0)]) (jtb_ok (by decide +kernel)) (pc' := 224) (lv' := [(0, vR t), (1, vI l1), (2, vI l2)]) (st' := [vR t]) rfl ?_
    refine j_gd (fun h95 => ?_)
    refine j_WV (j_callV (av := []) (st := []) hx hr (Or.inl q1553) q1555 qs26 rfl md_fcl_forgetRuns np_fcl_forgetRuns (ccl_forgetRuns t W) (by decide) (Nat.le_of_ble_eq_true rfl) h95 (by decide) (by decide +kernel)) (fun q96 _ => ?_)
    exact j_vret hx hm (by decide +kernel) (he _)
  refine j_runA hx 1 (tb := [(196, .aload_n 0)]) (jtb_ok (by decide +kernel)) (pc' := 197) (lv' := [(0, vR t), (1, vI l1), (2, vI l2)]) (st' := [vR t]) rfl ?_
  refine j_gd (fun h98 => ?_)
  refine j_getR hx flX0_51 kl114 h98 (by decide) (by decide +kernel) ?_
  refine j_runA hx 2 (tb := [(200, .iload_n 2), (201, .aload_n 0)]) (jtb_ok (by decide +kernel)) (pc' := 202) (lv' := [(0, vR t), (1, vI l1), (2, vI l2)]) (st' := [vR t, vI l2, vR (jR W 114 t)]) rfl ?_
  refine j_getR hx flX0_58 kl116 h98 (by decide) (by decide +kernel) ?_
  refine j_runA hx 5 (tb := [(205, .iconst 3), (206, .iload_n 1), (207, .imul), (208, .iload_n 2), (209, .iadd)]) (jtb_ok (by decide +kernel)) (pc' := 210) (lv' := [(0, vR t), (1, vI l1), (2, vI l2)]) (st' := [vI (((kI 3) * l1) + l2), vR (jR W 116 t), vI l2, vR (jR W 114 t)]) rfl ?_
  refine j_gd (fun h99 => ?_)
  refine j_OR (j_callV (av := [vI (((kI 3) * l1) + l2)]) (st := [vI l2, vR (jR W 114 t)]) hx hr (Or.inl q1539) q1540 q1541 rfl md_fal_get np_fal_get (cal_get (jR W 116 t) (((kI 3) * l1) + l2) W) (by decide) (Nat.le_of_ble_eq_true rfl) h99 (by decide) (by decide +kernel)) (fun q100 _ => ?_)
  refine j_gd (fun h101 => ?_)
  refine j_cast hx h101 (by decide) q610 rfl (by decide +kernel) ?_
  refine j_gd (fun h102 => ?_)
  refine j_gd (fun h103 => ?_)
  refine j_aast hx (f := 114) (o := t) kd114 rfl (by decide +kernel) h102 h103 ?_
  refine j_ltw rfl (fun W104 hc105 => ?_)
  have h106 : jC W104 t = 1 := (congrFun hc105 _).trans h98
  have h107 : jC W104 (jR W 116 t) = 18 := (congrFun hc105 _).trans h99
  have h108 : jC W104 q100 = 10 := (congrFun hc105 _).trans h101
  refine j_runA hx 1 (tb := [(217, .iinc 2 1)]) (jtb_ok (by decide +kernel)) (pc' := 220) (lv' := [(2, vI (l2 + (kI 1))), (0, vR t), (1, vI l1)]) (st' := []) rfl ?_
  refine j_let (v := (l2 + (kI 1))) (lv := fun v110 => [(2, vI v110), (0, vR t), (1, vI l1)]) (st := fun _ => []) (fun v110 => ?_)
  refine j_goto hx (off := -29) (by decide +kernel) (tgt := 191) (by decide) ?_
  refine j_lv (lv' := [(0, vR t), (1, vI l1), (2, vI v110)]) ⟨rfl, rfl, rfl, trivial⟩ ?_
  exact k191 l1 v110 W104
theorem wcl_begin_138 {x : jCx} {en : (fcl_begin_S ⊕ (jW)) → Option (Outcome × jW)} {t : Nat} (h : hcl_begin x en t) (l1 : Int32) (W : jW) : jJ x 5 138 [(0, vR t), (1, vI l1)] [] W (fcl_begin_138 t l1 W) en := by
  have h0 := h
  obtain ⟨hx, hm, hr, he, k103, k191⟩ := h0
  unfold fcl_begin_138
  refine j_runA hx 2 (tb := [(138, .aload_n 0), (139, .aload_n 0)]) (jtb_ok (by decide +kernel)) (pc' := 140) (lv' := [(0, vR t), (1, vI l1)]) (st' := [vR t, vR t]) rfl ?_
  refine j_gd (fun h60 => ?_)
  refine j_getR hx flX0_65 kl118 h60 (by decide) (by decide +kernel) ?_
  refine j_runA hx 1 (tb := [(143, .iload_n 1)]) (jtb_ok (by decide +kernel)) (pc' := 144) (lv' := [(0, vR t), (1, vI l1)]) (st' := [vI l1, vR (jR W 118 t), vR t]) rfl ?_
  refine j_gd (fun h61 => ?_)
  refine j_OR (j_callV (av := [vI l1]) (st := [vR t]) hx hr (Or.inl q1539) q1540 q1541 rfl md_fal_get np_fal_get (cal_get (jR W 118 t) l1 W) (by decide) (Nat.le_of_ble_eq_true rfl) h61 (by decide) (by decide +kernel)) (fun q62 _ => ?_)
  refine j_gd (fun h63 => ?_)
  refine j_cast hx h63 (by decide) q1157 rfl (by decide +kernel) ?_
  refine j_putR hx fwX0_171 wf111 kd111 h60 (by decide) (by decide +kernel) nr111 fr111 ?_
  refine j_ltw rfl (fun W64 hc65 => ?_)
  have h66 : jC W64 t = 1 := (congrFun hc65 _).trans h60
  have h67 : jC W64 (jR W 118 t) = 18 := (congrFun hc65 _).trans h61
  have h68 : jC W64 q62 = 8 := (congrFun hc65 _).trans h63
  refine j_runA hx 2 (tb := [(153, .aload_n 0), (154, .aload_n 0)]) (jtb_ok (by decide +kernel)) (pc' := 155) (lv' := [(0, vR t), (1, vI l1)]) (st' := [vR t, vR t]) rfl ?_
  refine j_getR hx flX0_62 kl117 h66 (by decide) (by decide +kernel) ?_
  refine j_runA hx 3 (tb := [(158, .iconst 2), (159, .iload_n 1), (160, .imul)]) (jtb_ok (by decide +kernel)) (pc' := 161) (lv' := [(0, vR t), (1, vI l1)]) (st' := [vI ((kI 2) * l1), vR (jR W64 117 t), vR t]) rfl ?_
  refine j_gd (fun h70 => ?_)
  refine j_OR (j_callV (av := [vI ((kI 2) * l1)]) (st := [vR t]) hx hr (Or.inl q1539) q1540 q1541 rfl md_fal_get np_fal_get (cal_get (jR W64 117 t) ((kI 2) * l1) W64) (by decide) (Nat.le_of_ble_eq_true rfl) h70 (by decide) (by decide +kernel)) (fun q71 _ => ?_)
  refine j_gd (fun h72 => ?_)
  refine j_cast hx h72 (by decide) q1257 rfl (by decide +kernel) ?_
  refine j_putR hx fwX0_175 wf112 kd112 h66 (by decide) (by decide +kernel) nr112 fr112 ?_
  refine j_ltw rfl (fun W73 hc74 => ?_)
  have h75 : jC W73 t = 1 := (congrFun hc74 _).trans h66
  have h76 : jC W73 (jR W 118 t) = 18 := (congrFun hc74 _).trans h67
  have h77 : jC W73 q62 = 8 := (congrFun hc74 _).trans h68
  have h78 : jC W73 (jR W64 117 t) = 18 := (congrFun hc74 _).trans h70
  have h79 : jC W73 q71 = 9 := (congrFun hc74 _).trans h72
  refine j_runA hx 2 (tb := [(170, .aload_n 0), (171, .aload_n 0)]) (jtb_ok (by decide +kernel)) (pc' := 172) (lv' := [(0, vR t), (1, vI l1)]) (st' := [vR t, vR t]) rfl ?_
  refine j_getR hx flX0_62 kl117 h75 (by decide) (by decide +kernel) ?_
  refine j_runA hx 5 (tb := [(175, .iconst 2), (176, .iload_n 1), (177, .imul), (178, .iconst 1), (179, .iadd)]) (jtb_ok (by decide +kernel)) (pc' := 180) (lv' := [(0, vR t), (1, vI l1)]) (st' := [vI (((kI 2) * l1) + (kI 1)), vR (jR W73 117 t), vR t]) rfl ?_
  refine j_gd (fun h81 => ?_)
  refine j_OR (j_callV (av := [vI (((kI 2) * l1) + (kI 1))]) (st := [vR t]) hx hr (Or.inl q1539) q1540 q1541 rfl md_fal_get np_fal_get (cal_get (jR W73 117 t) (((kI 2) * l1) + (kI 1)) W73) (by decide) (Nat.le_of_ble_eq_true rfl) h81 (by decide) (by decide +kernel)) (fun q82 _ => ?_)
  refine j_gd (fun h83 => ?_)
  refine j_cast hx h83 (by decide) q1257 rfl (by decide +kernel) ?_
  refine j_putR hx fwX0_179 wf113 kd113 h75 (by decide) (by decide +kernel) nr113 fr113 ?_
  refine j_ltw rfl (fun W84 hc85 => ?_)
  have h86 : jC W84 t = 1 := (congrFun hc85 _).trans h75
  have h87 : jC W84 (jR W 118 t) = 18 := (congrFun hc85 _).trans h76
  have h88 : jC W84 q62 = 8 := (congrFun hc85 _).trans h77
  have h89 : jC W84 (jR W64 117 t) = 18 := (congrFun hc85 _).trans h78
  have h90 : jC W84 q71 = 9 := (congrFun hc85 _).trans h79
  have h91 : jC W84 (jR W73 117 t) = 18 := (congrFun hc85 _).trans h81
  have h92 : jC W84 q82 = 9 := (congrFun hc85 _).trans h83
  refine j_runA hx 2 (tb := [(189, .iconst 0), (190, .istore_n 2)]) (jtb_ok (by decide +kernel)) (pc' := 191) (lv' := [(2, vI (kI 0)), (0, vR t), (1, vI l1)]) (st' := []) rfl ?_
  refine j_lv (lv' := [(0, vR t), (1, vI l1), (2, vI (kI 0))]) ⟨rfl, rfl, rfl, trivial⟩ ?_
  exact k191 l1 (kI 0) W84
theorem wcl_begin_103 {x : jCx} {en : (fcl_begin_S ⊕ (jW)) → Option (Outcome × jW)} {t : Nat} (h : hcl_begin x en t) (l1 : Int32) (l2 : Nat) (l3 : Nat) (l4 : Int32) (W : jW) : jJ x 5 103 [(0, vR t), (1, vI l1), (2, vR l2), (3, vR l3), (4, vI l4)] [] W (fcl_begin_103 t l1 l2 l3 l4 W) en := by
  have h0 := h
  obtain ⟨hx, hm, hr, he, k103, k191⟩ := h0
  unfold fcl_begin_103
  refine j_runA hx 2 (tb := [(103, .iload 4), (105, .iconst 3)]) (jtb_ok (by decide +kernel)) (pc' := 106) (lv' := [(0, vR t), (1, vI l1), (2, vR l2), (3, vR l3), (4, vI l4)]) (st' := [vI (kI 3), vI l4]) rfl ?_
  refine j_icmp_ge hx (off := 32) (tgt := 138) (by decide +kernel) (by decide) (fun _ => ?_) (fun _ => ?_)
  · refine j_lv (lv' := [(0, vR t), (1, vI l1)]) ⟨rfl, rfl, trivial⟩ ?_
    exact wcl_begin_138 h l1 W
  refine j_runA hx 1 (tb := [(109, .aload_n 0)]) (jtb_ok (by decide +kernel)) (pc' := 110) (lv' := [(0, vR t), (1, vI l1), (2, vR l2), (3, vR l3), (4, vI l4)]) (st' := [vR t]) rfl ?_
  refine j_gd (fun h47 => ?_)
  refine j_getR hx flX0_58 kl116 h47 (by decide) (by decide +kernel) ?_
  refine j_gd (fun h48 => ?_)
  refine j_new hx nlX0_49 (N := 24) rfl (by decide +kernel) h48 ?_
  refine j_ltn (fun W49 => ?_)
  refine j_runA hx 3 (tb := [(116, .dup), (117, .iload 4), (119, .aload_n 0)]) (jtb_ok (by decide +kernel)) (pc' := 120) (lv' := [(0, vR t), (1, vI l1), (2, vR l2), (3, vR l3), (4, vI l4)]) (st' := [vR t, vI l4, vR (jX W), vR (jX W), vR (jR W 116 t)]) rfl ?_
  refine j_gd (fun h51 => ?_)
  refine j_getR hx flX0_29 kl104 h51 (by decide) (by decide +kernel) ?_
  refine j_runA hx 2 (tb := [(123, .aload_n 3), (124, .aload_n 2)]) (jtb_ok (by decide +kernel)) (pc' := 125) (lv' := [(0, vR t), (1, vI l1), (2, vR l2), (3, vR l3), (4, vI l4)]) (st' := [vR l2, vR l3, vR (jR W49 104 t), vI l4, vR (jX W), vR (jX W), vR (jR W 116 t)]) rfl ?_
  refine j_gd (fun h52 => ?_)
  refine j_WV (j_callI (av := [vI l4, vR (jR W49 104 t), vR l3, vR l2]) (st := [vR (jX W), vR (jR W 116 t)]) hx hr (Or.inl q1400) q1401 rfl q1402 md_fma_init np_fma_init (cma_init (jX W) l4 (jR W49 104 t) l3 l2 W49) (by decide) (Nat.le_of_ble_eq_true rfl) h52 (by decide) (by decide +kernel)) (fun q53 _ => ?_)
  refine j_gd (fun h55 => ?_)
  refine j_WI (j_callV (av := [vR (jX W)]) (st := []) hx hr (Or.inl q1336) q1337 q1338 rfl md_fal_add np_fal_add (cal_add (jR W 116 t) (jX W) q53) (by decide) (Nat.le_of_ble_eq_true rfl) h55 (by decide) (by decide +kernel)) (fun q56 _ => ?_)
  refine j_runA hx 2 (tb := [(131, .pop), (132, .iinc 4 1)]) (jtb_ok (by decide +kernel)) (pc' := 135) (lv' := [(4, vI (l4 + (kI 1))), (0, vR t), (1, vI l1), (2, vR l2), (3, vR l3)]) (st' := []) rfl ?_
  refine j_let (v := (l4 + (kI 1))) (lv := fun v58 => [(4, vI v58), (0, vR t), (1, vI l1), (2, vR l2), (3, vR l3)]) (st := fun _ => []) (fun v58 => ?_)
  refine j_goto hx (off := -32) (by decide +kernel) (tgt := 103) (by decide) ?_
  refine j_lv (lv' := [(0, vR t), (1, vI l1), (2, vR l2), (3, vR l3), (4, vI v58)]) ⟨rfl, rfl, rfl, rfl, rfl, trivial⟩ ?_
  exact k103 l1 l2 l3 v58 q56.2
theorem wcl_begin_31 {x : jCx} {en : (fcl_begin_S ⊕ (jW)) → Option (Outcome × jW)} {t : Nat} (h : hcl_begin x en t) (s0 : Int32) (W : jW) : jJ x 5 31 [(0, vR t)] [vI s0] W (fcl_begin_31 t s0 W) en := by
  have h0 := h
  obtain ⟨hx, hm, hr, he, k103, k191⟩ := h0
  unfold fcl_begin_31
  refine j_runA hx 2 (tb := [(31, .istore_n 1), (32, .aload_n 0)]) (jtb_ok (by decide +kernel)) (pc' := 33) (lv' := [(1, vI s0), (0, vR t)]) (st' := [vR t]) rfl ?_
  refine j_gd (fun h9 => ?_)
  refine j_getR hx flX0_65 kl118 h9 (by decide) (by decide +kernel) ?_
  refine j_gd (fun h10 => ?_)
  refine j_OI (j_callV (av := []) (st := []) hx hr (Or.inl q1153) q1154 q1155 rfl md_fal_size np_fal_size (cal_size (jR W 118 t) W) (by decide) (Nat.le_of_ble_eq_true rfl) h10 (by decide) (by decide +kernel)) (fun q11 _ => ?_)
  refine j_runA hx 1 (tb := [(39, .iload_n 1)]) (jtb_ok (by decide +kernel)) (pc' := 40) (lv' := [(1, vI s0), (0, vR t)]) (st' := [vI s0, vI q11]) rfl ?_
  refine j_icmp_gt hx (off := 98) (tgt := 138) (by decide +kernel) (by decide) (fun _ => ?_) (fun _ => ?_)
  · refine j_lv (lv' := [(0, vR t), (1, vI s0)]) ⟨rfl, rfl, trivial⟩ ?_
    exact wcl_begin_138 h s0 W
  refine j_gd (fun h12 => ?_)
  refine j_new hx nlX0_152 (N := 29) rfl (by decide +kernel) h12 ?_
  refine j_ltn (fun W13 => ?_)
  refine j_runA hx 1 (tb := [(46, .dup)]) (jtb_ok (by decide +kernel)) (pc' := 47) (lv' := [(1, vI s0), (0, vR t)]) (st' := [vR (jX W), vR (jX W)]) rfl ?_
  refine j_gd (fun h15 => ?_)
  refine j_WV (j_callI (av := []) (st := [vR (jX W)]) hx hr (Or.inr ⟨_, q1159⟩) q1160 rfl q1161 md_fog_init np_fog_init (cog_init (jX W) W13) (by decide) (Nat.le_of_ble_eq_true rfl) h15 (by decide) (by decide +kernel)) (fun q16 _ => ?_)
  refine j_runA hx 1 (tb := [(50, .astore_n 2)]) (jtb_ok (by decide +kernel)) (pc' := 51) (lv' := [(2, vR (jX W)), (1, vI s0), (0, vR t)]) (st' := []) rfl ?_
  refine j_let (v := (jX W)) (lv := fun v18 => [(2, vR v18), (1, vI s0), (0, vR t)]) (st := fun _ => []) (fun v18 => ?_)
  refine j_gd (fun h19 => ?_)
  refine j_new hx nlX0_155 (N := 21) rfl (by decide +kernel) h19 ?_
  refine j_ltn (fun W20 => ?_)
  refine j_runA hx 2 (tb := [(54, .dup), (55, .aload_n 0)]) (jtb_ok (by decide +kernel)) (pc' := 56) (lv' := [(2, vR v18), (1, vI s0), (0, vR t)]) (st' := [vR t, vR (jX q16), vR (jX q16)]) rfl ?_
  refine j_gd (fun h22 => ?_)
  refine j_getR hx flX0_29 kl104 h22 (by decide) (by decide +kernel) ?_
  refine j_gd (fun h23 => ?_)
  refine j_WV (j_callI (av := [vR (jR W20 104 t)]) (st := [vR (jX q16)]) hx hr (Or.inl q1259) q1260 rfl q1261 md_fwr_init np_fwr_init (cwr_init (jX q16) (jR W20 104 t) W20) (by decide) (Nat.le_of_ble_eq_true rfl) h23 (by decide) (by decide +kernel)) (fun q24 _ => ?_)
  refine j_runA hx 1 (tb := [(62, .astore_n 3)]) (jtb_ok (by decide +kernel)) (pc' := 63) (lv' := [(3, vR (jX q16)), (2, vR v18), (1, vI s0), (0, vR t)]) (st' := []) rfl ?_
  refine j_let (v := (jX q16)) (lv := fun v26 => [(3, vR v26), (2, vR v18), (1, vI s0), (0, vR t)]) (st := fun _ => []) (fun v26 => ?_)
  refine j_runA hx 1 (tb := [(63, .aload_n 0)]) (jtb_ok (by decide +kernel)) (pc' := 64) (lv' := [(3, vR v26), (2, vR v18), (1, vI s0), (0, vR t)]) (st' := [vR t]) rfl ?_
  refine j_gd (fun h27 => ?_)
  refine j_getR hx flX0_65 kl118 h27 (by decide) (by decide +kernel) ?_
  refine j_runA hx 1 (tb := [(67, .aload_n 2)]) (jtb_ok (by decide +kernel)) (pc' := 68) (lv' := [(3, vR v26), (2, vR v18), (1, vI s0), (0, vR t)]) (st' := [vR v18, vR (jR q24 118 t)]) rfl ?_
  refine j_gd (fun h28 => ?_)
  refine j_WI (j_callV (av := [vR v18]) (st := []) hx hr (Or.inl q1336) q1337 q1338 rfl md_fal_add np_fal_add (cal_add (jR q24 118 t) v18 q24) (by decide) (Nat.le_of_ble_eq_true rfl) h28 (by decide) (by decide +kernel)) (fun q29 _ => ?_)
  refine j_runA hx 2 (tb := [(71, .pop), (72, .aload_n 0)]) (jtb_ok (by decide +kernel)) (pc' := 73) (lv' := [(3, vR v26), (2, vR v18), (1, vI s0), (0, vR t)]) (st' := [vR t]) rfl ?_
  refine j_gd (fun h31 => ?_)
  refine j_getR hx flX0_62 kl117 h31 (by decide) (by decide +kernel) ?_
  refine j_runA hx 1 (tb := [(76, .aload_n 3)]) (jtb_ok (by decide +kernel)) (pc' := 77) (lv' := [(3, vR v26), (2, vR v18), (1, vI s0), (0, vR t)]) (st' := [vR v26, vR (jR q29.2 117 t)]) rfl ?_
  refine j_gd (fun h32 => ?_)
  refine j_WI (j_callV (av := [vR v26]) (st := []) hx hr (Or.inl q1336) q1337 q1338 rfl md_fal_add np_fal_add (cal_add (jR q29.2 117 t) v26 q29.2) (by decide) (Nat.le_of_ble_eq_true rfl) h32 (by decide) (by decide +kernel)) (fun q33 _ => ?_)
  refine j_runA hx 2 (tb := [(80, .pop), (81, .aload_n 0)]) (jtb_ok (by decide +kernel)) (pc' := 82) (lv' := [(3, vR v26), (2, vR v18), (1, vI s0), (0, vR t)]) (st' := [vR t]) rfl ?_
  refine j_gd (fun h35 => ?_)
  refine j_getR hx flX0_62 kl117 h35 (by decide) (by decide +kernel) ?_
  refine j_gd (fun h36 => ?_)
  refine j_new hx nlX0_155 (N := 21) rfl (by decide +kernel) h36 ?_
  refine j_ltn (fun W37 => ?_)
  refine j_runA hx 2 (tb := [(88, .dup), (89, .aload_n 0)]) (jtb_ok (by decide +kernel)) (pc' := 90) (lv' := [(3, vR v26), (2, vR v18), (1, vI s0), (0, vR t)]) (st' := [vR t, vR (jX q33.2), vR (jX q33.2), vR (jR q33.2 117 t)]) rfl ?_
  refine j_gd (fun h39 => ?_)
  refine j_getR hx flX0_29 kl104 h39 (by decide) (by decide +kernel) ?_
  refine j_gd (fun h40 => ?_)
  refine j_WV (j_callI (av := [vR (jR W37 104 t)]) (st := [vR (jX q33.2), vR (jR q33.2 117 t)]) hx hr (Or.inl q1259) q1260 rfl q1261 md_fwr_init np_fwr_init (cwr_init (jX q33.2) (jR W37 104 t) W37) (by decide) (Nat.le_of_ble_eq_true rfl) h40 (by decide) (by decide +kernel)) (fun q41 _ => ?_)
  refine j_gd (fun h43 => ?_)
  refine j_WI (j_callV (av := [vR (jX q33.2)]) (st := []) hx hr (Or.inl q1336) q1337 q1338 rfl md_fal_add np_fal_add (cal_add (jR q33.2 117 t) (jX q33.2) q41) (by decide) (Nat.le_of_ble_eq_true rfl) h43 (by decide) (by decide +kernel)) (fun q44 _ => ?_)
  refine j_runA hx 3 (tb := [(99, .pop), (100, .iconst 0), (101, .istore 4)]) (jtb_ok (by decide +kernel)) (pc' := 103) (lv' := [(4, vI (kI 0)), (3, vR v26), (2, vR v18), (1, vI s0), (0, vR t)]) (st' := []) rfl ?_
  refine j_lv (lv' := [(0, vR t), (1, vI s0), (2, vR v18), (3, vR v26), (4, vI (kI 0))]) ⟨rfl, rfl, rfl, rfl, rfl, trivial⟩ ?_
  exact k103 s0 v18 v26 (kI 0) q44.2
theorem wcl_begin_15 {x : jCx} {en : (fcl_begin_S ⊕ (jW)) → Option (Outcome × jW)} {t : Nat} (h : hcl_begin x en t) (W : jW) : jJ x 5 15 [(0, vR t)] [] W (fcl_begin_15 t W) en := by
  have h0 := h
  obtain ⟨hx, hm, hr, he, k103, k191⟩ := h0
  unfold fcl_begin_15
  refine j_runA hx 1 (tb := [(15, .aload_n 0)]) (jtb_ok (by decide +kernel)) (pc' := 16) (lv' := [(0, vR t)]) (st' := [vR t]) rfl ?_
  refine j_gd (fun h7 => ?_)
  refine j_getR hx flX0_29 kl104 h7 (by decide) (by decide +kernel) ?_
  refine j_runA hx 1 (tb := [(19, .aload_n 0)]) (jtb_ok (by decide +kernel)) (pc' := 20) (lv' := [(0, vR t)]) (st' := [vR t, vR (jR W 104 t)]) rfl ?_
  refine j_getR hx flX0_147 kl119 h7 (by decide) (by decide +kernel) ?_
  refine j_acmp_ne hx (off := 7) (tgt := 30) (by decide +kernel) (by decide) (fun _ => ?_) (fun _ => ?_)
  · refine j_runA hx 1 (tb := [(30, .iconst 1)]) (jtb_ok (by decide +kernel)) (pc' := 31) (lv' := [(0, vR t)]) (st' := [vI (kI 1)]) rfl ?_
    exact wcl_begin_31 h (kI 1) W
  refine j_runA hx 1 (tb := [(26, .iconst 0)]) (jtb_ok (by decide +kernel)) (pc' := 27) (lv' := [(0, vR t)]) (st' := [vI (kI 0)]) rfl ?_
  refine j_goto hx (off := 4) (by decide +kernel) (tgt := 31) (by decide) ?_
  exact wcl_begin_31 h (kI 0) W
theorem wcl_begin {x : jCx} {en : (fcl_begin_S ⊕ (jW)) → Option (Outcome × jW)} {t : Nat} (h : hcl_begin x en t) (W : jW) : jJ x 5 0 [(0, vR t)] [] W (fcl_begin_0 t W) en := by
  have h0 := h
  obtain ⟨hx, hm, hr, he, k103, k191⟩ := h0
  unfold fcl_begin_0
  refine j_runA hx 1 (tb := [(0, .aload_n 0)]) (jtb_ok (by decide +kernel)) (pc' := 1) (lv' := [(0, vR t)]) (st' := [vR t]) rfl ?_
  refine j_gd (fun h1 => ?_)
  refine j_getR hx flX0_147 kl119 h1 (by decide) (by decide +kernel) ?_
  refine j_ifnonnull hx (off := 11) (tgt := 15) (by decide +kernel) (by decide) (fun _ => ?_) (fun _ => ?_)
  · refine j_runA hx 2 (tb := [(7, .aload_n 0), (8, .aload_n 0)]) (jtb_ok (by decide +kernel)) (pc' := 9) (lv' := [(0, vR t)]) (st' := [vR t, vR t]) rfl ?_
    refine j_getR hx flX0_29 kl104 h1 (by decide) (by decide +kernel) ?_
    refine j_putR hx fwX0_147 wf119 kd119 h1 (by decide) (by decide +kernel) nr119 fr119 ?_
    refine j_ltw rfl (fun W2 hc3 => ?_)
    have h4 : jC W2 t = 1 := (congrFun hc3 _).trans h1
    exact wcl_begin_15 h W2
  exact wcl_begin_15 h W
theorem ccl_begin (t : Nat) (W : jW) : jM yX0_begin cX0_begin 5 (Option.none : Option Jvm.ClassFile.FieldType) [] 10 153 [vR t] W ((fcl_begin t W).bind (fun q => some (.returned none, q))) := by
  refine jM.of (Nat.le_of_ble_eq_true rfl) (fun x hx hm hr => ?_)
  refine j_begin (P := (Sum.elim (fun s => (103, [(0, vR t), (1, vI s.1), (2, vR s.2.1), (3, vR s.2.2.1), (4, vI s.2.2.2.1)], s.2.2.2.2)) (fun s => (191, [(0, vR t), (1, vI s.1), (2, vI s.2.1)], s.2.2)))) (fun en he hk => ?_)
  have h : hcl_begin x en t := ⟨hx, hm, hr, fun q => he _, fun l1 l2 l3 l4 W => hk (.inl (l1, l2, l3, l4, W)), fun l1 l2 W => hk (.inr (l1, l2, W))⟩
  refine ⟨fun s => ?_, wcl_begin h W⟩
  rcases s with s | s
  · exact wcl_begin_103 h s.1 s.2.1 s.2.2.1 s.2.2.2.1 s.2.2.2.2
  · exact wcl_begin_191 h s.1 s.2.1 s.2.2
def hpg_functionCount (x : jCx) (en : (Int32) → Option (Outcome × jW)) (t : Nat) (W : jW) : Prop :=
  jOK x RX1 cX1_functionCount 1 ∧
  jMt x "functionCount" (Option.some Jvm.ClassFile.FieldType.int) [] ∧
  jRm x 0 0 ∧
  (∀ q : Int32, en q = some (.returned (some (.int q)), W))
theorem wpg_functionCount {x : jCx} {en : (Int32) → Option (Outcome × jW)} {W : jW} {t : Nat} (h : hpg_functionCount x en t W) : jJ x 1 0 [(0, vR t)] [] W (fpg_functionCount t W) en := by
  have h0 := h
  obtain ⟨hx, hm, hr, he⟩ := h0
  unfold fpg_functionCount
  refine j_runA hx 1 (tb := [(0, .aload_n 0)]) (jtb_ok (by decide +kernel)) (pc' := 1) (lv' := [(0, vR t)]) (st' := [vR t]) rfl ?_
  refine j_gd (fun h1 => ?_)
  refine j_getR hx flX1_52 kl209 h1 (by decide) (by decide +kernel) ?_
  refine j_gd (fun h2 => ?_)
  refine j_getI hx flX1_90 kd601 h2 (by decide) (by decide +kernel) ?_
  exact j_iret hx hm (by decide +kernel) rfl (he _)
theorem cpg_functionCount (t : Nat) (W : jW) : jM yX1_functionCount cX1_functionCount 1 (Option.some Jvm.ClassFile.FieldType.int) [] 0 0 [vR t] W ((fpg_functionCount t W).bind (fun q => some (.returned (some (.int q)), W))) := 
  jM.of (Nat.le_of_ble_eq_true rfl) (fun x hx hm hr => wpg_functionCount ⟨hx, hm, hr, fun _ => rfl⟩)
def hcl_read (x : jCx) (en : (Int32 × jW) → Option (Outcome × jW)) (t : Nat) : Prop :=
  jOK x RX0 cX0_read 3 ∧
  jMt x "read" (Option.some Jvm.ClassFile.FieldType.int) [(46, 50, 53, 120)] ∧
  jRm x 11 169 ∧
  (∀ q : Int32 × jW, en q = some (.returned (some (.int q.1)), q.2))
theorem wcl_read_53 {x : jCx} {en : (Int32 × jW) → Option (Outcome × jW)} {t : Nat} (h : hcl_read x en t) (l1 : Nat) (s0 : Nat) (W : jW) : jJ x 3 53 [(0, vR t), (1, vR l1)] [vR s0] W (fcl_read_53 t l1 s0 W) en := by
  have h0 := h
  obtain ⟨hx, hm, hr, he⟩ := h0
  unfold fcl_read_53
  refine j_runA hx 3 (tb := [(53, .astore_n 2), (54, .aload_n 0), (55, .aload_n 1)]) (jtb_ok (by decide +kernel)) (pc' := 56) (lv' := [(2, vR s0), (0, vR t), (1, vR l1)]) (st' := [vR l1, vR t]) rfl ?_
  refine j_gd (fun h75 => ?_)
  refine j_OI (j_callV (av := []) (st := [vR t]) hx hr (Or.inl q1137) q1138 q1139 rfl md_fpg_place np_fpg_place (cpg_place l1 W) (by decide) (Nat.le_of_ble_eq_true rfl) h75 (by decide) (by decide +kernel)) (fun q76 _ => ?_)
  refine j_gd (fun h77 => ?_)
  refine j_putI hx fwX0_22 wf103 kd103 h77 (by decide) (by decide +kernel) (ni103 _) (fi103 _) ?_
  refine j_ltw rfl (fun W78 hc79 => ?_)
  have h80 : jC W78 l1 = 2 := (congrFun hc79 _).trans h75
  have h81 : jC W78 t = 1 := (congrFun hc79 _).trans h77
  refine j_runA hx 1 (tb := [(62, .aload_n 1)]) (jtb_ok (by decide +kernel)) (pc' := 63) (lv' := [(2, vR s0), (0, vR t), (1, vR l1)]) (st' := [vR l1]) rfl ?_
  refine j_OI (j_callV (av := []) (st := []) hx hr (Or.inl q1141) q1142 q1143 rfl md_fpg_rule np_fpg_rule (cpg_rule l1 W78) (by decide) (Nat.le_of_ble_eq_true rfl) h80 (by decide) (by decide +kernel)) (fun q83 _ => ?_)
  refine j_runA hx 1 (tb := [(66, .ineg)]) (jtb_ok (by decide +kernel)) (pc' := 67) (lv' := [(2, vR s0), (0, vR t), (1, vR l1)]) (st' := [vI (-q83)]) rfl ?_
  exact j_iret hx hm (by decide +kernel) rfl (he _)
theorem wcl_read {x : jCx} {en : (Int32 × jW) → Option (Outcome × jW)} {t : Nat} (h : hcl_read x en t) (W : jW) : jJ x 3 0 [(0, vR t)] [] W (fcl_read t W) en := by
  have h0 := h
  obtain ⟨hx, hm, hr, he⟩ := h0
  unfold fcl_read
  refine j_runA hx 2 (tb := [(0, .aload_n 0), (1, .iconst (-1))]) (jtb_ok (by decide +kernel)) (pc' := 2) (lv' := [(0, vR t)]) (st' := [vI (kI (-1)), vR t]) rfl ?_
  refine j_gd (fun h1 => ?_)
  refine j_putI hx fwX0_22 wf103 kd103 h1 (by decide) (by decide +kernel) (ni103 _) (fi103 _) ?_
  refine j_ltw rfl (fun W2 hc3 => ?_)
  have h4 : jC W2 t = 1 := (congrFun hc3 _).trans h1
  refine j_runA hx 1 (tb := [(5, .aload_n 0)]) (jtb_ok (by decide +kernel)) (pc' := 6) (lv' := [(0, vR t)]) (st' := [vR t]) rfl ?_
  refine j_getR hx flX0_33 kl105 h4 (by decide) (by decide +kernel) ?_
  refine j_runA hx 1 (tb := [(9, .astore_n 1)]) (jtb_ok (by decide +kernel)) (pc' := 10) (lv' := [(1, vR (jR W2 105 t)), (0, vR t)]) (st' := []) rfl ?_
  refine j_let (v := (jR W2 105 t)) (lv := fun v6 => [(1, vR v6), (0, vR t)]) (st := fun _ => []) (fun v6 => ?_)
  refine j_runA hx 1 (tb := [(10, .aload_n 0)]) (jtb_ok (by decide +kernel)) (pc' := 11) (lv' := [(1, vR v6), (0, vR t)]) (st' := [vR t]) rfl ?_
  refine j_getR hx flX0_18 kl100 h4 (by decide) (by decide +kernel) ?_
  refine j_runA hx 2 (tb := [(14, .iconst 0), (15, .aload_n 1)]) (jtb_ok (by decide +kernel)) (pc' := 16) (lv' := [(1, vR v6), (0, vR t)]) (st' := [vR v6, vI (kI 0), vR (jR W2 100 t)]) rfl ?_
  refine j_gd (fun h7 => ?_)
  refine j_getR hx flX0_99 kl202 h7 (by decide) (by decide +kernel) ?_
  refine j_gd (fun h8 => ?_)
  refine j_getR hx flX0_103 kl500 h8 (by decide) (by decide +kernel) ?_
  refine j_runA hx 2 (tb := [(22, .iconst 0), (23, .aload_n 0)]) (jtb_ok (by decide +kernel)) (pc' := 24) (lv' := [(1, vR v6), (0, vR t)]) (st' := [vR t, vI (kI 0), vR (jR W2 500 (jR W2 202 v6)), vI (kI 0), vR (jR W2 100 t)]) rfl ?_
  refine j_getI hx flX0_88 kd101 h4 (by decide) (by decide +kernel) ?_
  refine j_gd (fun h9 => ?_)
  refine j_gd (fun h10 => ?_)
  refine j_gd (fun h11 => ?_)
  refine j_cpY (f := 100) (o := t) (f2 := 500) (o2 := (jR W2 202 v6)) hx hr q733 q735 q734 q245 (by decide +kernel) kd100 kd500 rfl rfl h9 h10 h11 (by decide) (Nat.le_of_ble_eq_true rfl) ?_
  refine j_ltw rfl (fun W12 hc13 => ?_)
  have h14 : jC W12 t = 1 := (congrFun hc13 _).trans h4
  have h15 : jC W12 v6 = 2 := (congrFun hc13 _).trans h7
  have h16 : jC W12 (jR W2 202 v6) = 5 := (congrFun hc13 _).trans h8
  refine j_runA hx 1 (tb := [(30, .aload_n 1)]) (jtb_ok (by decide +kernel)) (pc' := 31) (lv' := [(1, vR v6), (0, vR t)]) (st' := [vR v6]) rfl ?_
  refine j_getR hx flX0_99 kl202 h15 (by decide) (by decide +kernel) ?_
  refine j_runA hx 1 (tb := [(34, .aload_n 0)]) (jtb_ok (by decide +kernel)) (pc' := 35) (lv' := [(1, vR v6), (0, vR t)]) (st' := [vR t, vR (jR W12 202 v6)]) rfl ?_
  refine j_getI hx flX0_88 kd101 h14 (by decide) (by decide +kernel) ?_
  refine j_gd (fun h18 => ?_)
  refine j_putI hx fwX0_114 wf501 kd501 h18 (by decide) (by decide +kernel) (ni501 _) (fi501 _) ?_
  refine j_ltw rfl (fun W19 hc20 => ?_)
  have h21 : jC W19 t = 1 := (congrFun hc20 _).trans h14
  have h22 : jC W19 v6 = 2 := (congrFun hc20 _).trans h15
  have h23 : jC W19 (jR W2 202 v6) = 5 := (congrFun hc20 _).trans h16
  have h24 : jC W19 (jR W12 202 v6) = 5 := (congrFun hc20 _).trans h18
  refine j_runA hx 2 (tb := [(41, .aload_n 0), (42, .iconst 0)]) (jtb_ok (by decide +kernel)) (pc' := 43) (lv' := [(1, vR v6), (0, vR t)]) (st' := [vI (kI 0), vR t]) rfl ?_
  refine j_putI hx fwX0_88 wf101 kd101 h21 (by decide) (by decide +kernel) (ni101 _) (fi101 _) ?_
  refine j_ltw rfl (fun W26 hc27 => ?_)
  have h28 : jC W26 t = 1 := (congrFun hc27 _).trans h21
  have h29 : jC W26 v6 = 2 := (congrFun hc27 _).trans h22
  have h30 : jC W26 (jR W2 202 v6) = 5 := (congrFun hc27 _).trans h23
  have h31 : jC W26 (jR W12 202 v6) = 5 := (congrFun hc27 _).trans h24
  refine j_runA hx 1 (tb := [(46, .aload_n 1)]) (jtb_ok (by decide +kernel)) (pc' := 47) (lv' := [(1, vR v6), (0, vR t)]) (st' := [vR v6]) rfl ?_
  refine j_EV (j_callV (av := []) (st := []) hx hr (Or.inl q736) q737 q738 rfl md_fpg_take np_fpg_take (cpg_take v6 W26) (by decide) (Nat.le_of_ble_eq_true rfl) h29 (by decide) (by decide +kernel)) (fun z _ => j_catch hx hm q732 rfl (by decide) (by decide) (fun _ => ?_)) (fun q33 _ => ?_)
  · refine j_lv (lv' := [(0, vR t), (1, vR v6)]) ⟨rfl, rfl, trivial⟩ ?_
    exact wcl_read_53 h v6 z.1 z.2
  refine j_goto hx (off := 18) (by decide +kernel) (tgt := 68) (by decide) ?_
  refine j_runA hx 2 (tb := [(68, .aload_n 0), (69, .aload_n 0)]) (jtb_ok (by decide +kernel)) (pc' := 70) (lv' := [(1, vR v6), (0, vR t)]) (st' := [vR t, vR t]) rfl ?_
  refine j_gd (fun h36 => ?_)
  refine j_getR hx flX0_29 kl104 h36 (by decide) (by decide +kernel) ?_
  refine j_putR hx fwX0_33 wf105 kd105 h36 (by decide) (by decide +kernel) nr105 fr105 ?_
  refine j_ltw rfl (fun W37 hc38 => ?_)
  have h39 : jC W37 t = 1 := (congrFun hc38 _).trans h36
  refine j_runA hx 2 (tb := [(76, .aload_n 0), (77, .aload_n 1)]) (jtb_ok (by decide +kernel)) (pc' := 78) (lv' := [(1, vR v6), (0, vR t)]) (st' := [vR v6, vR t]) rfl ?_
  refine j_putR hx fwX0_29 wf104 kd104 h39 (by decide) (by decide +kernel) nr104 fr104 ?_
  refine j_ltw rfl (fun W41 hc42 => ?_)
  have h43 : jC W41 t = 1 := (congrFun hc42 _).trans h39
  refine j_runA hx 2 (tb := [(81, .aload_n 0), (82, .iconst 1)]) (jtb_ok (by decide +kernel)) (pc' := 83) (lv' := [(1, vR v6), (0, vR t)]) (st' := [vI (kI 1), vR t]) rfl ?_
  refine j_putI hx fwX0_128 wf106 kd106 h43 (by decide) (by decide +kernel) (nz106 jz1) (fz106 jz1) ?_
  refine j_ltw rfl (fun W45 hc46 => ?_)
  have h47 : jC W45 t = 1 := (congrFun hc46 _).trans h43
  refine j_runA hx 2 (tb := [(86, .aload_n 0), (87, .iconst 0)]) (jtb_ok (by decide +kernel)) (pc' := 88) (lv' := [(1, vR v6), (0, vR t)]) (st' := [vI (kI 0), vR t]) rfl ?_
  refine j_putI hx fwX0_132 wf107 kd107 h47 (by decide) (by decide +kernel) (nz107 jz0) (fz107 jz0) ?_
  refine j_ltw rfl (fun W49 hc50 => ?_)
  have h51 : jC W49 t = 1 := (congrFun hc50 _).trans h47
  refine j_runA hx 1 (tb := [(91, .aload_n 0)]) (jtb_ok (by decide +kernel)) (pc' := 92) (lv' := [(1, vR v6), (0, vR t)]) (st' := [vR t]) rfl ?_
  refine j_getR hx flX0_39 kl108 h51 (by decide) (by decide +kernel) ?_
  refine j_gd (fun h53 => ?_)
  refine j_WV (j_callV (av := []) (st := []) hx hr (Or.inl q1145) q1146 q1147 rfl md_fco_clear np_fco_clear (cco_clear (jR W49 108 t) W49) (by decide) (Nat.le_of_ble_eq_true rfl) h53 (by decide) (by decide +kernel)) (fun q54 _ => ?_)
  refine j_runA hx 1 (tb := [(98, .aload_n 0)]) (jtb_ok (by decide +kernel)) (pc' := 99) (lv' := [(1, vR v6), (0, vR t)]) (st' := [vR t]) rfl ?_
  refine j_gd (fun h56 => ?_)
  refine j_getR hx flX0_43 kl109 h56 (by decide) (by decide +kernel) ?_
  refine j_gd (fun h57 => ?_)
  refine j_WV (j_callV (av := []) (st := []) hx hr (Or.inl q1145) q1146 q1147 rfl md_fco_clear np_fco_clear (cco_clear (jR q54 109 t) q54) (by decide) (Nat.le_of_ble_eq_true rfl) h57 (by decide) (by decide +kernel)) (fun q58 _ => ?_)
  refine j_runA hx 1 (tb := [(105, .aload_n 0)]) (jtb_ok (by decide +kernel)) (pc' := 106) (lv' := [(1, vR v6), (0, vR t)]) (st' := [vR t]) rfl ?_
  refine j_gd (fun h60 => ?_)
  refine j_getR hx flX0_46 kl110 h60 (by decide) (by decide +kernel) ?_
  refine j_gd (fun h61 => ?_)
  refine j_WV (j_callV (av := []) (st := []) hx hr (Or.inl q1145) q1146 q1147 rfl md_fco_clear np_fco_clear (cco_clear (jR q58 110 t) q58) (by decide) (Nat.le_of_ble_eq_true rfl) h61 (by decide) (by decide +kernel)) (fun q62 _ => ?_)
  refine j_runA hx 2 (tb := [(112, .aload_n 0), (113, .iconst 0)]) (jtb_ok (by decide +kernel)) (pc' := 114) (lv' := [(1, vR v6), (0, vR t)]) (st' := [vI (kI 0), vR t]) rfl ?_
  refine j_gd (fun h64 => ?_)
  refine j_putI hx fwX0_138 wf115 kd115 h64 (by decide) (by decide +kernel) (nz115 jz0) (fz115 jz0) ?_
  refine j_ltw rfl (fun W65 hc66 => ?_)
  have h67 : jC W65 t = 1 := (congrFun hc66 _).trans h64
  refine j_runA hx 1 (tb := [(117, .aload_n 0)]) (jtb_ok (by decide +kernel)) (pc' := 118) (lv' := [(1, vR v6), (0, vR t)]) (st' := [vR t]) rfl ?_
  refine j_WV (j_callV (av := []) (st := []) hx hr (Or.inl q1149) q1151 qs22 rfl md_fcl_begin np_fcl_begin (ccl_begin t W65) (by decide) (Nat.le_of_ble_eq_true rfl) h67 (by decide) (by decide +kernel)) (fun q69 _ => ?_)
  refine j_runA hx 1 (tb := [(121, .aload_n 0)]) (jtb_ok (by decide +kernel)) (pc' := 122) (lv' := [(1, vR v6), (0, vR t)]) (st' := [vR t]) rfl ?_
  refine j_gd (fun h71 => ?_)
  refine j_getR hx flX0_29 kl104 h71 (by decide) (by decide +kernel) ?_
  refine j_gd (fun h72 => ?_)
  refine j_OI (j_callV (av := []) (st := []) hx hr (Or.inl q1557) q1558 q1559 rfl md_fpg_functionCount np_fpg_functionCount (cpg_functionCount (jR q69 104 t) q69) (by decide) (Nat.le_of_ble_eq_true rfl) h72 (by decide) (by decide +kernel)) (fun q73 _ => ?_)
  exact j_iret hx hm (by decide +kernel) rfl (he _)
theorem ccl_read (t : Nat) (W : jW) : jM yX0_read cX0_read 3 (Option.some Jvm.ClassFile.FieldType.int) [(46, 50, 53, 120)] 11 169 [vR t] W ((fcl_read t W).bind (fun q => some (.returned (some (.int q.1)), q.2))) := 
  jM.of (Nat.le_of_ble_eq_true rfl) (fun x hx hm hr => wcl_read ⟨hx, hm, hr, fun _ => rfl⟩ W)
def hcl_place (x : jCx) (en : (Int32) → Option (Outcome × jW)) (t : Nat) (W : jW) : Prop :=
  jOK x RX0 cX0_place 1 ∧
  jMt x "place" (Option.some Jvm.ClassFile.FieldType.int) [] ∧
  jRm x 0 0 ∧
  (∀ q : Int32, en q = some (.returned (some (.int q)), W))
theorem wcl_place {x : jCx} {en : (Int32) → Option (Outcome × jW)} {W : jW} {t : Nat} (h : hcl_place x en t W) : jJ x 1 0 [(0, vR t)] [] W (fcl_place t W) en := by
  have h0 := h
  obtain ⟨hx, hm, hr, he⟩ := h0
  unfold fcl_place
  refine j_runA hx 1 (tb := [(0, .aload_n 0)]) (jtb_ok (by decide +kernel)) (pc' := 1) (lv' := [(0, vR t)]) (st' := [vR t]) rfl ?_
  refine j_gd (fun h1 => ?_)
  refine j_getI hx flX0_22 kd103 h1 (by decide) (by decide +kernel) ?_
  exact j_iret hx hm (by decide +kernel) rfl (he _)
theorem ccl_place (t : Nat) (W : jW) : jM yX0_place cX0_place 1 (Option.some Jvm.ClassFile.FieldType.int) [] 0 0 [vR t] W ((fcl_place t W).bind (fun q => some (.returned (some (.int q)), W))) := 
  jM.of (Nat.le_of_ble_eq_true rfl) (fun x hx hm hr => wcl_place ⟨hx, hm, hr, fun _ => rfl⟩)
def hpg_fixes (x : jCx) (en : (fpg_fixes_S ⊕ (Int32)) → Option (Outcome × jW)) (t : Nat) (W : jW) : Prop :=
  jOK x RX1 cX1_fixes 4 ∧
  jMt x "fixes" (Option.some Jvm.ClassFile.FieldType.int) [] ∧
  jRm x 6 81 ∧
  (∀ q : Int32, en (.inr q) = some (.returned (some (.int q)), W)) ∧
  (∀ (l1 : Int32) (l2 : Int32), jJ x 4 4 [(0, vR t), (1, vI l1), (2, vI l2)] [] W (some (.inl (.inl (l1, l2)))) en) ∧
  (∀ (l1 : Int32) (l2 : Int32) (l3 : Int32), jJ x 4 33 [(0, vR t), (1, vI l1), (2, vI l2), (3, vI l3)] [] W (some (.inl (.inr (l1, l2, l3)))) en)
theorem wpg_fixes_73 {x : jCx} {en : (fpg_fixes_S ⊕ (Int32)) → Option (Outcome × jW)} {W : jW} {t : Nat} (h : hpg_fixes x en t W) (l1 : Int32) (l2 : Int32) : jJ x 4 73 [(0, vR t), (1, vI l1), (2, vI l2)] [] W (fpg_fixes_73 t l1 l2 W) en := by
  have h0 := h
  obtain ⟨hx, hm, hr, he, k4, k33⟩ := h0
  unfold fpg_fixes_73
  refine j_runA hx 1 (tb := [(73, .iinc 2 1)]) (jtb_ok (by decide +kernel)) (pc' := 76) (lv' := [(2, vI (l2 + (kI 1))), (0, vR t), (1, vI l1)]) (st' := []) rfl ?_
  refine j_let (v := (l2 + (kI 1))) (lv := fun v6 => [(2, vI v6), (0, vR t), (1, vI l1)]) (st := fun _ => []) (fun v6 => ?_)
  refine j_goto hx (off := -72) (by decide +kernel) (tgt := 4) (by decide) ?_
  refine j_lv (lv' := [(0, vR t), (1, vI l1), (2, vI v6)]) ⟨rfl, rfl, rfl, trivial⟩ ?_
  exact k4 l1 v6
theorem wpg_fixes_67 {x : jCx} {en : (fpg_fixes_S ⊕ (Int32)) → Option (Outcome × jW)} {W : jW} {t : Nat} (h : hpg_fixes x en t W) (l1 : Int32) (l2 : Int32) (l3 : Int32) : jJ x 4 67 [(0, vR t), (1, vI l1), (2, vI l2), (3, vI l3)] [] W (fpg_fixes_67 t l1 l2 l3 W) en := by
  have h0 := h
  obtain ⟨hx, hm, hr, he, k4, k33⟩ := h0
  unfold fpg_fixes_67
  refine j_runA hx 1 (tb := [(67, .iinc 3 1)]) (jtb_ok (by decide +kernel)) (pc' := 70) (lv' := [(3, vI (l3 + (kI 1))), (0, vR t), (1, vI l1), (2, vI l2)]) (st' := []) rfl ?_
  refine j_let (v := (l3 + (kI 1))) (lv := fun v15 => [(3, vI v15), (0, vR t), (1, vI l1), (2, vI l2)]) (st := fun _ => []) (fun v15 => ?_)
  refine j_goto hx (off := -37) (by decide +kernel) (tgt := 33) (by decide) ?_
  refine j_lv (lv' := [(0, vR t), (1, vI l1), (2, vI l2), (3, vI v15)]) ⟨rfl, rfl, rfl, rfl, trivial⟩ ?_
  exact k33 l1 l2 v15
theorem wpg_fixes_33 {x : jCx} {en : (fpg_fixes_S ⊕ (Int32)) → Option (Outcome × jW)} {W : jW} {t : Nat} (h : hpg_fixes x en t W) (l1 : Int32) (l2 : Int32) (l3 : Int32) : jJ x 4 33 [(0, vR t), (1, vI l1), (2, vI l2), (3, vI l3)] [] W (fpg_fixes_33 t l1 l2 l3 W) en := by
  have h0 := h
  obtain ⟨hx, hm, hr, he, k4, k33⟩ := h0
  unfold fpg_fixes_33
  refine j_runA hx 2 (tb := [(33, .iload_n 3), (34, .aload_n 0)]) (jtb_ok (by decide +kernel)) (pc' := 35) (lv' := [(0, vR t), (1, vI l1), (2, vI l2), (3, vI l3)]) (st' := [vR t, vI l3]) rfl ?_
  refine j_gd (fun h8 => ?_)
  refine j_getR hx flX1_21 kl201 h8 (by decide) (by decide +kernel) ?_
  refine j_runA hx 1 (tb := [(38, .iload_n 2)]) (jtb_ok (by decide +kernel)) (pc' := 39) (lv' := [(0, vR t), (1, vI l1), (2, vI l2), (3, vI l3)]) (st' := [vI l2, vR (jR W 201 t), vI l3]) rfl ?_
  refine j_gd (fun h9 => ?_)
  refine j_OI (j_callV (av := [vI l2]) (st := [vI l3]) hx hr (Or.inl q1053) q905 q906 rfl md_fsh_fixCount np_fsh_fixCount (csh_fixCount (jR W 201 t) l2 W) (by decide) (Nat.le_of_ble_eq_true rfl) h9 (by decide) (by decide +kernel)) (fun q10 _ => ?_)
  refine j_icmp_ge hx (off := 31) (tgt := 73) (by decide +kernel) (by decide) (fun _ => ?_) (fun _ => ?_)
  · refine j_lv (lv' := [(0, vR t), (1, vI l1), (2, vI l2)]) ⟨rfl, rfl, rfl, trivial⟩ ?_
    exact wpg_fixes_73 h l1 l2
  refine j_runA hx 1 (tb := [(45, .aload_n 0)]) (jtb_ok (by decide +kernel)) (pc' := 46) (lv' := [(0, vR t), (1, vI l1), (2, vI l2), (3, vI l3)]) (st' := [vR t]) rfl ?_
  refine j_getR hx flX1_21 kl201 h8 (by decide) (by decide +kernel) ?_
  refine j_runA hx 1 (tb := [(49, .aload_n 0)]) (jtb_ok (by decide +kernel)) (pc' := 50) (lv' := [(0, vR t), (1, vI l1), (2, vI l2), (3, vI l3)]) (st' := [vR t, vR (jR W 201 t)]) rfl ?_
  refine j_getR hx flX1_21 kl201 h8 (by decide) (by decide +kernel) ?_
  refine j_runA hx 2 (tb := [(53, .iload_n 2), (54, .iload_n 3)]) (jtb_ok (by decide +kernel)) (pc' := 55) (lv' := [(0, vR t), (1, vI l1), (2, vI l2), (3, vI l3)]) (st' := [vI l3, vI l2, vR (jR W 201 t), vR (jR W 201 t)]) rfl ?_
  refine j_OI (j_callV (av := [vI l2, vI l3]) (st := [vR (jR W 201 t)]) hx hr (Or.inl q1054) q909 q910 rfl md_fsh_fixAt np_fsh_fixAt (csh_fixAt (jR W 201 t) l2 l3 W) (by decide) (Nat.le_of_ble_eq_true rfl) h9 (by decide) (by decide +kernel)) (fun q11 _ => ?_)
  refine j_OI (j_callV (av := [vI q11]) (st := []) hx hr (Or.inl q1055) q913 q914 rfl md_fsh_fixType np_fsh_fixType (csh_fixType (jR W 201 t) q11 W) (by decide) (Nat.le_of_ble_eq_true rfl) h9 (by decide) (by decide +kernel)) (fun q12 _ => ?_)
  refine j_if_eq hx (off := 6) (tgt := 67) (by decide +kernel) (by decide) (fun _ => ?_) (fun _ => ?_)
  · exact wpg_fixes_67 h l1 l2 l3
  refine j_runA hx 1 (tb := [(64, .iinc 1 1)]) (jtb_ok (by decide +kernel)) (pc' := 67) (lv' := [(1, vI (l1 + (kI 1))), (0, vR t), (2, vI l2), (3, vI l3)]) (st' := []) rfl ?_
  refine j_let (v := (l1 + (kI 1))) (lv := fun v13 => [(1, vI v13), (0, vR t), (2, vI l2), (3, vI l3)]) (st := fun _ => []) (fun v13 => ?_)
  refine j_lv (lv' := [(0, vR t), (1, vI v13), (2, vI l2), (3, vI l3)]) ⟨rfl, rfl, rfl, rfl, trivial⟩ ?_
  exact wpg_fixes_67 h v13 l2 l3
theorem wpg_fixes_4 {x : jCx} {en : (fpg_fixes_S ⊕ (Int32)) → Option (Outcome × jW)} {W : jW} {t : Nat} (h : hpg_fixes x en t W) (l1 : Int32) (l2 : Int32) : jJ x 4 4 [(0, vR t), (1, vI l1), (2, vI l2)] [] W (fpg_fixes_4 t l1 l2 W) en := by
  have h0 := h
  obtain ⟨hx, hm, hr, he, k4, k33⟩ := h0
  unfold fpg_fixes_4
  refine j_runA hx 2 (tb := [(4, .iload_n 2), (5, .aload_n 0)]) (jtb_ok (by decide +kernel)) (pc' := 6) (lv' := [(0, vR t), (1, vI l1), (2, vI l2)]) (st' := [vR t, vI l2]) rfl ?_
  refine j_gd (fun h2 => ?_)
  refine j_getR hx flX1_21 kl201 h2 (by decide) (by decide +kernel) ?_
  refine j_gd (fun h3 => ?_)
  refine j_getI hx flX1_100 kd403 h3 (by decide) (by decide +kernel) ?_
  refine j_icmp_ge hx (off := 67) (tgt := 79) (by decide +kernel) (by decide) (fun _ => ?_) (fun _ => ?_)
  · refine j_runA hx 1 (tb := [(79, .iload_n 1)]) (jtb_ok (by decide +kernel)) (pc' := 80) (lv' := [(0, vR t), (1, vI l1), (2, vI l2)]) (st' := [vI l1]) rfl ?_
    exact j_iret hx hm (by decide +kernel) rfl (he _)
  refine j_runA hx 1 (tb := [(15, .aload_n 0)]) (jtb_ok (by decide +kernel)) (pc' := 16) (lv' := [(0, vR t), (1, vI l1), (2, vI l2)]) (st' := [vR t]) rfl ?_
  refine j_getR hx flX1_21 kl201 h2 (by decide) (by decide +kernel) ?_
  refine j_getR hx flX1_103 kl411 h3 (by decide) (by decide +kernel) ?_
  refine j_runA hx 1 (tb := [(22, .iload_n 2)]) (jtb_ok (by decide +kernel)) (pc' := 23) (lv' := [(0, vR t), (1, vI l1), (2, vI l2)]) (st' := [vI l2, vR (jR W 411 (jR W 201 t))]) rfl ?_
  refine j_gd (fun h4 => ?_)
  refine j_iald hx (f := 411) (o := (jR W 201 t)) kd411 rfl (by decide +kernel) h4 ?_
  refine j_runA hx 1 (tb := [(24, .iconst 4)]) (jtb_ok (by decide +kernel)) (pc' := 25) (lv' := [(0, vR t), (1, vI l1), (2, vI l2)]) (st' := [vI (kI 4), vI (jA W 411 (jR W 201 t) (ix l2))]) rfl ?_
  refine j_icmp_eq hx (off := 6) (tgt := 31) (by decide +kernel) (by decide) (fun _ => ?_) (fun _ => ?_)
  · refine j_runA hx 2 (tb := [(31, .iconst 0), (32, .istore_n 3)]) (jtb_ok (by decide +kernel)) (pc' := 33) (lv' := [(3, vI (kI 0)), (0, vR t), (1, vI l1), (2, vI l2)]) (st' := []) rfl ?_
    refine j_lv (lv' := [(0, vR t), (1, vI l1), (2, vI l2), (3, vI (kI 0))]) ⟨rfl, rfl, rfl, rfl, trivial⟩ ?_
    exact k33 l1 l2 (kI 0)
  refine j_goto hx (off := 45) (by decide +kernel) (tgt := 73) (by decide) ?_
  exact wpg_fixes_73 h l1 l2
theorem wpg_fixes {x : jCx} {en : (fpg_fixes_S ⊕ (Int32)) → Option (Outcome × jW)} {W : jW} {t : Nat} (h : hpg_fixes x en t W) : jJ x 4 0 [(0, vR t)] [] W (fpg_fixes_0 t W) en := by
  have h0 := h
  obtain ⟨hx, hm, hr, he, k4, k33⟩ := h0
  unfold fpg_fixes_0
  refine j_runA hx 4 (tb := [(0, .iconst 0), (1, .istore_n 1), (2, .iconst 1), (3, .istore_n 2)]) (jtb_ok (by decide +kernel)) (pc' := 4) (lv' := [(2, vI (kI 1)), (1, vI (kI 0)), (0, vR t)]) (st' := []) rfl ?_
  refine j_lv (lv' := [(0, vR t), (1, vI (kI 0)), (2, vI (kI 1))]) ⟨rfl, rfl, rfl, trivial⟩ ?_
  exact k4 (kI 0) (kI 1)
theorem cpg_fixes (t : Nat) (W : jW) : jM yX1_fixes cX1_fixes 4 (Option.some Jvm.ClassFile.FieldType.int) [] 6 81 [vR t] W ((fpg_fixes t W).bind (fun q => some (.returned (some (.int q)), W))) := by
  refine jM.of (Nat.le_of_ble_eq_true rfl) (fun x hx hm hr => ?_)
  refine j_begin (P := (Sum.elim (fun s => (4, [(0, vR t), (1, vI s.1), (2, vI s.2)], W)) (fun s => (33, [(0, vR t), (1, vI s.1), (2, vI s.2.1), (3, vI s.2.2)], W)))) (fun en he hk => ?_)
  have h : hpg_fixes x en t W := ⟨hx, hm, hr, fun q => he _, fun l1 l2 => hk (.inl (l1, l2)), fun l1 l2 l3 => hk (.inr (l1, l2, l3))⟩
  refine ⟨fun s => ?_, wpg_fixes h⟩
  rcases s with s | s
  · exact wpg_fixes_4 h s.1 s.2
  · exact wpg_fixes_33 h s.1 s.2.1 s.2.2
def hcl_count (x : jCx) (en : (Int32) → Option (Outcome × jW)) (t : Nat) (a1 : Int32) (W : jW) : Prop :=
  jOK x RX0 cX0_count 2 ∧
  jMt x "count" (Option.some Jvm.ClassFile.FieldType.int) [] ∧
  jRm x 7 96 ∧
  (∀ q : Int32, en q = some (.returned (some (.int q)), W))
theorem wcl_count_9 {x : jCx} {en : (Int32) → Option (Outcome × jW)} {W : jW} {t : Nat} {a1 : Int32} (h : hcl_count x en t a1 W) : jJ x 2 9 [(0, vR t), (1, vI a1)] [] W (fcl_count_9 t a1 W) en := by
  have h0 := h
  obtain ⟨hx, hm, hr, he⟩ := h0
  unfold fcl_count_9
  refine j_runA hx 1 (tb := [(9, .bipush (-14))]) (jtb_ok (by decide +kernel)) (pc' := 11) (lv' := [(0, vR t), (1, vI a1)]) (st' := [vI (kI (-14))]) rfl ?_
  exact j_iret hx hm (by decide +kernel) rfl (he _)
theorem wcl_count {x : jCx} {en : (Int32) → Option (Outcome × jW)} {W : jW} {t : Nat} {a1 : Int32} (h : hcl_count x en t a1 W) : jJ x 2 0 [(0, vR t), (1, vI a1)] [] W (fcl_count t a1 W) en := by
  have h0 := h
  obtain ⟨hx, hm, hr, he⟩ := h0
  unfold fcl_count
  refine j_runA hx 1 (tb := [(0, .iload_n 1)]) (jtb_ok (by decide +kernel)) (pc' := 1) (lv' := [(0, vR t), (1, vI a1)]) (st' := [vI a1]) rfl ?_
  refine j_if_lt hx (off := 8) (tgt := 9) (by decide +kernel) (by decide) (fun _ => ?_) (fun _ => ?_)
  · exact wcl_count_9 h
  refine j_runA hx 2 (tb := [(4, .iload_n 1), (5, .iconst 4)]) (jtb_ok (by decide +kernel)) (pc' := 6) (lv' := [(0, vR t), (1, vI a1)]) (st' := [vI (kI 4), vI a1]) rfl ?_
  refine j_icmp_le hx (off := 6) (tgt := 12) (by decide +kernel) (by decide) (fun _ => ?_) (fun _ => ?_)
  · refine j_runA hx 1 (tb := [(12, .aload_n 0)]) (jtb_ok (by decide +kernel)) (pc' := 13) (lv' := [(0, vR t), (1, vI a1)]) (st' := [vR t]) rfl ?_
    refine j_gd (fun h1 => ?_)
    refine j_getI hx flX0_128 kd106 h1 (by decide) (by decide +kernel) ?_
    refine j_if_ne hx (off := 5) (tgt := 21) (by decide +kernel) (by decide) (fun _ => ?_) (fun _ => ?_)
    · refine j_runA hx 1 (tb := [(21, .iload_n 1)]) (jtb_ok (by decide +kernel)) (pc' := 22) (lv' := [(0, vR t), (1, vI a1)]) (st' := [vI a1]) rfl ?_
      refine j_if_ne hx (off := 11) (tgt := 33) (by decide +kernel) (by decide) (fun _ => ?_) (fun _ => ?_)
      · refine j_runA hx 2 (tb := [(33, .iload_n 1), (34, .iconst 1)]) (jtb_ok (by decide +kernel)) (pc' := 35) (lv' := [(0, vR t), (1, vI a1)]) (st' := [vI (kI 1), vI a1]) rfl ?_
        refine j_icmp_ne hx (off := 11) (tgt := 46) (by decide +kernel) (by decide) (fun _ => ?_) (fun _ => ?_)
        · refine j_runA hx 2 (tb := [(46, .iload_n 1), (47, .iconst 2)]) (jtb_ok (by decide +kernel)) (pc' := 48) (lv' := [(0, vR t), (1, vI a1)]) (st' := [vI (kI 2), vI a1]) rfl ?_
          refine j_icmp_ne hx (off := 13) (tgt := 61) (by decide +kernel) (by decide) (fun _ => ?_) (fun _ => ?_)
          · refine j_runA hx 2 (tb := [(61, .iload_n 1), (62, .iconst 3)]) (jtb_ok (by decide +kernel)) (pc' := 63) (lv' := [(0, vR t), (1, vI a1)]) (st' := [vI (kI 3), vI a1]) rfl ?_
            refine j_icmp_ne hx (off := 16) (tgt := 79) (by decide +kernel) (by decide) (fun _ => ?_) (fun _ => ?_)
            · refine j_runA hx 1 (tb := [(79, .aload_n 0)]) (jtb_ok (by decide +kernel)) (pc' := 80) (lv' := [(0, vR t), (1, vI a1)]) (st' := [vR t]) rfl ?_
              refine j_getR hx flX0_29 kl104 h1 (by decide) (by decide +kernel) ?_
              refine j_gd (fun h2 => ?_)
              refine j_OI (j_callV (av := []) (st := []) hx hr (Or.inl q1569) q1570 q1571 rfl md_fpg_fixes np_fpg_fixes (cpg_fixes (jR W 104 t) W) (by decide) (Nat.le_of_ble_eq_true rfl) h2 (by decide) (by decide +kernel)) (fun q3 _ => ?_)
              exact j_iret hx hm (by decide +kernel) rfl (he _)
            refine j_runA hx 1 (tb := [(66, .aload_n 0)]) (jtb_ok (by decide +kernel)) (pc' := 67) (lv' := [(0, vR t), (1, vI a1)]) (st' := [vR t]) rfl ?_
            refine j_getR hx flX0_29 kl104 h1 (by decide) (by decide +kernel) ?_
            refine j_gd (fun h4 => ?_)
            refine j_getR hx flX0_99 kl202 h4 (by decide) (by decide +kernel) ?_
            refine j_gd (fun h5 => ?_)
            refine j_getI hx flX0_114 kd501 h5 (by decide) (by decide +kernel) ?_
            refine j_goto hx (off := 10) (by decide +kernel) (tgt := 86) (by decide) ?_
            exact j_iret hx hm (by decide +kernel) rfl (he _)
          refine j_runA hx 2 (tb := [(51, .iconst 4), (52, .aload_n 0)]) (jtb_ok (by decide +kernel)) (pc' := 53) (lv' := [(0, vR t), (1, vI a1)]) (st' := [vR t, vI (kI 4)]) rfl ?_
          refine j_getR hx flX0_29 kl104 h1 (by decide) (by decide +kernel) ?_
          refine j_gd (fun h6 => ?_)
          refine j_getI hx flX0_191 kd203 h6 (by decide) (by decide +kernel) ?_
          refine j_runA hx 1 (tb := [(59, .imul)]) (jtb_ok (by decide +kernel)) (pc' := 60) (lv' := [(0, vR t), (1, vI a1)]) (st' := [vI ((kI 4) * (jI W 203 (jR W 104 t)))]) rfl ?_
          exact j_iret hx hm (by decide +kernel) rfl (he _)
        refine j_runA hx 1 (tb := [(38, .aload_n 0)]) (jtb_ok (by decide +kernel)) (pc' := 39) (lv' := [(0, vR t), (1, vI a1)]) (st' := [vR t]) rfl ?_
        refine j_getR hx flX0_29 kl104 h1 (by decide) (by decide +kernel) ?_
        refine j_gd (fun h7 => ?_)
        refine j_getI hx flX0_188 kd217 h7 (by decide) (by decide +kernel) ?_
        exact j_iret hx hm (by decide +kernel) rfl (he _)
      refine j_runA hx 1 (tb := [(25, .aload_n 0)]) (jtb_ok (by decide +kernel)) (pc' := 26) (lv' := [(0, vR t), (1, vI a1)]) (st' := [vR t]) rfl ?_
      refine j_getR hx flX0_29 kl104 h1 (by decide) (by decide +kernel) ?_
      refine j_gd (fun h8 => ?_)
      refine j_OI (j_callV (av := []) (st := []) hx hr (Or.inl q1557) q1558 q1559 rfl md_fpg_functionCount np_fpg_functionCount (cpg_functionCount (jR W 104 t) W) (by decide) (Nat.le_of_ble_eq_true rfl) h8 (by decide) (by decide +kernel)) (fun q9 _ => ?_)
      exact j_iret hx hm (by decide +kernel) rfl (he _)
    refine j_runA hx 1 (tb := [(19, .iconst 0)]) (jtb_ok (by decide +kernel)) (pc' := 20) (lv' := [(0, vR t), (1, vI a1)]) (st' := [vI (kI 0)]) rfl ?_
    exact j_iret hx hm (by decide +kernel) rfl (he _)
  exact wcl_count_9 h
theorem ccl_count (t : Nat) (a1 : Int32) (W : jW) : jM yX0_count cX0_count 2 (Option.some Jvm.ClassFile.FieldType.int) [] 7 96 [vR t, vI a1] W ((fcl_count t a1 W).bind (fun q => some (.returned (some (.int q)), W))) := 
  jM.of (Nat.le_of_ble_eq_true rfl) (fun x hx hm hr => wcl_count ⟨hx, hm, hr, fun _ => rfl⟩)
def hcl_isFunction (x : jCx) (en : (Int32) → Option (Outcome × jW)) (t : Nat) (a1 : Int32) (W : jW) : Prop :=
  jOK x RX0 cX0_isFunction 2 ∧
  jMt x "isFunction" (Option.some Jvm.ClassFile.FieldType.boolean) [] ∧
  jRm x 1 13 ∧
  (∀ q : Int32, en q = some (.returned (some (.int q)), W))
theorem wcl_isFunction_26 {x : jCx} {en : (Int32) → Option (Outcome × jW)} {W : jW} {t : Nat} {a1 : Int32} (h : hcl_isFunction x en t a1 W) : jJ x 2 26 [(0, vR t), (1, vI a1)] [] W (fcl_isFunction_26 t a1 W) en := by
  have h0 := h
  obtain ⟨hx, hm, hr, he⟩ := h0
  unfold fcl_isFunction_26
  refine j_runA hx 1 (tb := [(26, .iconst 0)]) (jtb_ok (by decide +kernel)) (pc' := 27) (lv' := [(0, vR t), (1, vI a1)]) (st' := [vI (kI 0)]) rfl ?_
  exact j_iret hx hm (by decide +kernel) jz0n (he _)
theorem wcl_isFunction {x : jCx} {en : (Int32) → Option (Outcome × jW)} {W : jW} {t : Nat} {a1 : Int32} (h : hcl_isFunction x en t a1 W) : jJ x 2 0 [(0, vR t), (1, vI a1)] [] W (fcl_isFunction t a1 W) en := by
  have h0 := h
  obtain ⟨hx, hm, hr, he⟩ := h0
  unfold fcl_isFunction
  refine j_runA hx 1 (tb := [(0, .aload_n 0)]) (jtb_ok (by decide +kernel)) (pc' := 1) (lv' := [(0, vR t), (1, vI a1)]) (st' := [vR t]) rfl ?_
  refine j_gd (fun h1 => ?_)
  refine j_getI hx flX0_128 kd106 h1 (by decide) (by decide +kernel) ?_
  refine j_if_eq hx (off := 22) (tgt := 26) (by decide +kernel) (by decide) (fun _ => ?_) (fun _ => ?_)
  · exact wcl_isFunction_26 h
  refine j_runA hx 1 (tb := [(7, .iload_n 1)]) (jtb_ok (by decide +kernel)) (pc' := 8) (lv' := [(0, vR t), (1, vI a1)]) (st' := [vI a1]) rfl ?_
  refine j_if_lt hx (off := 18) (tgt := 26) (by decide +kernel) (by decide) (fun _ => ?_) (fun _ => ?_)
  · exact wcl_isFunction_26 h
  refine j_runA hx 2 (tb := [(11, .iload_n 1), (12, .aload_n 0)]) (jtb_ok (by decide +kernel)) (pc' := 13) (lv' := [(0, vR t), (1, vI a1)]) (st' := [vR t, vI a1]) rfl ?_
  refine j_getR hx flX0_29 kl104 h1 (by decide) (by decide +kernel) ?_
  refine j_gd (fun h2 => ?_)
  refine j_OI (j_callV (av := []) (st := [vI a1]) hx hr (Or.inl q1557) q1558 q1559 rfl md_fpg_functionCount np_fpg_functionCount (cpg_functionCount (jR W 104 t) W) (by decide) (Nat.le_of_ble_eq_true rfl) h2 (by decide) (by decide +kernel)) (fun q3 _ => ?_)
  refine j_icmp_ge hx (off := 7) (tgt := 26) (by decide +kernel) (by decide) (fun _ => ?_) (fun _ => ?_)
  · exact wcl_isFunction_26 h
  refine j_runA hx 1 (tb := [(22, .iconst 1)]) (jtb_ok (by decide +kernel)) (pc' := 23) (lv' := [(0, vR t), (1, vI a1)]) (st' := [vI (kI 1)]) rfl ?_
  refine j_goto hx (off := 4) (by decide +kernel) (tgt := 27) (by decide) ?_
  exact j_iret hx hm (by decide +kernel) jz1n (he _)
theorem ccl_isFunction (t : Nat) (a1 : Int32) (W : jW) : jM yX0_isFunction cX0_isFunction 2 (Option.some Jvm.ClassFile.FieldType.boolean) [] 1 13 [vR t, vI a1] W ((fcl_isFunction t a1 W).bind (fun q => some (.returned (some (.int q)), W))) := 
  jM.of (Nat.le_of_ble_eq_true rfl) (fun x hx hm hr => wcl_isFunction ⟨hx, hm, hr, fun _ => rfl⟩)
def hog_room (x : jCx) (en : (jW) → Option (Outcome × jW)) (t : Nat) : Prop :=
  jOK x RX13 cX13_room 2 ∧
  jMt x "room" (Option.none : Option Jvm.ClassFile.FieldType) [] ∧
  jRm x 1 12 ∧
  (∀ q : jW, en q = some (.returned none, q))
theorem wog_room_106 {x : jCx} {en : (jW) → Option (Outcome × jW)} {t : Nat} (h : hog_room x en t) (W : jW) : jJ x 2 106 [(0, vR t)] [] W (fog_room_106 t W) en := by
  have h0 := h
  obtain ⟨hx, hm, hr, he⟩ := h0
  unfold fog_room_106
  refine j_runA hx 1 (tb := [(106, .aload_n 0)]) (jtb_ok (by decide +kernel)) (pc' := 107) (lv' := [(0, vR t)]) (st' := [vR t]) rfl ?_
  refine j_gd (fun h80 => ?_)
  refine j_getR hx flX13_91 kl800 h80 (by decide) (by decide +kernel) ?_
  refine j_gd (fun h81 => ?_)
  refine j_OI (j_callV (av := []) (st := []) hx hr (Or.inl q1594) q1558 q1559 rfl md_fpg_functionCount np_fpg_functionCount (cpg_functionCount (jR W 800 t) W) (by decide) (Nat.le_of_ble_eq_true rfl) h81 (by decide) (by decide +kernel)) (fun q82 _ => ?_)
  refine j_runA hx 2 (tb := [(113, .istore_n 1), (114, .aload_n 0)]) (jtb_ok (by decide +kernel)) (pc' := 115) (lv' := [(1, vI q82), (0, vR t)]) (st' := [vR t]) rfl ?_
  refine j_getR hx flX13_40 kl812 h80 (by decide) (by decide +kernel) ?_
  refine j_gd (fun h83 => ?_)
  refine j_alen hx (f := 812) (o := t) kg812 kh812 rfl (by decide +kernel) h83 ?_
  refine j_runA hx 1 (tb := [(119, .iload_n 1)]) (jtb_ok (by decide +kernel)) (pc' := 120) (lv' := [(1, vI q82), (0, vR t)]) (st' := [vI q82, vI (nI (jN W 812 t))]) rfl ?_
  refine j_icmp_ge hx (off := 45) (tgt := 165) (by decide +kernel) (by decide) (fun _ => ?_) (fun _ => ?_)
  · exact j_vret hx hm (by decide +kernel) (he _)
  refine j_runA hx 2 (tb := [(123, .aload_n 0), (124, .iload_n 1)]) (jtb_ok (by decide +kernel)) (pc' := 125) (lv' := [(1, vI q82), (0, vR t)]) (st' := [vI q82, vR t]) rfl ?_
  refine j_gd (fun h84 => ?_)
  refine j_nwB hx fwX13_40 wf812 kd812 ja812_6 h80 (by decide) nr812 fr812 (by decide +kernel) (by decide +kernel) h84 ?_
  refine j_ltw rfl (fun W85 hc86 => ?_)
  have h87 : jC W85 t = 8 := (congrFun hc86 _).trans h80
  have h88 : jC W85 (jR W 800 t) = 2 := (congrFun hc86 _).trans h81
  refine j_runA hx 2 (tb := [(130, .aload_n 0), (131, .iload_n 1)]) (jtb_ok (by decide +kernel)) (pc' := 132) (lv' := [(1, vI q82), (0, vR t)]) (st' := [vI q82, vR t]) rfl ?_
  refine j_gd (fun h90 => ?_)
  refine j_nwA hx fwX13_46 wf814 ka814 ja814_3 h87 (by decide) nr814 fr814 (by decide +kernel) (by decide +kernel) h90 ?_
  refine j_ltw rfl (fun W91 hc92 => ?_)
  have h93 : jC W91 t = 8 := (congrFun hc92 _).trans h87
  have h94 : jC W91 (jR W 800 t) = 2 := (congrFun hc92 _).trans h88
  refine j_runA hx 2 (tb := [(137, .aload_n 0), (138, .iload_n 1)]) (jtb_ok (by decide +kernel)) (pc' := 139) (lv' := [(1, vI q82), (0, vR t)]) (st' := [vI q82, vR t]) rfl ?_
  refine j_gd (fun h96 => ?_)
  refine j_nwA hx fwX13_49 wf815 ka815 ja815_3 h93 (by decide) nr815 fr815 (by decide +kernel) (by decide +kernel) h96 ?_
  refine j_ltw rfl (fun W97 hc98 => ?_)
  have h99 : jC W97 t = 8 := (congrFun hc98 _).trans h93
  have h100 : jC W97 (jR W 800 t) = 2 := (congrFun hc98 _).trans h94
  refine j_runA hx 2 (tb := [(144, .aload_n 0), (145, .iload_n 1)]) (jtb_ok (by decide +kernel)) (pc' := 146) (lv' := [(1, vI q82), (0, vR t)]) (st' := [vI q82, vR t]) rfl ?_
  refine j_gd (fun h102 => ?_)
  refine j_nwA hx fwX13_52 wf816 ka816 ja816_3 h99 (by decide) nr816 fr816 (by decide +kernel) (by decide +kernel) h102 ?_
  refine j_ltw rfl (fun W103 hc104 => ?_)
  have h105 : jC W103 t = 8 := (congrFun hc104 _).trans h99
  have h106 : jC W103 (jR W 800 t) = 2 := (congrFun hc104 _).trans h100
  refine j_runA hx 2 (tb := [(151, .aload_n 0), (152, .iload_n 1)]) (jtb_ok (by decide +kernel)) (pc' := 153) (lv' := [(1, vI q82), (0, vR t)]) (st' := [vI q82, vR t]) rfl ?_
  refine j_gd (fun h108 => ?_)
  refine j_nwB hx fwX13_55 wf817 kd817 ja817_6 h105 (by decide) nr817 fr817 (by decide +kernel) (by decide +kernel) h108 ?_
  refine j_ltw rfl (fun W109 hc110 => ?_)
  have h111 : jC W109 t = 8 := (congrFun hc110 _).trans h105
  have h112 : jC W109 (jR W 800 t) = 2 := (congrFun hc110 _).trans h106
  refine j_runA hx 2 (tb := [(158, .aload_n 0), (159, .iload_n 1)]) (jtb_ok (by decide +kernel)) (pc' := 160) (lv' := [(1, vI q82), (0, vR t)]) (st' := [vI q82, vR t]) rfl ?_
  refine j_gd (fun h114 => ?_)
  refine j_nwB hx fwX13_58 wf818 kd818 ja818_6 h111 (by decide) nr818 fr818 (by decide +kernel) (by decide +kernel) h114 ?_
  refine j_ltw rfl (fun W115 hc116 => ?_)
  have h117 : jC W115 t = 8 := (congrFun hc116 _).trans h111
  have h118 : jC W115 (jR W 800 t) = 2 := (congrFun hc116 _).trans h112
  exact j_vret hx hm (by decide +kernel) (he _)
theorem wog_room {x : jCx} {en : (jW) → Option (Outcome × jW)} {t : Nat} (h : hog_room x en t) (W : jW) : jJ x 2 0 [(0, vR t)] [] W (fog_room t W) en := by
  have h0 := h
  obtain ⟨hx, hm, hr, he⟩ := h0
  unfold fog_room
  refine j_runA hx 1 (tb := [(0, .aload_n 0)]) (jtb_ok (by decide +kernel)) (pc' := 1) (lv' := [(0, vR t)]) (st' := [vR t]) rfl ?_
  refine j_gd (fun h1 => ?_)
  refine j_getR hx flX13_13 kl804 h1 (by decide) (by decide +kernel) ?_
  refine j_gd (fun h2 => ?_)
  refine j_gd (fun h3 => ?_)
  refine j_alen hx (f := 9003) (o := (jR W 804 t)) kg9003 kh9003 h2 (by decide +kernel) h3 ?_
  refine j_runA hx 1 (tb := [(5, .aload_n 0)]) (jtb_ok (by decide +kernel)) (pc' := 6) (lv' := [(0, vR t)]) (st' := [vR t, vI (nI (jN W 9003 (jR W 804 t)))]) rfl ?_
  refine j_getR hx flX13_91 kl800 h1 (by decide) (by decide +kernel) ?_
  refine j_gd (fun h4 => ?_)
  refine j_getI hx flX13_95 kd217 h4 (by decide) (by decide +kernel) ?_
  refine j_icmp_ge hx (off := 94) (tgt := 106) (by decide +kernel) (by decide) (fun _ => ?_) (fun _ => ?_)
  · exact wog_room_106 h W
  refine j_runA hx 2 (tb := [(15, .aload_n 0), (16, .aload_n 0)]) (jtb_ok (by decide +kernel)) (pc' := 17) (lv' := [(0, vR t)]) (st' := [vR t, vR t]) rfl ?_
  refine j_getR hx flX13_91 kl800 h1 (by decide) (by decide +kernel) ?_
  refine j_getI hx flX13_95 kd217 h4 (by decide) (by decide +kernel) ?_
  refine j_gd (fun h5 => ?_)
  refine j_newA hx (f := 9003) (by decide) ka9003 ja9003_3 (by decide +kernel) h5 ?_
  refine j_ltw rfl (fun W6 hc7 => ?_)
  have h8 : jC W6 t = 8 := (congrFun hc7 _).trans h1
  have h9 : jC W6 (jR W 800 t) = 2 := (congrFun hc7 _).trans h4
  refine j_putR hx fwX13_13 wf804 kd804 h8 (by decide) (by decide +kernel) nr804 fr804 ?_
  refine j_ltw rfl (fun W11 hc12 => ?_)
  have h13 : jC W11 t = 8 := (congrFun hc12 _).trans h8
  have h14 : jC W11 (jR W 800 t) = 2 := (congrFun hc12 _).trans h9
  refine j_runA hx 2 (tb := [(28, .aload_n 0), (29, .aload_n 0)]) (jtb_ok (by decide +kernel)) (pc' := 30) (lv' := [(0, vR t)]) (st' := [vR t, vR t]) rfl ?_
  refine j_getR hx flX13_91 kl800 h13 (by decide) (by decide +kernel) ?_
  refine j_gd (fun h16 => ?_)
  refine j_getI hx flX13_95 kd217 h16 (by decide) (by decide +kernel) ?_
  refine j_gd (fun h17 => ?_)
  refine j_nwB hx fwX13_7 wf803 kd803 ja803_6 h13 (by decide) nr803 fr803 (by decide +kernel) (by decide +kernel) h17 ?_
  refine j_ltw rfl (fun W18 hc19 => ?_)
  have h20 : jC W18 t = 8 := (congrFun hc19 _).trans h13
  have h21 : jC W18 (jR W 800 t) = 2 := (congrFun hc19 _).trans h14
  have h22 : jC W18 (jR W11 800 t) = 2 := (congrFun hc19 _).trans h16
  refine j_runA hx 2 (tb := [(41, .aload_n 0), (42, .aload_n 0)]) (jtb_ok (by decide +kernel)) (pc' := 43) (lv' := [(0, vR t)]) (st' := [vR t, vR t]) rfl ?_
  refine j_getR hx flX13_91 kl800 h20 (by decide) (by decide +kernel) ?_
  refine j_gd (fun h24 => ?_)
  refine j_getI hx flX13_95 kd217 h24 (by decide) (by decide +kernel) ?_
  refine j_gd (fun h25 => ?_)
  refine j_nwA hx fwX13_17 wf806 ka806 ja806_5 h20 (by decide) nr806 fr806 (by decide +kernel) (by decide +kernel) h25 ?_
  refine j_ltw rfl (fun W26 hc27 => ?_)
  have h28 : jC W26 t = 8 := (congrFun hc27 _).trans h20
  have h29 : jC W26 (jR W 800 t) = 2 := (congrFun hc27 _).trans h21
  have h30 : jC W26 (jR W11 800 t) = 2 := (congrFun hc27 _).trans h22
  have h31 : jC W26 (jR W18 800 t) = 2 := (congrFun hc27 _).trans h24
  refine j_runA hx 2 (tb := [(54, .aload_n 0), (55, .aload_n 0)]) (jtb_ok (by decide +kernel)) (pc' := 56) (lv' := [(0, vR t)]) (st' := [vR t, vR t]) rfl ?_
  refine j_getR hx flX13_91 kl800 h28 (by decide) (by decide +kernel) ?_
  refine j_gd (fun h33 => ?_)
  refine j_getI hx flX13_95 kd217 h33 (by decide) (by decide +kernel) ?_
  refine j_gd (fun h34 => ?_)
  refine j_nwA hx fwX13_28 wf808 ka808 ja808_3 h28 (by decide) nr808 fr808 (by decide +kernel) (by decide +kernel) h34 ?_
  refine j_ltw rfl (fun W35 hc36 => ?_)
  have h37 : jC W35 t = 8 := (congrFun hc36 _).trans h28
  have h38 : jC W35 (jR W 800 t) = 2 := (congrFun hc36 _).trans h29
  have h39 : jC W35 (jR W11 800 t) = 2 := (congrFun hc36 _).trans h30
  have h40 : jC W35 (jR W18 800 t) = 2 := (congrFun hc36 _).trans h31
  have h41 : jC W35 (jR W26 800 t) = 2 := (congrFun hc36 _).trans h33
  refine j_runA hx 2 (tb := [(67, .aload_n 0), (68, .aload_n 0)]) (jtb_ok (by decide +kernel)) (pc' := 69) (lv' := [(0, vR t)]) (st' := [vR t, vR t]) rfl ?_
  refine j_getR hx flX13_91 kl800 h37 (by decide) (by decide +kernel) ?_
  refine j_gd (fun h43 => ?_)
  refine j_getI hx flX13_95 kd217 h43 (by decide) (by decide +kernel) ?_
  refine j_gd (fun h44 => ?_)
  refine j_nwA hx fwX13_31 wf809 ka809 ja809_3 h37 (by decide) nr809 fr809 (by decide +kernel) (by decide +kernel) h44 ?_
  refine j_ltw rfl (fun W45 hc46 => ?_)
  have h47 : jC W45 t = 8 := (congrFun hc46 _).trans h37
  have h48 : jC W45 (jR W 800 t) = 2 := (congrFun hc46 _).trans h38
  have h49 : jC W45 (jR W11 800 t) = 2 := (congrFun hc46 _).trans h39
  have h50 : jC W45 (jR W18 800 t) = 2 := (congrFun hc46 _).trans h40
  have h51 : jC W45 (jR W26 800 t) = 2 := (congrFun hc46 _).trans h41
  have h52 : jC W45 (jR W35 800 t) = 2 := (congrFun hc46 _).trans h43
  refine j_runA hx 2 (tb := [(80, .aload_n 0), (81, .aload_n 0)]) (jtb_ok (by decide +kernel)) (pc' := 82) (lv' := [(0, vR t)]) (st' := [vR t, vR t]) rfl ?_
  refine j_getR hx flX13_91 kl800 h47 (by decide) (by decide +kernel) ?_
  refine j_gd (fun h54 => ?_)
  refine j_getI hx flX13_95 kd217 h54 (by decide) (by decide +kernel) ?_
  refine j_gd (fun h55 => ?_)
  refine j_nwA hx fwX13_34 wf810 ka810 ja810_3 h47 (by decide) nr810 fr810 (by decide +kernel) (by decide +kernel) h55 ?_
  refine j_ltw rfl (fun W56 hc57 => ?_)
  have h58 : jC W56 t = 8 := (congrFun hc57 _).trans h47
  have h59 : jC W56 (jR W 800 t) = 2 := (congrFun hc57 _).trans h48
  have h60 : jC W56 (jR W11 800 t) = 2 := (congrFun hc57 _).trans h49
  have h61 : jC W56 (jR W18 800 t) = 2 := (congrFun hc57 _).trans h50
  have h62 : jC W56 (jR W26 800 t) = 2 := (congrFun hc57 _).trans h51
  have h63 : jC W56 (jR W35 800 t) = 2 := (congrFun hc57 _).trans h52
  have h64 : jC W56 (jR W45 800 t) = 2 := (congrFun hc57 _).trans h54
  refine j_runA hx 2 (tb := [(93, .aload_n 0), (94, .aload_n 0)]) (jtb_ok (by decide +kernel)) (pc' := 95) (lv' := [(0, vR t)]) (st' := [vR t, vR t]) rfl ?_
  refine j_getR hx flX13_91 kl800 h58 (by decide) (by decide +kernel) ?_
  refine j_gd (fun h66 => ?_)
  refine j_getI hx flX13_95 kd217 h66 (by decide) (by decide +kernel) ?_
  refine j_gd (fun h67 => ?_)
  refine j_nwA hx fwX13_37 wf811 ka811 ja811_5 h58 (by decide) nr811 fr811 (by decide +kernel) (by decide +kernel) h67 ?_
  refine j_ltw rfl (fun W68 hc69 => ?_)
  have h70 : jC W68 t = 8 := (congrFun hc69 _).trans h58
  have h71 : jC W68 (jR W 800 t) = 2 := (congrFun hc69 _).trans h59
  have h72 : jC W68 (jR W11 800 t) = 2 := (congrFun hc69 _).trans h60
  have h73 : jC W68 (jR W18 800 t) = 2 := (congrFun hc69 _).trans h61
  have h74 : jC W68 (jR W26 800 t) = 2 := (congrFun hc69 _).trans h62
  have h75 : jC W68 (jR W35 800 t) = 2 := (congrFun hc69 _).trans h63
  have h76 : jC W68 (jR W45 800 t) = 2 := (congrFun hc69 _).trans h64
  have h77 : jC W68 (jR W56 800 t) = 2 := (congrFun hc69 _).trans h66
  exact wog_room_106 h W68
theorem cog_room (t : Nat) (W : jW) : jM yX13_room cX13_room 2 (Option.none : Option Jvm.ClassFile.FieldType) [] 1 12 [vR t] W ((fog_room t W).bind (fun q => some (.returned none, q))) := 
  jM.of (Nat.le_of_ble_eq_true rfl) (fun x hx hm hr => wog_room ⟨hx, hm, hr, fun _ => rfl⟩ W)
def hco_size (x : jCx) (en : (Int32) → Option (Outcome × jW)) (t : Nat) (W : jW) : Prop :=
  jOK x RX7 cX7_size 1 ∧
  jMt x "size" (Option.some Jvm.ClassFile.FieldType.int) [] ∧
  jRm x 0 0 ∧
  (∀ q : Int32, en q = some (.returned (some (.int q)), W))
theorem wco_size {x : jCx} {en : (Int32) → Option (Outcome × jW)} {W : jW} {t : Nat} (h : hco_size x en t W) : jJ x 1 0 [(0, vR t)] [] W (fco_size t W) en := by
  have h0 := h
  obtain ⟨hx, hm, hr, he⟩ := h0
  unfold fco_size
  refine j_runA hx 1 (tb := [(0, .aload_n 0)]) (jtb_ok (by decide +kernel)) (pc' := 1) (lv' := [(0, vR t)]) (st' := [vR t]) rfl ?_
  refine j_gd (fun h1 => ?_)
  refine j_getR hx flX7_10 kl700 h1 (by decide) (by decide +kernel) ?_
  refine j_gd (fun h2 => ?_)
  refine j_getI hx flX7_27 kd601 h2 (by decide) (by decide +kernel) ?_
  exact j_iret hx hm (by decide +kernel) rfl (he _)
theorem cco_size (t : Nat) (W : jW) : jM yX7_size cX7_size 1 (Option.some Jvm.ClassFile.FieldType.int) [] 0 0 [vR t] W ((fco_size t W).bind (fun q => some (.returned (some (.int q)), W))) := 
  jM.of (Nat.le_of_ble_eq_true rfl) (fun x hx hm hr => wco_size ⟨hx, hm, hr, fun _ => rfl⟩)
def hpg_firstBlock (x : jCx) (en : (Int32) → Option (Outcome × jW)) (t : Nat) (a1 : Int32) (W : jW) : Prop :=
  jOK x RX1 cX1_firstBlock 2 ∧
  jMt x "firstBlock" (Option.some Jvm.ClassFile.FieldType.int) [] ∧
  jRm x 0 0 ∧
  (∀ q : Int32, en q = some (.returned (some (.int q)), W))
theorem wpg_firstBlock {x : jCx} {en : (Int32) → Option (Outcome × jW)} {W : jW} {t : Nat} {a1 : Int32} (h : hpg_firstBlock x en t a1 W) : jJ x 2 0 [(0, vR t), (1, vI a1)] [] W (fpg_firstBlock t a1 W) en := by
  have h0 := h
  obtain ⟨hx, hm, hr, he⟩ := h0
  unfold fpg_firstBlock
  refine j_runA hx 1 (tb := [(0, .aload_n 0)]) (jtb_ok (by decide +kernel)) (pc' := 1) (lv' := [(0, vR t), (1, vI a1)]) (st' := [vR t]) rfl ?_
  refine j_gd (fun h1 => ?_)
  refine j_getR hx flX1_59 kl211 h1 (by decide) (by decide +kernel) ?_
  refine j_gd (fun h2 => ?_)
  refine j_getR hx flX1_166 kl600 h2 (by decide) (by decide +kernel) ?_
  refine j_runA hx 1 (tb := [(7, .iload_n 1)]) (jtb_ok (by decide +kernel)) (pc' := 8) (lv' := [(0, vR t), (1, vI a1)]) (st' := [vI a1, vR (jR W 600 (jR W 211 t))]) rfl ?_
  refine j_gd (fun h3 => ?_)
  refine j_iald hx (f := 600) (o := (jR W 211 t)) kd600 rfl (by decide +kernel) h3 ?_
  exact j_iret hx hm (by decide +kernel) rfl (he _)
theorem cpg_firstBlock (t : Nat) (a1 : Int32) (W : jW) : jM yX1_firstBlock cX1_firstBlock 2 (Option.some Jvm.ClassFile.FieldType.int) [] 0 0 [vR t, vI a1] W ((fpg_firstBlock t a1 W).bind (fun q => some (.returned (some (.int q)), W))) := 
  jM.of (Nat.le_of_ble_eq_true rfl) (fun x hx hm hr => wpg_firstBlock ⟨hx, hm, hr, fun _ => rfl⟩)
def hog_add (x : jCx) (en : (fog_add_S ⊕ (jW)) → Option (Outcome × jW)) (t : Nat) (a1 : Int32) (a2 : Nat) : Prop :=
  jOK x RX13 cX13_add 4 ∧
  jMt x "add" (Option.none : Option Jvm.ClassFile.FieldType) [] ∧
  jRm x 1 17 ∧
  (∀ q : jW, en (.inr q) = some (.returned none, q)) ∧
  (∀ (l3 : Int32) (W : jW), jJ x 4 30 [(0, vR t), (1, vI a1), (2, vR a2), (3, vI l3)] [] W (some (.inl (.inl (l3, W)))) en) ∧
  (∀ (l3 : Int32) (W : jW), jJ x 4 56 [(0, vR t), (1, vI a1), (2, vR a2), (3, vI l3)] [] W (some (.inl (.inr (.inl (l3, W))))) en) ∧
  (∀ (l3 : Int32) (W : jW), jJ x 4 128 [(0, vR t), (1, vI a1), (2, vR a2), (3, vI l3)] [] W (some (.inl (.inr (.inr (.inl (l3, W)))))) en) ∧
  (∀ (l3 : Int32) (W : jW), jJ x 4 173 [(0, vR t), (1, vI a1), (2, vR a2), (3, vI l3)] [] W (some (.inl (.inr (.inr (.inr (.inl (l3, W))))))) en) ∧
  (∀ (l3 : Int32) (W : jW), jJ x 4 217 [(0, vR t), (1, vI a1), (2, vR a2), (3, vI l3)] [] W (some (.inl (.inr (.inr (.inr (.inr (l3, W))))))) en)
theorem wog_add_107 {x : jCx} {en : (fog_add_S ⊕ (jW)) → Option (Outcome × jW)} {t : Nat} {a1 : Int32} {a2 : Nat} (h : hog_add x en t a1 a2) (l3 : Int32) (s0 : Int32) (s1 : Nat) (W : jW) : jJ x 4 107 [(0, vR t), (1, vI a1), (2, vR a2), (3, vI l3)] [vI s0, vR s1] W (fog_add_107 t a1 a2 l3 s0 s1 W) en := by
  have h0 := h
  obtain ⟨hx, hm, hr, he, k30, k56, k128, k173, k217⟩ := h0
  unfold fog_add_107
  refine j_runA hx 1 (tb := [(107, .dup2)]) (jtb_ok (by decide +kernel)) (pc' := 108) (lv' := [(0, vR t), (1, vI a1), (2, vR a2), (3, vI l3)]) (st' := [vI s0, vR s1, vI s0, vR s1]) rfl ?_
  refine j_gd (fun h30 => ?_)
  refine j_gd (fun h31 => ?_)
  refine j_lald hx (f := 819) (o := t) kd819 h30 (by decide +kernel) h31 ?_
  refine j_runA hx 1 (tb := [(109, .aload_n 0)]) (jtb_ok (by decide +kernel)) (pc' := 110) (lv' := [(0, vR t), (1, vI a1), (2, vR a2), (3, vI l3)]) (st' := [vR t, vL (jB W 819 t (ix s0)), vI s0, vR s1]) rfl ?_
  refine j_gd (fun h32 => ?_)
  refine j_getR hx flX13_105 kl801 h32 (by decide) (by decide +kernel) ?_
  refine j_gd (fun h33 => ?_)
  refine j_getR hx flX13_126 kl702 h33 (by decide) (by decide +kernel) ?_
  refine j_runA hx 1 (tb := [(116, .iload_n 3)]) (jtb_ok (by decide +kernel)) (pc' := 117) (lv' := [(0, vR t), (1, vI a1), (2, vR a2), (3, vI l3)]) (st' := [vI l3, vR (jR W 702 (jR W 801 t)), vL (jB W 819 t (ix s0)), vI s0, vR s1]) rfl ?_
  refine j_gd (fun h34 => ?_)
  refine j_lald hx (f := 702) (o := (jR W 801 t)) kd702 rfl (by decide +kernel) h34 ?_
  refine j_runA hx 1 (tb := [(118, .ladd)]) (jtb_ok (by decide +kernel)) (pc' := 119) (lv' := [(0, vR t), (1, vI a1), (2, vR a2), (3, vI l3)]) (st' := [vL ((jB W 819 t (ix s0)) + (jB W 702 (jR W 801 t) (ix l3))), vI s0, vR s1]) rfl ?_
  refine j_gd (fun h35 => ?_)
  refine j_gd (fun h36 => ?_)
  refine j_last hx (f := 819) (o := t) kd819 h35 (by decide +kernel) h36 ?_
  refine j_ltw rfl (fun W37 hc38 => ?_)
  have h39 : jC W37 t = 8 := (congrFun hc38 _).trans h32
  have h40 : jC W37 (jR W 801 t) = 7 := (congrFun hc38 _).trans h33
  refine j_runA hx 1 (tb := [(120, .iinc 3 1)]) (jtb_ok (by decide +kernel)) (pc' := 123) (lv' := [(3, vI (l3 + (kI 1))), (0, vR t), (1, vI a1), (2, vR a2)]) (st' := []) rfl ?_
  refine j_let (v := (l3 + (kI 1))) (lv := fun v42 => [(3, vI v42), (0, vR t), (1, vI a1), (2, vR a2)]) (st := fun _ => []) (fun v42 => ?_)
  refine j_goto hx (off := -67) (by decide +kernel) (tgt := 56) (by decide) ?_
  refine j_lv (lv' := [(0, vR t), (1, vI a1), (2, vR a2), (3, vI v42)]) ⟨rfl, rfl, rfl, rfl, trivial⟩ ?_
  exact k56 v42 W37
theorem wog_add_217 {x : jCx} {en : (fog_add_S ⊕ (jW)) → Option (Outcome × jW)} {t : Nat} {a1 : Int32} {a2 : Nat} (h : hog_add x en t a1 a2) (l3 : Int32) (W : jW) : jJ x 4 217 [(0, vR t), (1, vI a1), (2, vR a2), (3, vI l3)] [] W (fog_add_217 t a1 a2 l3 W) en := by
  have h0 := h
  obtain ⟨hx, hm, hr, he, k30, k56, k128, k173, k217⟩ := h0
  unfold fog_add_217
  refine j_runA hx 2 (tb := [(217, .iload_n 3), (218, .aload_n 0)]) (jtb_ok (by decide +kernel)) (pc' := 219) (lv' := [(0, vR t), (1, vI a1), (2, vR a2), (3, vI l3)]) (st' := [vR t, vI l3]) rfl ?_
  refine j_gd (fun h77 => ?_)
  refine j_getR hx flX13_91 kl800 h77 (by decide) (by decide +kernel) ?_
  refine j_gd (fun h78 => ?_)
  refine j_getI hx flX13_95 kd217 h78 (by decide) (by decide +kernel) ?_
  refine j_icmp_ge hx (off := 30) (tgt := 255) (by decide +kernel) (by decide) (fun _ => ?_) (fun _ => ?_)
  · exact j_vret hx hm (by decide +kernel) (he _)
  refine j_runA hx 1 (tb := [(228, .aload_n 0)]) (jtb_ok (by decide +kernel)) (pc' := 229) (lv' := [(0, vR t), (1, vI a1), (2, vR a2), (3, vI l3)]) (st' := [vR t]) rfl ?_
  refine j_getR hx flX13_7 kl803 h77 (by decide) (by decide +kernel) ?_
  refine j_runA hx 2 (tb := [(232, .iload_n 3), (233, .aload_n 0)]) (jtb_ok (by decide +kernel)) (pc' := 234) (lv' := [(0, vR t), (1, vI a1), (2, vR a2), (3, vI l3)]) (st' := [vR t, vI l3, vR (jR W 803 t)]) rfl ?_
  refine j_getR hx flX13_7 kl803 h77 (by decide) (by decide +kernel) ?_
  refine j_runA hx 1 (tb := [(237, .iload_n 3)]) (jtb_ok (by decide +kernel)) (pc' := 238) (lv' := [(0, vR t), (1, vI a1), (2, vR a2), (3, vI l3)]) (st' := [vI l3, vR (jR W 803 t), vI l3, vR (jR W 803 t)]) rfl ?_
  refine j_gd (fun h79 => ?_)
  refine j_lald hx (f := 803) (o := t) kd803 rfl (by decide +kernel) h79 ?_
  refine j_runA hx 1 (tb := [(239, .aload_n 0)]) (jtb_ok (by decide +kernel)) (pc' := 240) (lv' := [(0, vR t), (1, vI a1), (2, vR a2), (3, vI l3)]) (st' := [vR t, vL (jB W 803 t (ix l3)), vI l3, vR (jR W 803 t)]) rfl ?_
  refine j_getR hx flX13_61 kl819 h77 (by decide) (by decide +kernel) ?_
  refine j_runA hx 1 (tb := [(243, .iload_n 3)]) (jtb_ok (by decide +kernel)) (pc' := 244) (lv' := [(0, vR t), (1, vI a1), (2, vR a2), (3, vI l3)]) (st' := [vI l3, vR (jR W 819 t), vL (jB W 803 t (ix l3)), vI l3, vR (jR W 803 t)]) rfl ?_
  refine j_gd (fun h80 => ?_)
  refine j_lald hx (f := 819) (o := t) kd819 rfl (by decide +kernel) h80 ?_
  refine j_TL (j_callS (av := [vL (jB W 803 t (ix l3)), vL (jB W 819 t (ix l3))]) (st := [vI l3, vR (jR W 803 t)]) hx hr (Or.inl q1607) q824 q246 md_fjm_max np_fjm_max (cjm_max (jB W 803 t (ix l3)) (jB W 819 t (ix l3)) W) (by decide) (Nat.le_of_ble_eq_true rfl) (by decide +kernel)) ?_
  refine j_gd (fun h81 => ?_)
  refine j_last hx (f := 803) (o := t) kd803 rfl (by decide +kernel) h81 ?_
  refine j_ltw rfl (fun W82 hc83 => ?_)
  have h84 : jC W82 t = 8 := (congrFun hc83 _).trans h77
  have h85 : jC W82 (jR W 800 t) = 2 := (congrFun hc83 _).trans h78
  refine j_runA hx 1 (tb := [(249, .iinc 3 1)]) (jtb_ok (by decide +kernel)) (pc' := 252) (lv' := [(3, vI (l3 + (kI 1))), (0, vR t), (1, vI a1), (2, vR a2)]) (st' := []) rfl ?_
  refine j_let (v := (l3 + (kI 1))) (lv := fun v87 => [(3, vI v87), (0, vR t), (1, vI a1), (2, vR a2)]) (st := fun _ => []) (fun v87 => ?_)
  refine j_goto hx (off := -35) (by decide +kernel) (tgt := 217) (by decide) ?_
  refine j_lv (lv' := [(0, vR t), (1, vI a1), (2, vR a2), (3, vI v87)]) ⟨rfl, rfl, rfl, rfl, trivial⟩ ?_
  exact k217 v87 W82
theorem wog_add_215 {x : jCx} {en : (fog_add_S ⊕ (jW)) → Option (Outcome × jW)} {t : Nat} {a1 : Int32} {a2 : Nat} (h : hog_add x en t a1 a2) (W : jW) : jJ x 4 215 [(0, vR t), (1, vI a1), (2, vR a2)] [] W (fog_add_215 t a1 a2 W) en := by
  have h0 := h
  obtain ⟨hx, hm, hr, he, k30, k56, k128, k173, k217⟩ := h0
  unfold fog_add_215
  refine j_runA hx 2 (tb := [(215, .iconst 0), (216, .istore_n 3)]) (jtb_ok (by decide +kernel)) (pc' := 217) (lv' := [(3, vI (kI 0)), (0, vR t), (1, vI a1), (2, vR a2)]) (st' := []) rfl ?_
  refine j_lv (lv' := [(0, vR t), (1, vI a1), (2, vR a2), (3, vI (kI 0))]) ⟨rfl, rfl, rfl, rfl, trivial⟩ ?_
  exact k217 (kI 0) W
theorem wog_add_173 {x : jCx} {en : (fog_add_S ⊕ (jW)) → Option (Outcome × jW)} {t : Nat} {a1 : Int32} {a2 : Nat} (h : hog_add x en t a1 a2) (l3 : Int32) (W : jW) : jJ x 4 173 [(0, vR t), (1, vI a1), (2, vR a2), (3, vI l3)] [] W (fog_add_173 t a1 a2 l3 W) en := by
  have h0 := h
  obtain ⟨hx, hm, hr, he, k30, k56, k128, k173, k217⟩ := h0
  unfold fog_add_173
  refine j_runA hx 2 (tb := [(173, .iload_n 3), (174, .aload_n 2)]) (jtb_ok (by decide +kernel)) (pc' := 175) (lv' := [(0, vR t), (1, vI a1), (2, vR a2), (3, vI l3)]) (st' := [vR a2, vI l3]) rfl ?_
  refine j_gd (fun h60 => ?_)
  refine j_OI (j_callV (av := []) (st := [vI l3]) hx hr (Or.inl q1595) q1596 q1597 rfl md_fco_size np_fco_size (cco_size a2 W) (by decide) (Nat.le_of_ble_eq_true rfl) h60 (by decide) (by decide +kernel)) (fun q61 _ => ?_)
  refine j_icmp_ge hx (off := 37) (tgt := 215) (by decide +kernel) (by decide) (fun _ => ?_) (fun _ => ?_)
  · refine j_lv (lv' := [(0, vR t), (1, vI a1), (2, vR a2)]) ⟨rfl, rfl, rfl, trivial⟩ ?_
    exact wog_add_215 h W
  refine j_runA hx 2 (tb := [(181, .iload_n 1), (182, .iconst 2)]) (jtb_ok (by decide +kernel)) (pc' := 183) (lv' := [(0, vR t), (1, vI a1), (2, vR a2), (3, vI l3)]) (st' := [vI (kI 2), vI a1]) rfl ?_
  refine j_icmp_ne hx (off := 32) (tgt := 215) (by decide +kernel) (by decide) (fun _ => ?_) (fun _ => ?_)
  · refine j_lv (lv' := [(0, vR t), (1, vI a1), (2, vR a2)]) ⟨rfl, rfl, rfl, trivial⟩ ?_
    exact wog_add_215 h W
  refine j_runA hx 1 (tb := [(186, .aload_n 0)]) (jtb_ok (by decide +kernel)) (pc' := 187) (lv' := [(0, vR t), (1, vI a1), (2, vR a2), (3, vI l3)]) (st' := [vR t]) rfl ?_
  refine j_gd (fun h62 => ?_)
  refine j_getR hx flX13_61 kl819 h62 (by decide) (by decide +kernel) ?_
  refine j_runA hx 1 (tb := [(190, .aload_n 2)]) (jtb_ok (by decide +kernel)) (pc' := 191) (lv' := [(0, vR t), (1, vI a1), (2, vR a2), (3, vI l3)]) (st' := [vR a2, vR (jR W 819 t)]) rfl ?_
  refine j_getR hx flX13_133 kl700 h60 (by decide) (by decide +kernel) ?_
  refine j_gd (fun h63 => ?_)
  refine j_getR hx flX13_123 kl600 h63 (by decide) (by decide +kernel) ?_
  refine j_runA hx 1 (tb := [(197, .iload_n 3)]) (jtb_ok (by decide +kernel)) (pc' := 198) (lv' := [(0, vR t), (1, vI a1), (2, vR a2), (3, vI l3)]) (st' := [vI l3, vR (jR W 600 (jR W 700 a2)), vR (jR W 819 t)]) rfl ?_
  refine j_gd (fun h64 => ?_)
  refine j_iald hx (f := 600) (o := (jR W 700 a2)) kd600 rfl (by decide +kernel) h64 ?_
  refine j_runA hx 1 (tb := [(199, .dup2)]) (jtb_ok (by decide +kernel)) (pc' := 200) (lv' := [(0, vR t), (1, vI a1), (2, vR a2), (3, vI l3)]) (st' := [vI (jA W 600 (jR W 700 a2) (ix l3)), vR (jR W 819 t), vI (jA W 600 (jR W 700 a2) (ix l3)), vR (jR W 819 t)]) rfl ?_
  refine j_gd (fun h65 => ?_)
  refine j_lald hx (f := 819) (o := t) kd819 rfl (by decide +kernel) h65 ?_
  refine j_runA hx 1 (tb := [(201, .aload_n 2)]) (jtb_ok (by decide +kernel)) (pc' := 202) (lv' := [(0, vR t), (1, vI a1), (2, vR a2), (3, vI l3)]) (st' := [vR a2, vL (jB W 819 t (ix (jA W 600 (jR W 700 a2) (ix l3)))), vI (jA W 600 (jR W 700 a2) (ix l3)), vR (jR W 819 t)]) rfl ?_
  refine j_getR hx flX13_126 kl702 h60 (by decide) (by decide +kernel) ?_
  refine j_runA hx 1 (tb := [(205, .iload_n 3)]) (jtb_ok (by decide +kernel)) (pc' := 206) (lv' := [(0, vR t), (1, vI a1), (2, vR a2), (3, vI l3)]) (st' := [vI l3, vR (jR W 702 a2), vL (jB W 819 t (ix (jA W 600 (jR W 700 a2) (ix l3)))), vI (jA W 600 (jR W 700 a2) (ix l3)), vR (jR W 819 t)]) rfl ?_
  refine j_gd (fun h66 => ?_)
  refine j_lald hx (f := 702) (o := a2) kd702 rfl (by decide +kernel) h66 ?_
  refine j_runA hx 1 (tb := [(207, .ladd)]) (jtb_ok (by decide +kernel)) (pc' := 208) (lv' := [(0, vR t), (1, vI a1), (2, vR a2), (3, vI l3)]) (st' := [vL ((jB W 819 t (ix (jA W 600 (jR W 700 a2) (ix l3)))) + (jB W 702 a2 (ix l3))), vI (jA W 600 (jR W 700 a2) (ix l3)), vR (jR W 819 t)]) rfl ?_
  refine j_gd (fun h67 => ?_)
  refine j_last hx (f := 819) (o := t) kd819 rfl (by decide +kernel) h67 ?_
  refine j_ltw rfl (fun W68 hc69 => ?_)
  have h70 : jC W68 a2 = 7 := (congrFun hc69 _).trans h60
  have h71 : jC W68 t = 8 := (congrFun hc69 _).trans h62
  have h72 : jC W68 (jR W 700 a2) = 6 := (congrFun hc69 _).trans h63
  refine j_runA hx 1 (tb := [(209, .iinc 3 1)]) (jtb_ok (by decide +kernel)) (pc' := 212) (lv' := [(3, vI (l3 + (kI 1))), (0, vR t), (1, vI a1), (2, vR a2)]) (st' := []) rfl ?_
  refine j_let (v := (l3 + (kI 1))) (lv := fun v74 => [(3, vI v74), (0, vR t), (1, vI a1), (2, vR a2)]) (st := fun _ => []) (fun v74 => ?_)
  refine j_goto hx (off := -39) (by decide +kernel) (tgt := 173) (by decide) ?_
  refine j_lv (lv' := [(0, vR t), (1, vI a1), (2, vR a2), (3, vI v74)]) ⟨rfl, rfl, rfl, rfl, trivial⟩ ?_
  exact k173 v74 W68
theorem wog_add_171 {x : jCx} {en : (fog_add_S ⊕ (jW)) → Option (Outcome × jW)} {t : Nat} {a1 : Int32} {a2 : Nat} (h : hog_add x en t a1 a2) (W : jW) : jJ x 4 171 [(0, vR t), (1, vI a1), (2, vR a2)] [] W (fog_add_171 t a1 a2 W) en := by
  have h0 := h
  obtain ⟨hx, hm, hr, he, k30, k56, k128, k173, k217⟩ := h0
  unfold fog_add_171
  refine j_runA hx 2 (tb := [(171, .iconst 0), (172, .istore_n 3)]) (jtb_ok (by decide +kernel)) (pc' := 173) (lv' := [(3, vI (kI 0)), (0, vR t), (1, vI a1), (2, vR a2)]) (st' := []) rfl ?_
  refine j_lv (lv' := [(0, vR t), (1, vI a1), (2, vR a2), (3, vI (kI 0))]) ⟨rfl, rfl, rfl, rfl, trivial⟩ ?_
  exact k173 (kI 0) W
theorem wog_add_128 {x : jCx} {en : (fog_add_S ⊕ (jW)) → Option (Outcome × jW)} {t : Nat} {a1 : Int32} {a2 : Nat} (h : hog_add x en t a1 a2) (l3 : Int32) (W : jW) : jJ x 4 128 [(0, vR t), (1, vI a1), (2, vR a2), (3, vI l3)] [] W (fog_add_128 t a1 a2 l3 W) en := by
  have h0 := h
  obtain ⟨hx, hm, hr, he, k30, k56, k128, k173, k217⟩ := h0
  unfold fog_add_128
  refine j_runA hx 2 (tb := [(128, .iload_n 3), (129, .aload_n 0)]) (jtb_ok (by decide +kernel)) (pc' := 130) (lv' := [(0, vR t), (1, vI a1), (2, vR a2), (3, vI l3)]) (st' := [vR t, vI l3]) rfl ?_
  refine j_gd (fun h45 => ?_)
  refine j_getR hx flX13_91 kl800 h45 (by decide) (by decide +kernel) ?_
  refine j_gd (fun h46 => ?_)
  refine j_OI (j_callV (av := []) (st := [vI l3]) hx hr (Or.inl q1594) q1558 q1559 rfl md_fpg_functionCount np_fpg_functionCount (cpg_functionCount (jR W 800 t) W) (by decide) (Nat.le_of_ble_eq_true rfl) h46 (by decide) (by decide +kernel)) (fun q47 _ => ?_)
  refine j_icmp_ge hx (off := 35) (tgt := 171) (by decide +kernel) (by decide) (fun _ => ?_) (fun _ => ?_)
  · refine j_lv (lv' := [(0, vR t), (1, vI a1), (2, vR a2)]) ⟨rfl, rfl, rfl, trivial⟩ ?_
    exact wog_add_171 h W
  refine j_runA hx 1 (tb := [(139, .iload_n 1)]) (jtb_ok (by decide +kernel)) (pc' := 140) (lv' := [(0, vR t), (1, vI a1), (2, vR a2), (3, vI l3)]) (st' := [vI a1]) rfl ?_
  refine j_if_ne hx (off := 31) (tgt := 171) (by decide +kernel) (by decide) (fun _ => ?_) (fun _ => ?_)
  · refine j_lv (lv' := [(0, vR t), (1, vI a1), (2, vR a2)]) ⟨rfl, rfl, rfl, trivial⟩ ?_
    exact wog_add_171 h W
  refine j_runA hx 1 (tb := [(143, .aload_n 0)]) (jtb_ok (by decide +kernel)) (pc' := 144) (lv' := [(0, vR t), (1, vI a1), (2, vR a2), (3, vI l3)]) (st' := [vR t]) rfl ?_
  refine j_getR hx flX13_61 kl819 h45 (by decide) (by decide +kernel) ?_
  refine j_runA hx 1 (tb := [(147, .aload_n 0)]) (jtb_ok (by decide +kernel)) (pc' := 148) (lv' := [(0, vR t), (1, vI a1), (2, vR a2), (3, vI l3)]) (st' := [vR t, vR (jR W 819 t)]) rfl ?_
  refine j_getR hx flX13_91 kl800 h45 (by decide) (by decide +kernel) ?_
  refine j_runA hx 1 (tb := [(151, .iload_n 3)]) (jtb_ok (by decide +kernel)) (pc' := 152) (lv' := [(0, vR t), (1, vI a1), (2, vR a2), (3, vI l3)]) (st' := [vI l3, vR (jR W 800 t), vR (jR W 819 t)]) rfl ?_
  refine j_OI (j_callV (av := [vI l3]) (st := [vR (jR W 819 t)]) hx hr (Or.inl q1603) q1604 q1605 rfl md_fpg_firstBlock np_fpg_firstBlock (cpg_firstBlock (jR W 800 t) l3 W) (by decide) (Nat.le_of_ble_eq_true rfl) h46 (by decide) (by decide +kernel)) (fun q48 _ => ?_)
  refine j_runA hx 1 (tb := [(155, .dup2)]) (jtb_ok (by decide +kernel)) (pc' := 156) (lv' := [(0, vR t), (1, vI a1), (2, vR a2), (3, vI l3)]) (st' := [vI q48, vR (jR W 819 t), vI q48, vR (jR W 819 t)]) rfl ?_
  refine j_gd (fun h49 => ?_)
  refine j_lald hx (f := 819) (o := t) kd819 rfl (by decide +kernel) h49 ?_
  refine j_runA hx 1 (tb := [(157, .aload_n 0)]) (jtb_ok (by decide +kernel)) (pc' := 158) (lv' := [(0, vR t), (1, vI a1), (2, vR a2), (3, vI l3)]) (st' := [vR t, vL (jB W 819 t (ix q48)), vI q48, vR (jR W 819 t)]) rfl ?_
  refine j_getR hx flX13_40 kl812 h45 (by decide) (by decide +kernel) ?_
  refine j_runA hx 1 (tb := [(161, .iload_n 3)]) (jtb_ok (by decide +kernel)) (pc' := 162) (lv' := [(0, vR t), (1, vI a1), (2, vR a2), (3, vI l3)]) (st' := [vI l3, vR (jR W 812 t), vL (jB W 819 t (ix q48)), vI q48, vR (jR W 819 t)]) rfl ?_
  refine j_gd (fun h50 => ?_)
  refine j_lald hx (f := 812) (o := t) kd812 rfl (by decide +kernel) h50 ?_
  refine j_runA hx 1 (tb := [(163, .ladd)]) (jtb_ok (by decide +kernel)) (pc' := 164) (lv' := [(0, vR t), (1, vI a1), (2, vR a2), (3, vI l3)]) (st' := [vL ((jB W 819 t (ix q48)) + (jB W 812 t (ix l3))), vI q48, vR (jR W 819 t)]) rfl ?_
  refine j_gd (fun h51 => ?_)
  refine j_last hx (f := 819) (o := t) kd819 rfl (by decide +kernel) h51 ?_
  refine j_ltw rfl (fun W52 hc53 => ?_)
  have h54 : jC W52 t = 8 := (congrFun hc53 _).trans h45
  have h55 : jC W52 (jR W 800 t) = 2 := (congrFun hc53 _).trans h46
  refine j_runA hx 1 (tb := [(165, .iinc 3 1)]) (jtb_ok (by decide +kernel)) (pc' := 168) (lv' := [(3, vI (l3 + (kI 1))), (0, vR t), (1, vI a1), (2, vR a2)]) (st' := []) rfl ?_
  refine j_let (v := (l3 + (kI 1))) (lv := fun v57 => [(3, vI v57), (0, vR t), (1, vI a1), (2, vR a2)]) (st := fun _ => []) (fun v57 => ?_)
  refine j_goto hx (off := -40) (by decide +kernel) (tgt := 128) (by decide) ?_
  refine j_lv (lv' := [(0, vR t), (1, vI a1), (2, vR a2), (3, vI v57)]) ⟨rfl, rfl, rfl, rfl, trivial⟩ ?_
  exact k128 v57 W52
theorem wog_add_126 {x : jCx} {en : (fog_add_S ⊕ (jW)) → Option (Outcome × jW)} {t : Nat} {a1 : Int32} {a2 : Nat} (h : hog_add x en t a1 a2) (W : jW) : jJ x 4 126 [(0, vR t), (1, vI a1), (2, vR a2)] [] W (fog_add_126 t a1 a2 W) en := by
  have h0 := h
  obtain ⟨hx, hm, hr, he, k30, k56, k128, k173, k217⟩ := h0
  unfold fog_add_126
  refine j_runA hx 2 (tb := [(126, .iconst 0), (127, .istore_n 3)]) (jtb_ok (by decide +kernel)) (pc' := 128) (lv' := [(3, vI (kI 0)), (0, vR t), (1, vI a1), (2, vR a2)]) (st' := []) rfl ?_
  refine j_lv (lv' := [(0, vR t), (1, vI a1), (2, vR a2), (3, vI (kI 0))]) ⟨rfl, rfl, rfl, rfl, trivial⟩ ?_
  exact k128 (kI 0) W
theorem wog_add_56 {x : jCx} {en : (fog_add_S ⊕ (jW)) → Option (Outcome × jW)} {t : Nat} {a1 : Int32} {a2 : Nat} (h : hog_add x en t a1 a2) (l3 : Int32) (W : jW) : jJ x 4 56 [(0, vR t), (1, vI a1), (2, vR a2), (3, vI l3)] [] W (fog_add_56 t a1 a2 l3 W) en := by
  have h0 := h
  obtain ⟨hx, hm, hr, he, k30, k56, k128, k173, k217⟩ := h0
  unfold fog_add_56
  refine j_runA hx 2 (tb := [(56, .iload_n 3), (57, .aload_n 0)]) (jtb_ok (by decide +kernel)) (pc' := 58) (lv' := [(0, vR t), (1, vI a1), (2, vR a2), (3, vI l3)]) (st' := [vR t, vI l3]) rfl ?_
  refine j_gd (fun h22 => ?_)
  refine j_getR hx flX13_105 kl801 h22 (by decide) (by decide +kernel) ?_
  refine j_gd (fun h23 => ?_)
  refine j_OI (j_callV (av := []) (st := [vI l3]) hx hr (Or.inl q1595) q1596 q1597 rfl md_fco_size np_fco_size (cco_size (jR W 801 t) W) (by decide) (Nat.le_of_ble_eq_true rfl) h23 (by decide) (by decide +kernel)) (fun q24 _ => ?_)
  refine j_icmp_ge hx (off := 62) (tgt := 126) (by decide +kernel) (by decide) (fun _ => ?_) (fun _ => ?_)
  · refine j_lv (lv' := [(0, vR t), (1, vI a1), (2, vR a2)]) ⟨rfl, rfl, rfl, trivial⟩ ?_
    exact wog_add_126 h W
  refine j_runA hx 2 (tb := [(67, .iload_n 1), (68, .iconst 2)]) (jtb_ok (by decide +kernel)) (pc' := 69) (lv' := [(0, vR t), (1, vI a1), (2, vR a2), (3, vI l3)]) (st' := [vI (kI 2), vI a1]) rfl ?_
  refine j_icmp_ge hx (off := 57) (tgt := 126) (by decide +kernel) (by decide) (fun _ => ?_) (fun _ => ?_)
  · refine j_lv (lv' := [(0, vR t), (1, vI a1), (2, vR a2)]) ⟨rfl, rfl, rfl, trivial⟩ ?_
    exact wog_add_126 h W
  refine j_runA hx 1 (tb := [(72, .aload_n 0)]) (jtb_ok (by decide +kernel)) (pc' := 73) (lv' := [(0, vR t), (1, vI a1), (2, vR a2), (3, vI l3)]) (st' := [vR t]) rfl ?_
  refine j_getR hx flX13_61 kl819 h22 (by decide) (by decide +kernel) ?_
  refine j_runA hx 1 (tb := [(76, .iload_n 1)]) (jtb_ok (by decide +kernel)) (pc' := 77) (lv' := [(0, vR t), (1, vI a1), (2, vR a2), (3, vI l3)]) (st' := [vI a1, vR (jR W 819 t)]) rfl ?_
  refine j_if_ne hx (off := 18) (tgt := 95) (by decide +kernel) (by decide) (fun _ => ?_) (fun _ => ?_)
  · refine j_runA hx 1 (tb := [(95, .aload_n 0)]) (jtb_ok (by decide +kernel)) (pc' := 96) (lv' := [(0, vR t), (1, vI a1), (2, vR a2), (3, vI l3)]) (st' := [vR t, vR (jR W 819 t)]) rfl ?_
    refine j_getR hx flX13_105 kl801 h22 (by decide) (by decide +kernel) ?_
    refine j_getR hx flX13_133 kl700 h23 (by decide) (by decide +kernel) ?_
    refine j_gd (fun h25 => ?_)
    refine j_getR hx flX13_123 kl600 h25 (by decide) (by decide +kernel) ?_
    refine j_runA hx 1 (tb := [(105, .iload_n 3)]) (jtb_ok (by decide +kernel)) (pc' := 106) (lv' := [(0, vR t), (1, vI a1), (2, vR a2), (3, vI l3)]) (st' := [vI l3, vR (jR W 600 (jR W 700 (jR W 801 t))), vR (jR W 819 t)]) rfl ?_
    refine j_gd (fun h26 => ?_)
    refine j_iald hx (f := 600) (o := (jR W 700 (jR W 801 t))) kd600 rfl (by decide +kernel) h26 ?_
    exact wog_add_107 h l3 (jA W 600 (jR W 700 (jR W 801 t)) (ix l3)) (jR W 819 t) W
  refine j_runA hx 1 (tb := [(80, .aload_n 0)]) (jtb_ok (by decide +kernel)) (pc' := 81) (lv' := [(0, vR t), (1, vI a1), (2, vR a2), (3, vI l3)]) (st' := [vR t, vR (jR W 819 t)]) rfl ?_
  refine j_getR hx flX13_105 kl801 h22 (by decide) (by decide +kernel) ?_
  refine j_getR hx flX13_120 kl701 h23 (by decide) (by decide +kernel) ?_
  refine j_gd (fun h27 => ?_)
  refine j_getR hx flX13_123 kl600 h27 (by decide) (by decide +kernel) ?_
  refine j_runA hx 1 (tb := [(90, .iload_n 3)]) (jtb_ok (by decide +kernel)) (pc' := 91) (lv' := [(0, vR t), (1, vI a1), (2, vR a2), (3, vI l3)]) (st' := [vI l3, vR (jR W 600 (jR W 701 (jR W 801 t))), vR (jR W 819 t)]) rfl ?_
  refine j_gd (fun h28 => ?_)
  refine j_iald hx (f := 600) (o := (jR W 701 (jR W 801 t))) kd600 rfl (by decide +kernel) h28 ?_
  refine j_goto hx (off := 15) (by decide +kernel) (tgt := 107) (by decide) ?_
  exact wog_add_107 h l3 (jA W 600 (jR W 701 (jR W 801 t)) (ix l3)) (jR W 819 t) W
theorem wog_add_30 {x : jCx} {en : (fog_add_S ⊕ (jW)) → Option (Outcome × jW)} {t : Nat} {a1 : Int32} {a2 : Nat} (h : hog_add x en t a1 a2) (l3 : Int32) (W : jW) : jJ x 4 30 [(0, vR t), (1, vI a1), (2, vR a2), (3, vI l3)] [] W (fog_add_30 t a1 a2 l3 W) en := by
  have h0 := h
  obtain ⟨hx, hm, hr, he, k30, k56, k128, k173, k217⟩ := h0
  unfold fog_add_30
  refine j_runA hx 2 (tb := [(30, .iload_n 3), (31, .aload_n 0)]) (jtb_ok (by decide +kernel)) (pc' := 32) (lv' := [(0, vR t), (1, vI a1), (2, vR a2), (3, vI l3)]) (st' := [vR t, vI l3]) rfl ?_
  refine j_gd (fun h12 => ?_)
  refine j_getR hx flX13_91 kl800 h12 (by decide) (by decide +kernel) ?_
  refine j_gd (fun h13 => ?_)
  refine j_getI hx flX13_95 kd217 h13 (by decide) (by decide +kernel) ?_
  refine j_icmp_ge hx (off := 16) (tgt := 54) (by decide +kernel) (by decide) (fun _ => ?_) (fun _ => ?_)
  · refine j_runA hx 2 (tb := [(54, .iconst 0), (55, .istore_n 3)]) (jtb_ok (by decide +kernel)) (pc' := 56) (lv' := [(3, vI (kI 0)), (0, vR t), (1, vI a1), (2, vR a2)]) (st' := []) rfl ?_
    refine j_lv (lv' := [(0, vR t), (1, vI a1), (2, vR a2), (3, vI (kI 0))]) ⟨rfl, rfl, rfl, rfl, trivial⟩ ?_
    exact k56 (kI 0) W
  refine j_runA hx 1 (tb := [(41, .aload_n 0)]) (jtb_ok (by decide +kernel)) (pc' := 42) (lv' := [(0, vR t), (1, vI a1), (2, vR a2), (3, vI l3)]) (st' := [vR t]) rfl ?_
  refine j_getR hx flX13_61 kl819 h12 (by decide) (by decide +kernel) ?_
  refine j_runA hx 2 (tb := [(45, .iload_n 3), (46, .lconst 0)]) (jtb_ok (by decide +kernel)) (pc' := 47) (lv' := [(0, vR t), (1, vI a1), (2, vR a2), (3, vI l3)]) (st' := [vL (kJ 0), vI l3, vR (jR W 819 t)]) rfl ?_
  refine j_gd (fun h14 => ?_)
  refine j_last hx (f := 819) (o := t) kd819 rfl (by decide +kernel) h14 ?_
  refine j_ltw rfl (fun W15 hc16 => ?_)
  have h17 : jC W15 t = 8 := (congrFun hc16 _).trans h12
  have h18 : jC W15 (jR W 800 t) = 2 := (congrFun hc16 _).trans h13
  refine j_runA hx 1 (tb := [(48, .iinc 3 1)]) (jtb_ok (by decide +kernel)) (pc' := 51) (lv' := [(3, vI (l3 + (kI 1))), (0, vR t), (1, vI a1), (2, vR a2)]) (st' := []) rfl ?_
  refine j_let (v := (l3 + (kI 1))) (lv := fun v20 => [(3, vI v20), (0, vR t), (1, vI a1), (2, vR a2)]) (st := fun _ => []) (fun v20 => ?_)
  refine j_goto hx (off := -21) (by decide +kernel) (tgt := 30) (by decide) ?_
  refine j_lv (lv' := [(0, vR t), (1, vI a1), (2, vR a2), (3, vI v20)]) ⟨rfl, rfl, rfl, rfl, trivial⟩ ?_
  exact k30 v20 W15
theorem wog_add_28 {x : jCx} {en : (fog_add_S ⊕ (jW)) → Option (Outcome × jW)} {t : Nat} {a1 : Int32} {a2 : Nat} (h : hog_add x en t a1 a2) (W : jW) : jJ x 4 28 [(0, vR t), (1, vI a1), (2, vR a2)] [] W (fog_add_28 t a1 a2 W) en := by
  have h0 := h
  obtain ⟨hx, hm, hr, he, k30, k56, k128, k173, k217⟩ := h0
  unfold fog_add_28
  refine j_runA hx 2 (tb := [(28, .iconst 0), (29, .istore_n 3)]) (jtb_ok (by decide +kernel)) (pc' := 30) (lv' := [(3, vI (kI 0)), (0, vR t), (1, vI a1), (2, vR a2)]) (st' := []) rfl ?_
  refine j_lv (lv' := [(0, vR t), (1, vI a1), (2, vR a2), (3, vI (kI 0))]) ⟨rfl, rfl, rfl, rfl, trivial⟩ ?_
  exact k30 (kI 0) W
theorem wog_add {x : jCx} {en : (fog_add_S ⊕ (jW)) → Option (Outcome × jW)} {t : Nat} {a1 : Int32} {a2 : Nat} (h : hog_add x en t a1 a2) (W : jW) : jJ x 4 0 [(0, vR t), (1, vI a1), (2, vR a2)] [] W (fog_add_0 t a1 a2 W) en := by
  have h0 := h
  obtain ⟨hx, hm, hr, he, k30, k56, k128, k173, k217⟩ := h0
  unfold fog_add_0
  refine j_runA hx 1 (tb := [(0, .aload_n 0)]) (jtb_ok (by decide +kernel)) (pc' := 1) (lv' := [(0, vR t), (1, vI a1), (2, vR a2)]) (st' := [vR t]) rfl ?_
  refine j_gd (fun h1 => ?_)
  refine j_getR hx flX13_61 kl819 h1 (by decide) (by decide +kernel) ?_
  refine j_gd (fun h2 => ?_)
  refine j_alen hx (f := 819) (o := t) kg819 kh819 rfl (by decide +kernel) h2 ?_
  refine j_runA hx 1 (tb := [(5, .aload_n 0)]) (jtb_ok (by decide +kernel)) (pc' := 6) (lv' := [(0, vR t), (1, vI a1), (2, vR a2)]) (st' := [vR t, vI (nI (jN W 819 t))]) rfl ?_
  refine j_getR hx flX13_91 kl800 h1 (by decide) (by decide +kernel) ?_
  refine j_gd (fun h3 => ?_)
  refine j_getI hx flX13_95 kd217 h3 (by decide) (by decide +kernel) ?_
  refine j_icmp_ge hx (off := 16) (tgt := 28) (by decide +kernel) (by decide) (fun _ => ?_) (fun _ => ?_)
  · exact wog_add_28 h W
  refine j_runA hx 2 (tb := [(15, .aload_n 0), (16, .aload_n 0)]) (jtb_ok (by decide +kernel)) (pc' := 17) (lv' := [(0, vR t), (1, vI a1), (2, vR a2)]) (st' := [vR t, vR t]) rfl ?_
  refine j_getR hx flX13_91 kl800 h1 (by decide) (by decide +kernel) ?_
  refine j_getI hx flX13_95 kd217 h3 (by decide) (by decide +kernel) ?_
  refine j_gd (fun h4 => ?_)
  refine j_nwB hx fwX13_61 wf819 kd819 ja819_6 h1 (by decide) nr819 fr819 (by decide +kernel) (by decide +kernel) h4 ?_
  refine j_ltw rfl (fun W5 hc6 => ?_)
  have h7 : jC W5 t = 8 := (congrFun hc6 _).trans h1
  have h8 : jC W5 (jR W 800 t) = 2 := (congrFun hc6 _).trans h3
  exact wog_add_28 h W5
theorem cog_add (t : Nat) (a1 : Int32) (a2 : Nat) (W : jW) : jM yX13_add cX13_add 4 (Option.none : Option Jvm.ClassFile.FieldType) [] 1 17 [vR t, vI a1, vR a2] W ((fog_add t a1 a2 W).bind (fun q => some (.returned none, q))) := by
  refine jM.of (Nat.le_of_ble_eq_true rfl) (fun x hx hm hr => ?_)
  refine j_begin (P := (Sum.elim (fun s => (30, [(0, vR t), (1, vI a1), (2, vR a2), (3, vI s.1)], s.2)) (Sum.elim (fun s => (56, [(0, vR t), (1, vI a1), (2, vR a2), (3, vI s.1)], s.2)) (Sum.elim (fun s => (128, [(0, vR t), (1, vI a1), (2, vR a2), (3, vI s.1)], s.2)) (Sum.elim (fun s => (173, [(0, vR t), (1, vI a1), (2, vR a2), (3, vI s.1)], s.2)) (fun s => (217, [(0, vR t), (1, vI a1), (2, vR a2), (3, vI s.1)], s.2))))))) (fun en he hk => ?_)
  have h : hog_add x en t a1 a2 := ⟨hx, hm, hr, fun q => he _, fun l3 W => hk (.inl (l3, W)), fun l3 W => hk (.inr (.inl (l3, W))), fun l3 W => hk (.inr (.inr (.inl (l3, W)))), fun l3 W => hk (.inr (.inr (.inr (.inl (l3, W))))), fun l3 W => hk (.inr (.inr (.inr (.inr (l3, W)))))⟩
  refine ⟨fun s => ?_, wog_add h W⟩
  rcases s with s | s | s | s | s
  · exact wog_add_30 h s.1 s.2
  · exact wog_add_56 h s.1 s.2
  · exact wog_add_128 h s.1 s.2
  · exact wog_add_173 h s.1 s.2
  · exact wog_add_217 h s.1 s.2
def hog_tell (x : jCx) (en : (fog_tell_S ⊕ (jW)) → Option (Outcome × jW)) (t : Nat) (a1 : Nat) (a2 : Nat) (a3 : Nat) (a4 : Nat) : Prop :=
  jOK x RX13 cX13_tell 6 ∧
  jMt x "tell" (Option.none : Option Jvm.ClassFile.FieldType) [] ∧
  jRm x 2 32 ∧
  (∀ q : jW, en (.inr q) = some (.returned none, q)) ∧
  (∀ (l5 : Int32) (W : jW), jJ x 6 22 [(0, vR t), (1, vR a1), (2, vR a2), (3, vR a3), (4, vR a4), (5, vI l5)] [] W (some (.inl (.inl (l5, W)))) en) ∧
  (∀ (l5 : Int32) (W : jW), jJ x 6 51 [(0, vR t), (1, vR a1), (2, vR a2), (3, vR a3), (4, vR a4), (5, vI l5)] [] W (some (.inl (.inr (.inl (l5, W))))) en) ∧
  (∀ (l5 : Int32) (W : jW), jJ x 6 103 [(0, vR t), (1, vR a1), (2, vR a2), (3, vR a3), (4, vR a4), (5, vI l5)] [] W (some (.inl (.inr (.inr (.inl (l5, W)))))) en) ∧
  (∀ (l5 : Int32) (W : jW), jJ x 6 132 [(0, vR t), (1, vR a1), (2, vR a2), (3, vR a3), (4, vR a4), (5, vI l5)] [] W (some (.inl (.inr (.inr (.inr (.inl (l5, W))))))) en) ∧
  (∀ (l5 : Int32) (W : jW), jJ x 6 155 [(0, vR t), (1, vR a1), (2, vR a2), (3, vR a3), (4, vR a4), (5, vI l5)] [] W (some (.inl (.inr (.inr (.inr (.inr (l5, W))))))) en)
theorem wog_tell_190 {x : jCx} {en : (fog_tell_S ⊕ (jW)) → Option (Outcome × jW)} {t : Nat} {a1 : Nat} {a2 : Nat} {a3 : Nat} {a4 : Nat} (h : hog_tell x en t a1 a2 a3 a4) (l5 : Int32) (s0 : Int32) (s1 : Int32) (s2 : Nat) (W : jW) : jJ x 6 190 [(0, vR t), (1, vR a1), (2, vR a2), (3, vR a3), (4, vR a4), (5, vI l5)] [vI s0, vI s1, vR s2] W (fog_tell_190 t a1 a2 a3 a4 l5 s0 s1 s2 W) en := by
  have h0 := h
  obtain ⟨hx, hm, hr, he, k22, k51, k103, k132, k155⟩ := h0
  unfold fog_tell_190
  refine j_gd (fun h63 => ?_)
  refine j_gd (fun h64 => ?_)
  refine j_zast hx (f := 806) (o := t) kd806 h63 (by decide +kernel) h64 ?_
  refine j_ltw rfl (fun W65 hc66 => ?_)
  refine j_runA hx 1 (tb := [(191, .iinc 5 1)]) (jtb_ok (by decide +kernel)) (pc' := 194) (lv' := [(5, vI (l5 + (kI 1))), (0, vR t), (1, vR a1), (2, vR a2), (3, vR a3), (4, vR a4)]) (st' := []) rfl ?_
  refine j_let (v := (l5 + (kI 1))) (lv := fun v68 => [(5, vI v68), (0, vR t), (1, vR a1), (2, vR a2), (3, vR a3), (4, vR a4)]) (st := fun _ => []) (fun v68 => ?_)
  refine j_goto hx (off := -39) (by decide +kernel) (tgt := 155) (by decide) ?_
  refine j_lv (lv' := [(0, vR t), (1, vR a1), (2, vR a2), (3, vR a3), (4, vR a4), (5, vI v68)]) ⟨rfl, rfl, rfl, rfl, rfl, rfl, trivial⟩ ?_
  exact k155 v68 W65
theorem wog_tell_155 {x : jCx} {en : (fog_tell_S ⊕ (jW)) → Option (Outcome × jW)} {t : Nat} {a1 : Nat} {a2 : Nat} {a3 : Nat} {a4 : Nat} (h : hog_tell x en t a1 a2 a3 a4) (l5 : Int32) (W : jW) : jJ x 6 155 [(0, vR t), (1, vR a1), (2, vR a2), (3, vR a3), (4, vR a4), (5, vI l5)] [] W (fog_tell_155 t a1 a2 a3 a4 l5 W) en := by
  have h0 := h
  obtain ⟨hx, hm, hr, he, k22, k51, k103, k132, k155⟩ := h0
  unfold fog_tell_155
  refine j_runA hx 2 (tb := [(155, .iload 5), (157, .aload_n 0)]) (jtb_ok (by decide +kernel)) (pc' := 158) (lv' := [(0, vR t), (1, vR a1), (2, vR a2), (3, vR a3), (4, vR a4), (5, vI l5)]) (st' := [vR t, vI l5]) rfl ?_
  refine j_gd (fun h59 => ?_)
  refine j_getR hx flX13_91 kl800 h59 (by decide) (by decide +kernel) ?_
  refine j_gd (fun h60 => ?_)
  refine j_getI hx flX13_95 kd217 h60 (by decide) (by decide +kernel) ?_
  refine j_icmp_ge hx (off := 33) (tgt := 197) (by decide +kernel) (by decide) (fun _ => ?_) (fun _ => ?_)
  · exact j_vret hx hm (by decide +kernel) (he _)
  refine j_runA hx 1 (tb := [(167, .aload_n 0)]) (jtb_ok (by decide +kernel)) (pc' := 168) (lv' := [(0, vR t), (1, vR a1), (2, vR a2), (3, vR a3), (4, vR a4), (5, vI l5)]) (st' := [vR t]) rfl ?_
  refine j_getR hx flX13_17 kl806 h59 (by decide) (by decide +kernel) ?_
  refine j_runA hx 2 (tb := [(171, .iload 5), (173, .aload_n 0)]) (jtb_ok (by decide +kernel)) (pc' := 174) (lv' := [(0, vR t), (1, vR a1), (2, vR a2), (3, vR a3), (4, vR a4), (5, vI l5)]) (st' := [vR t, vI l5, vR (jR W 806 t)]) rfl ?_
  refine j_getR hx flX13_7 kl803 h59 (by decide) (by decide +kernel) ?_
  refine j_runA hx 1 (tb := [(177, .iload 5)]) (jtb_ok (by decide +kernel)) (pc' := 179) (lv' := [(0, vR t), (1, vR a1), (2, vR a2), (3, vR a3), (4, vR a4), (5, vI l5)]) (st' := [vI l5, vR (jR W 803 t), vI l5, vR (jR W 806 t)]) rfl ?_
  refine j_gd (fun h61 => ?_)
  refine j_lald hx (f := 803) (o := t) kd803 rfl (by decide +kernel) h61 ?_
  refine j_runA hx 1 (tb := [(180, .lconst 0)]) (jtb_ok (by decide +kernel)) (pc' := 181) (lv' := [(0, vR t), (1, vR a1), (2, vR a2), (3, vR a3), (4, vR a4), (5, vI l5)]) (st' := [vL (kJ 0), vL (jB W 803 t (ix l5)), vI l5, vR (jR W 806 t)]) rfl ?_
  refine j_lcmp_le hx (off := 7) (tgt := 189) (by decide +kernel) (by decide +kernel) (by decide) (fun _ => ?_) (fun _ => ?_)
  · refine j_runA hx 1 (tb := [(189, .iconst 0)]) (jtb_ok (by decide +kernel)) (pc' := 190) (lv' := [(0, vR t), (1, vR a1), (2, vR a2), (3, vR a3), (4, vR a4), (5, vI l5)]) (st' := [vI (kI 0), vI l5, vR (jR W 806 t)]) rfl ?_
    exact wog_tell_190 h l5 (kI 0) l5 (jR W 806 t) W
  refine j_runA hx 1 (tb := [(185, .iconst 1)]) (jtb_ok (by decide +kernel)) (pc' := 186) (lv' := [(0, vR t), (1, vR a1), (2, vR a2), (3, vR a3), (4, vR a4), (5, vI l5)]) (st' := [vI (kI 1), vI l5, vR (jR W 806 t)]) rfl ?_
  refine j_goto hx (off := 4) (by decide +kernel) (tgt := 190) (by decide) ?_
  exact wog_tell_190 h l5 (kI 1) l5 (jR W 806 t) W
theorem wog_tell_132 {x : jCx} {en : (fog_tell_S ⊕ (jW)) → Option (Outcome × jW)} {t : Nat} {a1 : Nat} {a2 : Nat} {a3 : Nat} {a4 : Nat} (h : hog_tell x en t a1 a2 a3 a4) (l5 : Int32) (W : jW) : jJ x 6 132 [(0, vR t), (1, vR a1), (2, vR a2), (3, vR a3), (4, vR a4), (5, vI l5)] [] W (fog_tell_132 t a1 a2 a3 a4 l5 W) en := by
  have h0 := h
  obtain ⟨hx, hm, hr, he, k22, k51, k103, k132, k155⟩ := h0
  unfold fog_tell_132
  refine j_runA hx 2 (tb := [(132, .iload 5), (134, .iconst 3)]) (jtb_ok (by decide +kernel)) (pc' := 135) (lv' := [(0, vR t), (1, vR a1), (2, vR a2), (3, vR a3), (4, vR a4), (5, vI l5)]) (st' := [vI (kI 3), vI l5]) rfl ?_
  refine j_icmp_ge hx (off := 17) (tgt := 152) (by decide +kernel) (by decide) (fun _ => ?_) (fun _ => ?_)
  · refine j_runA hx 2 (tb := [(152, .iconst 0), (153, .istore 5)]) (jtb_ok (by decide +kernel)) (pc' := 155) (lv' := [(5, vI (kI 0)), (0, vR t), (1, vR a1), (2, vR a2), (3, vR a3), (4, vR a4)]) (st' := []) rfl ?_
    refine j_lv (lv' := [(0, vR t), (1, vR a1), (2, vR a2), (3, vR a3), (4, vR a4), (5, vI (kI 0))]) ⟨rfl, rfl, rfl, rfl, rfl, rfl, trivial⟩ ?_
    exact k155 (kI 0) W
  refine j_runA hx 3 (tb := [(138, .aload_n 0), (139, .iload 5), (141, .aload 4)]) (jtb_ok (by decide +kernel)) (pc' := 143) (lv' := [(0, vR t), (1, vR a1), (2, vR a2), (3, vR a3), (4, vR a4), (5, vI l5)]) (st' := [vR a4, vI l5, vR t]) rfl ?_
  refine j_gd (fun h54 => ?_)
  refine j_WV (j_callV (av := [vI l5, vR a4]) (st := []) hx hr (Or.inl q1599) q1601 qs30 rfl md_fog_add np_fog_add (cog_add t l5 a4 W) (by decide) (Nat.le_of_ble_eq_true rfl) h54 (by decide) (by decide +kernel)) (fun q55 _ => ?_)
  refine j_runA hx 1 (tb := [(146, .iinc 5 1)]) (jtb_ok (by decide +kernel)) (pc' := 149) (lv' := [(5, vI (l5 + (kI 1))), (0, vR t), (1, vR a1), (2, vR a2), (3, vR a3), (4, vR a4)]) (st' := []) rfl ?_
  refine j_let (v := (l5 + (kI 1))) (lv := fun v57 => [(5, vI v57), (0, vR t), (1, vR a1), (2, vR a2), (3, vR a3), (4, vR a4)]) (st := fun _ => []) (fun v57 => ?_)
  refine j_goto hx (off := -17) (by decide +kernel) (tgt := 132) (by decide) ?_
  refine j_lv (lv' := [(0, vR t), (1, vR a1), (2, vR a2), (3, vR a3), (4, vR a4), (5, vI v57)]) ⟨rfl, rfl, rfl, rfl, rfl, rfl, trivial⟩ ?_
  exact k132 v57 q55
theorem wog_tell_103 {x : jCx} {en : (fog_tell_S ⊕ (jW)) → Option (Outcome × jW)} {t : Nat} {a1 : Nat} {a2 : Nat} {a3 : Nat} {a4 : Nat} (h : hog_tell x en t a1 a2 a3 a4) (l5 : Int32) (W : jW) : jJ x 6 103 [(0, vR t), (1, vR a1), (2, vR a2), (3, vR a3), (4, vR a4), (5, vI l5)] [] W (fog_tell_103 t a1 a2 a3 a4 l5 W) en := by
  have h0 := h
  obtain ⟨hx, hm, hr, he, k22, k51, k103, k132, k155⟩ := h0
  unfold fog_tell_103
  refine j_runA hx 2 (tb := [(103, .iload 5), (105, .aload_n 0)]) (jtb_ok (by decide +kernel)) (pc' := 106) (lv' := [(0, vR t), (1, vR a1), (2, vR a2), (3, vR a3), (4, vR a4), (5, vI l5)]) (st' := [vR t, vI l5]) rfl ?_
  refine j_gd (fun h44 => ?_)
  refine j_getR hx flX13_91 kl800 h44 (by decide) (by decide +kernel) ?_
  refine j_gd (fun h45 => ?_)
  refine j_getI hx flX13_95 kd217 h45 (by decide) (by decide +kernel) ?_
  refine j_icmp_ge hx (off := 17) (tgt := 129) (by decide +kernel) (by decide) (fun _ => ?_) (fun _ => ?_)
  · refine j_runA hx 2 (tb := [(129, .iconst 0), (130, .istore 5)]) (jtb_ok (by decide +kernel)) (pc' := 132) (lv' := [(5, vI (kI 0)), (0, vR t), (1, vR a1), (2, vR a2), (3, vR a3), (4, vR a4)]) (st' := []) rfl ?_
    refine j_lv (lv' := [(0, vR t), (1, vR a1), (2, vR a2), (3, vR a3), (4, vR a4), (5, vI (kI 0))]) ⟨rfl, rfl, rfl, rfl, rfl, rfl, trivial⟩ ?_
    exact k132 (kI 0) W
  refine j_runA hx 1 (tb := [(115, .aload_n 0)]) (jtb_ok (by decide +kernel)) (pc' := 116) (lv' := [(0, vR t), (1, vR a1), (2, vR a2), (3, vR a3), (4, vR a4), (5, vI l5)]) (st' := [vR t]) rfl ?_
  refine j_getR hx flX13_7 kl803 h44 (by decide) (by decide +kernel) ?_
  refine j_runA hx 2 (tb := [(119, .iload 5), (121, .lconst 0)]) (jtb_ok (by decide +kernel)) (pc' := 122) (lv' := [(0, vR t), (1, vR a1), (2, vR a2), (3, vR a3), (4, vR a4), (5, vI l5)]) (st' := [vL (kJ 0), vI l5, vR (jR W 803 t)]) rfl ?_
  refine j_gd (fun h46 => ?_)
  refine j_last hx (f := 803) (o := t) kd803 rfl (by decide +kernel) h46 ?_
  refine j_ltw rfl (fun W47 hc48 => ?_)
  have h49 : jC W47 t = 8 := (congrFun hc48 _).trans h44
  have h50 : jC W47 (jR W 800 t) = 2 := (congrFun hc48 _).trans h45
  refine j_runA hx 1 (tb := [(123, .iinc 5 1)]) (jtb_ok (by decide +kernel)) (pc' := 126) (lv' := [(5, vI (l5 + (kI 1))), (0, vR t), (1, vR a1), (2, vR a2), (3, vR a3), (4, vR a4)]) (st' := []) rfl ?_
  refine j_let (v := (l5 + (kI 1))) (lv := fun v52 => [(5, vI v52), (0, vR t), (1, vR a1), (2, vR a2), (3, vR a3), (4, vR a4)]) (st := fun _ => []) (fun v52 => ?_)
  refine j_goto hx (off := -23) (by decide +kernel) (tgt := 103) (by decide) ?_
  refine j_lv (lv' := [(0, vR t), (1, vR a1), (2, vR a2), (3, vR a3), (4, vR a4), (5, vI v52)]) ⟨rfl, rfl, rfl, rfl, rfl, rfl, trivial⟩ ?_
  exact k103 v52 W47
theorem wog_tell_51 {x : jCx} {en : (fog_tell_S ⊕ (jW)) → Option (Outcome × jW)} {t : Nat} {a1 : Nat} {a2 : Nat} {a3 : Nat} {a4 : Nat} (h : hog_tell x en t a1 a2 a3 a4) (l5 : Int32) (W : jW) : jJ x 6 51 [(0, vR t), (1, vR a1), (2, vR a2), (3, vR a3), (4, vR a4), (5, vI l5)] [] W (fog_tell_51 t a1 a2 a3 a4 l5 W) en := by
  have h0 := h
  obtain ⟨hx, hm, hr, he, k22, k51, k103, k132, k155⟩ := h0
  unfold fog_tell_51
  refine j_runA hx 2 (tb := [(51, .iload 5), (53, .aload_n 0)]) (jtb_ok (by decide +kernel)) (pc' := 54) (lv' := [(0, vR t), (1, vR a1), (2, vR a2), (3, vR a3), (4, vR a4), (5, vI l5)]) (st' := [vR t, vI l5]) rfl ?_
  refine j_gd (fun h28 => ?_)
  refine j_getR hx flX13_109 kl802 h28 (by decide) (by decide +kernel) ?_
  refine j_gd (fun h29 => ?_)
  refine j_OI (j_callV (av := []) (st := [vI l5]) hx hr (Or.inl q1595) q1596 q1597 rfl md_fco_size np_fco_size (cco_size (jR W 802 t) W) (by decide) (Nat.le_of_ble_eq_true rfl) h29 (by decide) (by decide +kernel)) (fun q30 _ => ?_)
  refine j_icmp_ge hx (off := 40) (tgt := 100) (by decide +kernel) (by decide) (fun _ => ?_) (fun _ => ?_)
  · refine j_runA hx 2 (tb := [(100, .iconst 0), (101, .istore 5)]) (jtb_ok (by decide +kernel)) (pc' := 103) (lv' := [(5, vI (kI 0)), (0, vR t), (1, vR a1), (2, vR a2), (3, vR a3), (4, vR a4)]) (st' := []) rfl ?_
    refine j_lv (lv' := [(0, vR t), (1, vR a1), (2, vR a2), (3, vR a3), (4, vR a4), (5, vI (kI 0))]) ⟨rfl, rfl, rfl, rfl, rfl, rfl, trivial⟩ ?_
    exact k103 (kI 0) W
  refine j_runA hx 1 (tb := [(63, .aload_n 0)]) (jtb_ok (by decide +kernel)) (pc' := 64) (lv' := [(0, vR t), (1, vR a1), (2, vR a2), (3, vR a3), (4, vR a4), (5, vI l5)]) (st' := [vR t]) rfl ?_
  refine j_getR hx flX13_40 kl812 h28 (by decide) (by decide +kernel) ?_
  refine j_runA hx 1 (tb := [(67, .aload_n 0)]) (jtb_ok (by decide +kernel)) (pc' := 68) (lv' := [(0, vR t), (1, vR a1), (2, vR a2), (3, vR a3), (4, vR a4), (5, vI l5)]) (st' := [vR t, vR (jR W 812 t)]) rfl ?_
  refine j_getR hx flX13_109 kl802 h28 (by decide) (by decide +kernel) ?_
  refine j_getR hx flX13_120 kl701 h29 (by decide) (by decide +kernel) ?_
  refine j_gd (fun h31 => ?_)
  refine j_getR hx flX13_123 kl600 h31 (by decide) (by decide +kernel) ?_
  refine j_runA hx 1 (tb := [(77, .iload 5)]) (jtb_ok (by decide +kernel)) (pc' := 79) (lv' := [(0, vR t), (1, vR a1), (2, vR a2), (3, vR a3), (4, vR a4), (5, vI l5)]) (st' := [vI l5, vR (jR W 600 (jR W 701 (jR W 802 t))), vR (jR W 812 t)]) rfl ?_
  refine j_gd (fun h32 => ?_)
  refine j_iald hx (f := 600) (o := (jR W 701 (jR W 802 t))) kd600 rfl (by decide +kernel) h32 ?_
  refine j_runA hx 1 (tb := [(80, .dup2)]) (jtb_ok (by decide +kernel)) (pc' := 81) (lv' := [(0, vR t), (1, vR a1), (2, vR a2), (3, vR a3), (4, vR a4), (5, vI l5)]) (st' := [vI (jA W 600 (jR W 701 (jR W 802 t)) (ix l5)), vR (jR W 812 t), vI (jA W 600 (jR W 701 (jR W 802 t)) (ix l5)), vR (jR W 812 t)]) rfl ?_
  refine j_gd (fun h33 => ?_)
  refine j_lald hx (f := 812) (o := t) kd812 rfl (by decide +kernel) h33 ?_
  refine j_runA hx 1 (tb := [(82, .aload_n 0)]) (jtb_ok (by decide +kernel)) (pc' := 83) (lv' := [(0, vR t), (1, vR a1), (2, vR a2), (3, vR a3), (4, vR a4), (5, vI l5)]) (st' := [vR t, vL (jB W 812 t (ix (jA W 600 (jR W 701 (jR W 802 t)) (ix l5)))), vI (jA W 600 (jR W 701 (jR W 802 t)) (ix l5)), vR (jR W 812 t)]) rfl ?_
  refine j_getR hx flX13_109 kl802 h28 (by decide) (by decide +kernel) ?_
  refine j_getR hx flX13_126 kl702 h29 (by decide) (by decide +kernel) ?_
  refine j_runA hx 1 (tb := [(89, .iload 5)]) (jtb_ok (by decide +kernel)) (pc' := 91) (lv' := [(0, vR t), (1, vR a1), (2, vR a2), (3, vR a3), (4, vR a4), (5, vI l5)]) (st' := [vI l5, vR (jR W 702 (jR W 802 t)), vL (jB W 812 t (ix (jA W 600 (jR W 701 (jR W 802 t)) (ix l5)))), vI (jA W 600 (jR W 701 (jR W 802 t)) (ix l5)), vR (jR W 812 t)]) rfl ?_
  refine j_gd (fun h34 => ?_)
  refine j_lald hx (f := 702) (o := (jR W 802 t)) kd702 rfl (by decide +kernel) h34 ?_
  refine j_runA hx 1 (tb := [(92, .ladd)]) (jtb_ok (by decide +kernel)) (pc' := 93) (lv' := [(0, vR t), (1, vR a1), (2, vR a2), (3, vR a3), (4, vR a4), (5, vI l5)]) (st' := [vL ((jB W 812 t (ix (jA W 600 (jR W 701 (jR W 802 t)) (ix l5)))) + (jB W 702 (jR W 802 t) (ix l5))), vI (jA W 600 (jR W 701 (jR W 802 t)) (ix l5)), vR (jR W 812 t)]) rfl ?_
  refine j_gd (fun h35 => ?_)
  refine j_last hx (f := 812) (o := t) kd812 rfl (by decide +kernel) h35 ?_
  refine j_ltw rfl (fun W36 hc37 => ?_)
  have h38 : jC W36 t = 8 := (congrFun hc37 _).trans h28
  have h39 : jC W36 (jR W 802 t) = 7 := (congrFun hc37 _).trans h29
  have h40 : jC W36 (jR W 701 (jR W 802 t)) = 6 := (congrFun hc37 _).trans h31
  refine j_runA hx 1 (tb := [(94, .iinc 5 1)]) (jtb_ok (by decide +kernel)) (pc' := 97) (lv' := [(5, vI (l5 + (kI 1))), (0, vR t), (1, vR a1), (2, vR a2), (3, vR a3), (4, vR a4)]) (st' := []) rfl ?_
  refine j_let (v := (l5 + (kI 1))) (lv := fun v42 => [(5, vI v42), (0, vR t), (1, vR a1), (2, vR a2), (3, vR a3), (4, vR a4)]) (st := fun _ => []) (fun v42 => ?_)
  refine j_goto hx (off := -46) (by decide +kernel) (tgt := 51) (by decide) ?_
  refine j_lv (lv' := [(0, vR t), (1, vR a1), (2, vR a2), (3, vR a3), (4, vR a4), (5, vI v42)]) ⟨rfl, rfl, rfl, rfl, rfl, rfl, trivial⟩ ?_
  exact k51 v42 W36
theorem wog_tell_22 {x : jCx} {en : (fog_tell_S ⊕ (jW)) → Option (Outcome × jW)} {t : Nat} {a1 : Nat} {a2 : Nat} {a3 : Nat} {a4 : Nat} (h : hog_tell x en t a1 a2 a3 a4) (l5 : Int32) (W : jW) : jJ x 6 22 [(0, vR t), (1, vR a1), (2, vR a2), (3, vR a3), (4, vR a4), (5, vI l5)] [] W (fog_tell_22 t a1 a2 a3 a4 l5 W) en := by
  have h0 := h
  obtain ⟨hx, hm, hr, he, k22, k51, k103, k132, k155⟩ := h0
  unfold fog_tell_22
  refine j_runA hx 2 (tb := [(22, .iload 5), (24, .aload_n 0)]) (jtb_ok (by decide +kernel)) (pc' := 25) (lv' := [(0, vR t), (1, vR a1), (2, vR a2), (3, vR a3), (4, vR a4), (5, vI l5)]) (st' := [vR t, vI l5]) rfl ?_
  refine j_gd (fun h17 => ?_)
  refine j_getR hx flX13_91 kl800 h17 (by decide) (by decide +kernel) ?_
  refine j_gd (fun h18 => ?_)
  refine j_OI (j_callV (av := []) (st := [vI l5]) hx hr (Or.inl q1594) q1558 q1559 rfl md_fpg_functionCount np_fpg_functionCount (cpg_functionCount (jR W 800 t) W) (by decide) (Nat.le_of_ble_eq_true rfl) h18 (by decide) (by decide +kernel)) (fun q19 _ => ?_)
  refine j_icmp_ge hx (off := 17) (tgt := 48) (by decide +kernel) (by decide) (fun _ => ?_) (fun _ => ?_)
  · refine j_runA hx 2 (tb := [(48, .iconst 0), (49, .istore 5)]) (jtb_ok (by decide +kernel)) (pc' := 51) (lv' := [(5, vI (kI 0)), (0, vR t), (1, vR a1), (2, vR a2), (3, vR a3), (4, vR a4)]) (st' := []) rfl ?_
    refine j_lv (lv' := [(0, vR t), (1, vR a1), (2, vR a2), (3, vR a3), (4, vR a4), (5, vI (kI 0))]) ⟨rfl, rfl, rfl, rfl, rfl, rfl, trivial⟩ ?_
    exact k51 (kI 0) W
  refine j_runA hx 1 (tb := [(34, .aload_n 0)]) (jtb_ok (by decide +kernel)) (pc' := 35) (lv' := [(0, vR t), (1, vR a1), (2, vR a2), (3, vR a3), (4, vR a4), (5, vI l5)]) (st' := [vR t]) rfl ?_
  refine j_getR hx flX13_40 kl812 h17 (by decide) (by decide +kernel) ?_
  refine j_runA hx 2 (tb := [(38, .iload 5), (40, .lconst 0)]) (jtb_ok (by decide +kernel)) (pc' := 41) (lv' := [(0, vR t), (1, vR a1), (2, vR a2), (3, vR a3), (4, vR a4), (5, vI l5)]) (st' := [vL (kJ 0), vI l5, vR (jR W 812 t)]) rfl ?_
  refine j_gd (fun h20 => ?_)
  refine j_last hx (f := 812) (o := t) kd812 rfl (by decide +kernel) h20 ?_
  refine j_ltw rfl (fun W21 hc22 => ?_)
  have h23 : jC W21 t = 8 := (congrFun hc22 _).trans h17
  have h24 : jC W21 (jR W 800 t) = 2 := (congrFun hc22 _).trans h18
  refine j_runA hx 1 (tb := [(42, .iinc 5 1)]) (jtb_ok (by decide +kernel)) (pc' := 45) (lv' := [(5, vI (l5 + (kI 1))), (0, vR t), (1, vR a1), (2, vR a2), (3, vR a3), (4, vR a4)]) (st' := []) rfl ?_
  refine j_let (v := (l5 + (kI 1))) (lv := fun v26 => [(5, vI v26), (0, vR t), (1, vR a1), (2, vR a2), (3, vR a3), (4, vR a4)]) (st := fun _ => []) (fun v26 => ?_)
  refine j_goto hx (off := -23) (by decide +kernel) (tgt := 22) (by decide) ?_
  refine j_lv (lv' := [(0, vR t), (1, vR a1), (2, vR a2), (3, vR a3), (4, vR a4), (5, vI v26)]) ⟨rfl, rfl, rfl, rfl, rfl, rfl, trivial⟩ ?_
  exact k22 v26 W21
theorem wog_tell {x : jCx} {en : (fog_tell_S ⊕ (jW)) → Option (Outcome × jW)} {t : Nat} {a1 : Nat} {a2 : Nat} {a3 : Nat} {a4 : Nat} (h : hog_tell x en t a1 a2 a3 a4) (W : jW) : jJ x 6 0 [(0, vR t), (1, vR a1), (2, vR a2), (3, vR a3), (4, vR a4)] [] W (fog_tell_0 t a1 a2 a3 a4 W) en := by
  have h0 := h
  obtain ⟨hx, hm, hr, he, k22, k51, k103, k132, k155⟩ := h0
  unfold fog_tell_0
  refine j_runA hx 2 (tb := [(0, .aload_n 0), (1, .aload_n 1)]) (jtb_ok (by decide +kernel)) (pc' := 2) (lv' := [(0, vR t), (1, vR a1), (2, vR a2), (3, vR a3), (4, vR a4)]) (st' := [vR a1, vR t]) rfl ?_
  refine j_gd (fun h1 => ?_)
  refine j_putR hx fwX13_91 wf800 kd800 h1 (by decide) (by decide +kernel) nr800 fr800 ?_
  refine j_ltw rfl (fun W2 hc3 => ?_)
  have h4 : jC W2 t = 8 := (congrFun hc3 _).trans h1
  refine j_runA hx 2 (tb := [(5, .aload_n 0), (6, .aload_n 2)]) (jtb_ok (by decide +kernel)) (pc' := 7) (lv' := [(0, vR t), (1, vR a1), (2, vR a2), (3, vR a3), (4, vR a4)]) (st' := [vR a2, vR t]) rfl ?_
  refine j_putR hx fwX13_105 wf801 kd801 h4 (by decide) (by decide +kernel) nr801 fr801 ?_
  refine j_ltw rfl (fun W6 hc7 => ?_)
  have h8 : jC W6 t = 8 := (congrFun hc7 _).trans h4
  refine j_runA hx 2 (tb := [(10, .aload_n 0), (11, .aload_n 3)]) (jtb_ok (by decide +kernel)) (pc' := 12) (lv' := [(0, vR t), (1, vR a1), (2, vR a2), (3, vR a3), (4, vR a4)]) (st' := [vR a3, vR t]) rfl ?_
  refine j_putR hx fwX13_109 wf802 kd802 h8 (by decide) (by decide +kernel) nr802 fr802 ?_
  refine j_ltw rfl (fun W10 hc11 => ?_)
  have h12 : jC W10 t = 8 := (congrFun hc11 _).trans h8
  refine j_runA hx 1 (tb := [(15, .aload_n 0)]) (jtb_ok (by decide +kernel)) (pc' := 16) (lv' := [(0, vR t), (1, vR a1), (2, vR a2), (3, vR a3), (4, vR a4)]) (st' := [vR t]) rfl ?_
  refine j_WV (j_callV (av := []) (st := []) hx hr (Or.inl q1590) q1592 qs29 rfl md_fog_room np_fog_room (cog_room t W10) (by decide) (Nat.le_of_ble_eq_true rfl) h12 (by decide) (by decide +kernel)) (fun q14 _ => ?_)
  refine j_runA hx 2 (tb := [(19, .iconst 0), (20, .istore 5)]) (jtb_ok (by decide +kernel)) (pc' := 22) (lv' := [(5, vI (kI 0)), (0, vR t), (1, vR a1), (2, vR a2), (3, vR a3), (4, vR a4)]) (st' := []) rfl ?_
  refine j_lv (lv' := [(0, vR t), (1, vR a1), (2, vR a2), (3, vR a3), (4, vR a4), (5, vI (kI 0))]) ⟨rfl, rfl, rfl, rfl, rfl, rfl, trivial⟩ ?_
  exact k22 (kI 0) q14
theorem cog_tell (t : Nat) (a1 : Nat) (a2 : Nat) (a3 : Nat) (a4 : Nat) (W : jW) : jM yX13_tell cX13_tell 6 (Option.none : Option Jvm.ClassFile.FieldType) [] 2 32 [vR t, vR a1, vR a2, vR a3, vR a4] W ((fog_tell t a1 a2 a3 a4 W).bind (fun q => some (.returned none, q))) := by
  refine jM.of (Nat.le_of_ble_eq_true rfl) (fun x hx hm hr => ?_)
  refine j_begin (P := (Sum.elim (fun s => (22, [(0, vR t), (1, vR a1), (2, vR a2), (3, vR a3), (4, vR a4), (5, vI s.1)], s.2)) (Sum.elim (fun s => (51, [(0, vR t), (1, vR a1), (2, vR a2), (3, vR a3), (4, vR a4), (5, vI s.1)], s.2)) (Sum.elim (fun s => (103, [(0, vR t), (1, vR a1), (2, vR a2), (3, vR a3), (4, vR a4), (5, vI s.1)], s.2)) (Sum.elim (fun s => (132, [(0, vR t), (1, vR a1), (2, vR a2), (3, vR a3), (4, vR a4), (5, vI s.1)], s.2)) (fun s => (155, [(0, vR t), (1, vR a1), (2, vR a2), (3, vR a3), (4, vR a4), (5, vI s.1)], s.2))))))) (fun en he hk => ?_)
  have h : hog_tell x en t a1 a2 a3 a4 := ⟨hx, hm, hr, fun q => he _, fun l5 W => hk (.inl (l5, W)), fun l5 W => hk (.inr (.inl (l5, W))), fun l5 W => hk (.inr (.inr (.inl (l5, W)))), fun l5 W => hk (.inr (.inr (.inr (.inl (l5, W))))), fun l5 W => hk (.inr (.inr (.inr (.inr (l5, W)))))⟩
  refine ⟨fun s => ?_, wog_tell h W⟩
  rcases s with s | s | s | s | s
  · exact wog_tell_22 h s.1 s.2
  · exact wog_tell_51 h s.1 s.2
  · exact wog_tell_103 h s.1 s.2
  · exact wog_tell_132 h s.1 s.2
  · exact wog_tell_155 h s.1 s.2
