/-! ===== walks: flw_law ===== -/
set_option maxRecDepth 100000
def hlw_law (x : jCx) (en : (flw_law_S ⊕ (Int32 × jW)) → Option (Outcome × jW)) (a0 : Nat) (sc : Nat → Int32) (sn : Nat) : Prop :=
  jOK x RL cL_law 4 ∧
  jMt x "law" (Option.some Jvm.ClassFile.FieldType.boolean) [] ∧
  jRm x 14 201 ∧
  (∀ q : Int32 × jW, en (.inr q) = some (.returned (some (.int q.1)), q.2)) ∧
  jSc x a0 sc sn ∧
  (∀ (l1 : Nat) (l2 : Nat) (l3 : Int32) (W : jW), jJ x 4 18 [(0, vR a0), (1, vR l1), (2, vR l2), (3, vI l3)] [] W (some (.inl (l1, l2, l3, W))) en)
theorem wlw_law_1215 {x : jCx} {en : (flw_law_S ⊕ (Int32 × jW)) → Option (Outcome × jW)} {a0 : Nat} {sc : Nat → Int32} {sn : Nat} (h : hlw_law x en a0 sc sn) (l1 : Nat) (l2 : Nat) (l3 : Int32) (W : jW) : jJ x 4 1215 [(0, vR a0), (1, vR l1), (2, vR l2), (3, vI l3)] [] W (flw_law_1215 a0 sc sn l1 l2 l3 W) en := by
  have h0 := h
  obtain ⟨hx, hm, hr, he, hsc, k18⟩ := h0
  unfold flw_law_1215
  refine j_runA hx 1 (tb := [(1215, .iinc 3 6)]) (jtb_ok (by decide +kernel)) (pc' := 1218) (lv' := [(3, vI (l3 + (kI 6))), (0, vR a0), (1, vR l1), (2, vR l2)]) (st' := []) rfl ?_
  refine j_let (v := (l3 + (kI 6))) (lv := fun v294 => [(3, vI v294), (0, vR a0), (1, vR l1), (2, vR l2)]) (st := fun _ => []) (fun v294 => ?_)
  refine j_goto hx (off := -1200) (by decide +kernel) (tgt := 18) (by decide) ?_
  refine j_lv (lv' := [(0, vR a0), (1, vR l1), (2, vR l2), (3, vI v294)]) ⟨rfl, rfl, rfl, rfl, trivial⟩ ?_
  exact k18 l1 l2 v294 W
theorem wlw_law_18 {x : jCx} {en : (flw_law_S ⊕ (Int32 × jW)) → Option (Outcome × jW)} {a0 : Nat} {sc : Nat → Int32} {sn : Nat} (h : hlw_law x en a0 sc sn) (l1 : Nat) (l2 : Nat) (l3 : Int32) (W : jW) : jJ x 4 18 [(0, vR a0), (1, vR l1), (2, vR l2), (3, vI l3)] [] W (flw_law_18 a0 sc sn l1 l2 l3 W) en := by
  have h0 := h
  obtain ⟨hx, hm, hr, he, hsc, k18⟩ := h0
  unfold flw_law_18
  refine j_runA hx 2 (tb := [(18, .iload_n 3), (19, .aload_n 0)]) (jtb_ok (by decide +kernel)) (pc' := 20) (lv' := [(0, vR a0), (1, vR l1), (2, vR l2), (3, vI l3)]) (st' := [vR a0, vI l3]) rfl ?_
  refine j_slen hx hsc (by decide +kernel) ?_
  refine j_runA hx 2 (tb := [(21, .bipush 6), (23, .isub)]) (jtb_ok (by decide +kernel)) (pc' := 24) (lv' := [(0, vR a0), (1, vR l1), (2, vR l2), (3, vI l3)]) (st' := [vI ((nI sn) - (kI 6)), vI l3]) rfl ?_
  refine j_icmp_gt hx (off := 1197) (tgt := 1221) (by decide +kernel) (by decide) (fun _ => ?_) (fun _ => ?_)
  · refine j_runA hx 1 (tb := [(1221, .iconst 1)]) (jtb_ok (by decide +kernel)) (pc' := 1222) (lv' := [(0, vR a0), (1, vR l1), (2, vR l2), (3, vI l3)]) (st' := [vI (kI 1)]) rfl ?_
    exact j_iret hx hm (by decide +kernel) jz1n (he _)
  refine j_runA hx 2 (tb := [(27, .aload_n 0), (28, .iload_n 3)]) (jtb_ok (by decide +kernel)) (pc' := 29) (lv' := [(0, vR a0), (1, vR l1), (2, vR l2), (3, vI l3)]) (st' := [vI l3, vR a0]) rfl ?_
  refine j_gd (fun h16 => ?_)
  refine j_sld hx hsc (by decide +kernel) h16 ?_
  refine j_runA hx 2 (tb := [(30, .bipush 31), (32, .iand)]) (jtb_ok (by decide +kernel)) (pc' := 33) (lv' := [(0, vR a0), (1, vR l1), (2, vR l2), (3, vI l3)]) (st' := [vI ((sc (ix l3)) &&& (kI 31))]) rfl ?_
  refine j_let (v := ((sc (ix l3)) &&& (kI 31))) (lv := fun _ => [(0, vR a0), (1, vR l1), (2, vR l2), (3, vI l3)]) (st := fun v17 => [vI v17]) (fun v17 => ?_)
  refine j_tab hx (dflt := 1182) (lo := 0) (hi := 30) (offs := #[139, 202, 225, 238, 251, 274, 308, 342, 445, 479, 513, 546, 569, 592, 626, 680, 693, 716, 729, 742, 775, 808, 842, 865, 889, 922, 985, 1038, 1092, 1136, 1169]) (len := 139) (k := 0) (off := 139) (tgt := 172) (by decide +kernel) (by decide) (by decide) (by decide) rfl (by decide) (fun _ => ?_) (fun h18 => ?_)
  · refine j_runA hx 5 (tb := [(172, .aload_n 1), (173, .aload_n 0), (174, .iload_n 3), (175, .iconst 1), (176, .iadd)]) (jtb_ok (by decide +kernel)) (pc' := 177) (lv' := [(0, vR a0), (1, vR l1), (2, vR l2), (3, vI l3)]) (st' := [vI (l3 + (kI 1)), vR a0, vR l1]) rfl ?_
    refine j_gd (fun h19 => ?_)
    refine j_sld hx hsc (by decide +kernel) h19 ?_
    refine j_runA hx 4 (tb := [(178, .aload_n 0), (179, .iload_n 3), (180, .iconst 2), (181, .iadd)]) (jtb_ok (by decide +kernel)) (pc' := 182) (lv' := [(0, vR a0), (1, vR l1), (2, vR l2), (3, vI l3)]) (st' := [vI (l3 + (kI 2)), vR a0, vI (sc (ix (l3 + (kI 1)))), vR l1]) rfl ?_
    refine j_gd (fun h20 => ?_)
    refine j_sld hx hsc (by decide +kernel) h20 ?_
    refine j_runA hx 4 (tb := [(183, .aload_n 0), (184, .iload_n 3), (185, .iconst 3), (186, .iadd)]) (jtb_ok (by decide +kernel)) (pc' := 187) (lv' := [(0, vR a0), (1, vR l1), (2, vR l2), (3, vI l3)]) (st' := [vI (l3 + (kI 3)), vR a0, vI (sc (ix (l3 + (kI 2)))), vI (sc (ix (l3 + (kI 1)))), vR l1]) rfl ?_
    refine j_gd (fun h21 => ?_)
    refine j_sld hx hsc (by decide +kernel) h21 ?_
    refine j_runA hx 4 (tb := [(188, .aload_n 0), (189, .iload_n 3), (190, .iconst 4), (191, .iadd)]) (jtb_ok (by decide +kernel)) (pc' := 192) (lv' := [(0, vR a0), (1, vR l1), (2, vR l2), (3, vI l3)]) (st' := [vI (l3 + (kI 4)), vR a0, vI (sc (ix (l3 + (kI 3)))), vI (sc (ix (l3 + (kI 2)))), vI (sc (ix (l3 + (kI 1)))), vR l1]) rfl ?_
    refine j_gd (fun h22 => ?_)
    refine j_sld hx hsc (by decide +kernel) h22 ?_
    refine j_runA hx 4 (tb := [(193, .aload_n 0), (194, .iload_n 3), (195, .iconst 5), (196, .iadd)]) (jtb_ok (by decide +kernel)) (pc' := 197) (lv' := [(0, vR a0), (1, vR l1), (2, vR l2), (3, vI l3)]) (st' := [vI (l3 + (kI 5)), vR a0, vI (sc (ix (l3 + (kI 4)))), vI (sc (ix (l3 + (kI 3)))), vI (sc (ix (l3 + (kI 2)))), vI (sc (ix (l3 + (kI 1)))), vR l1]) rfl ?_
    refine j_gd (fun h23 => ?_)
    refine j_sld hx hsc (by decide +kernel) h23 ?_
    refine j_gd (fun h24 => ?_)
    refine j_WI (j_callV (av := [vI (sc (ix (l3 + (kI 1)))), vI (sc (ix (l3 + (kI 2)))), vI (sc (ix (l3 + (kI 3)))), vI (sc (ix (l3 + (kI 4)))), vI (sc (ix (l3 + (kI 5))))]) (st := []) hx hr (Or.inl q715) q716 q717 rfl md_fcl_feed np_fcl_feed (ccl_feed l1 (sc (ix (l3 + (kI 1)))) (sc (ix (l3 + (kI 2)))) (sc (ix (l3 + (kI 3)))) (sc (ix (l3 + (kI 4)))) (sc (ix (l3 + (kI 5)))) W) (by decide) (Nat.le_of_ble_eq_true rfl) h24 (by decide) (by decide +kernel)) (fun q25 _ => ?_)
    refine j_runA hx 5 (tb := [(201, .aload_n 2), (202, .aload_n 0), (203, .iload_n 3), (204, .iconst 1), (205, .iadd)]) (jtb_ok (by decide +kernel)) (pc' := 206) (lv' := [(0, vR a0), (1, vR l1), (2, vR l2), (3, vI l3)]) (st' := [vI (l3 + (kI 1)), vR a0, vR l2, vI q25.1]) rfl ?_
    refine j_gd (fun h27 => ?_)
    refine j_sld hx hsc (by decide +kernel) h27 ?_
    refine j_runA hx 4 (tb := [(207, .aload_n 0), (208, .iload_n 3), (209, .iconst 2), (210, .iadd)]) (jtb_ok (by decide +kernel)) (pc' := 211) (lv' := [(0, vR a0), (1, vR l1), (2, vR l2), (3, vI l3)]) (st' := [vI (l3 + (kI 2)), vR a0, vI (sc (ix (l3 + (kI 1)))), vR l2, vI q25.1]) rfl ?_
    refine j_gd (fun h28 => ?_)
    refine j_sld hx hsc (by decide +kernel) h28 ?_
    refine j_runA hx 4 (tb := [(212, .aload_n 0), (213, .iload_n 3), (214, .iconst 3), (215, .iadd)]) (jtb_ok (by decide +kernel)) (pc' := 216) (lv' := [(0, vR a0), (1, vR l1), (2, vR l2), (3, vI l3)]) (st' := [vI (l3 + (kI 3)), vR a0, vI (sc (ix (l3 + (kI 2)))), vI (sc (ix (l3 + (kI 1)))), vR l2, vI q25.1]) rfl ?_
    refine j_gd (fun h29 => ?_)
    refine j_sld hx hsc (by decide +kernel) h29 ?_
    refine j_runA hx 4 (tb := [(217, .aload_n 0), (218, .iload_n 3), (219, .iconst 4), (220, .iadd)]) (jtb_ok (by decide +kernel)) (pc' := 221) (lv' := [(0, vR a0), (1, vR l1), (2, vR l2), (3, vI l3)]) (st' := [vI (l3 + (kI 4)), vR a0, vI (sc (ix (l3 + (kI 3)))), vI (sc (ix (l3 + (kI 2)))), vI (sc (ix (l3 + (kI 1)))), vR l2, vI q25.1]) rfl ?_
    refine j_gd (fun h30 => ?_)
    refine j_sld hx hsc (by decide +kernel) h30 ?_
    refine j_runA hx 4 (tb := [(222, .aload_n 0), (223, .iload_n 3), (224, .iconst 5), (225, .iadd)]) (jtb_ok (by decide +kernel)) (pc' := 226) (lv' := [(0, vR a0), (1, vR l1), (2, vR l2), (3, vI l3)]) (st' := [vI (l3 + (kI 5)), vR a0, vI (sc (ix (l3 + (kI 4)))), vI (sc (ix (l3 + (kI 3)))), vI (sc (ix (l3 + (kI 2)))), vI (sc (ix (l3 + (kI 1)))), vR l2, vI q25.1]) rfl ?_
    refine j_gd (fun h31 => ?_)
    refine j_sld hx hsc (by decide +kernel) h31 ?_
    refine j_gd (fun h32 => ?_)
    refine j_WI (j_callV (av := [vI (sc (ix (l3 + (kI 1)))), vI (sc (ix (l3 + (kI 2)))), vI (sc (ix (l3 + (kI 3)))), vI (sc (ix (l3 + (kI 4)))), vI (sc (ix (l3 + (kI 5))))]) (st := [vI q25.1]) hx hr (Or.inl q2793) q2794 q2795 rfl md_fmo_feed np_fmo_feed (cmo_feed l2 (sc (ix (l3 + (kI 1)))) (sc (ix (l3 + (kI 2)))) (sc (ix (l3 + (kI 3)))) (sc (ix (l3 + (kI 4)))) (sc (ix (l3 + (kI 5)))) q25.2) (by decide) (Nat.le_of_ble_eq_true rfl) h32 (by decide) (by decide +kernel)) (fun q33 _ => ?_)
    refine j_icmp_eq hx (off := 985) (tgt := 1215) (by decide +kernel) (by decide) (fun _ => ?_) (fun _ => ?_)
    · exact wlw_law_1215 h l1 l2 l3 q33.2
    refine j_runA hx 1 (tb := [(233, .iconst 0)]) (jtb_ok (by decide +kernel)) (pc' := 234) (lv' := [(0, vR a0), (1, vR l1), (2, vR l2), (3, vI l3)]) (st' := [vI (kI 0)]) rfl ?_
    exact j_iret hx hm (by decide +kernel) jz0n (he _)
  refine j_tab hx (dflt := 1182) (lo := 0) (hi := 30) (offs := #[139, 202, 225, 238, 251, 274, 308, 342, 445, 479, 513, 546, 569, 592, 626, 680, 693, 716, 729, 742, 775, 808, 842, 865, 889, 922, 985, 1038, 1092, 1136, 1169]) (len := 139) (k := 1) (off := 202) (tgt := 235) (by decide +kernel) (by decide) (by decide) (by decide) rfl (by decide) (fun _ => ?_) (fun h35 => ?_)
  · refine j_runA hx 5 (tb := [(235, .aload_n 1), (236, .aload_n 0), (237, .iload_n 3), (238, .iconst 1), (239, .iadd)]) (jtb_ok (by decide +kernel)) (pc' := 240) (lv' := [(0, vR a0), (1, vR l1), (2, vR l2), (3, vI l3)]) (st' := [vI (l3 + (kI 1)), vR a0, vR l1]) rfl ?_
    refine j_gd (fun h36 => ?_)
    refine j_sld hx hsc (by decide +kernel) h36 ?_
    refine j_gd (fun h37 => ?_)
    refine j_WI (j_callV (av := [vI (sc (ix (l3 + (kI 1))))]) (st := []) hx hr (Or.inl q724) q725 q726 rfl md_fcl_end np_fcl_end (ccl_end l1 (sc (ix (l3 + (kI 1)))) W) (by decide) (Nat.le_of_ble_eq_true rfl) h37 (by decide) (by decide +kernel)) (fun q38 _ => ?_)
    refine j_runA hx 5 (tb := [(244, .aload_n 2), (245, .aload_n 0), (246, .iload_n 3), (247, .iconst 1), (248, .iadd)]) (jtb_ok (by decide +kernel)) (pc' := 249) (lv' := [(0, vR a0), (1, vR l1), (2, vR l2), (3, vI l3)]) (st' := [vI (l3 + (kI 1)), vR a0, vR l2, vI q38.1]) rfl ?_
    refine j_gd (fun h40 => ?_)
    refine j_sld hx hsc (by decide +kernel) h40 ?_
    refine j_gd (fun h41 => ?_)
    refine j_WI (j_callV (av := [vI (sc (ix (l3 + (kI 1))))]) (st := [vI q38.1]) hx hr (Or.inl q2802) q2803 q2804 rfl md_fmo_end np_fmo_end (cmo_end l2 (sc (ix (l3 + (kI 1)))) q38.2) (by decide) (Nat.le_of_ble_eq_true rfl) h41 (by decide) (by decide +kernel)) (fun q42 _ => ?_)
    refine j_icmp_eq hx (off := 962) (tgt := 1215) (by decide +kernel) (by decide) (fun _ => ?_) (fun _ => ?_)
    · exact wlw_law_1215 h l1 l2 l3 q42.2
    refine j_runA hx 1 (tb := [(256, .iconst 0)]) (jtb_ok (by decide +kernel)) (pc' := 257) (lv' := [(0, vR a0), (1, vR l1), (2, vR l2), (3, vI l3)]) (st' := [vI (kI 0)]) rfl ?_
    exact j_iret hx hm (by decide +kernel) jz0n (he _)
  refine j_tab hx (dflt := 1182) (lo := 0) (hi := 30) (offs := #[139, 202, 225, 238, 251, 274, 308, 342, 445, 479, 513, 546, 569, 592, 626, 680, 693, 716, 729, 742, 775, 808, 842, 865, 889, 922, 985, 1038, 1092, 1136, 1169]) (len := 139) (k := 2) (off := 225) (tgt := 258) (by decide +kernel) (by decide) (by decide) (by decide) rfl (by decide) (fun _ => ?_) (fun h44 => ?_)
  · refine j_runA hx 1 (tb := [(258, .aload_n 1)]) (jtb_ok (by decide +kernel)) (pc' := 259) (lv' := [(0, vR a0), (1, vR l1), (2, vR l2), (3, vI l3)]) (st' := [vR l1]) rfl ?_
    refine j_gd (fun h45 => ?_)
    refine j_WI (j_callV (av := []) (st := []) hx hr (Or.inl q728) q729 q730 rfl md_fcl_read np_fcl_read (ccl_read l1 W) (by decide) (Nat.le_of_ble_eq_true rfl) h45 (by decide) (by decide +kernel)) (fun q46 _ => ?_)
    refine j_runA hx 1 (tb := [(262, .aload_n 2)]) (jtb_ok (by decide +kernel)) (pc' := 263) (lv' := [(0, vR a0), (1, vR l1), (2, vR l2), (3, vI l3)]) (st' := [vR l2, vI q46.1]) rfl ?_
    refine j_gd (fun h48 => ?_)
    refine j_WI (j_callV (av := []) (st := [vI q46.1]) hx hr (Or.inl q2806) q2807 q2808 rfl md_fmo_read np_fmo_read (cmo_read l2 q46.2) (by decide) (Nat.le_of_ble_eq_true rfl) h48 (by decide) (by decide +kernel)) (fun q49 _ => ?_)
    refine j_icmp_eq hx (off := 949) (tgt := 1215) (by decide +kernel) (by decide) (fun _ => ?_) (fun _ => ?_)
    · exact wlw_law_1215 h l1 l2 l3 q49.2
    refine j_runA hx 1 (tb := [(269, .iconst 0)]) (jtb_ok (by decide +kernel)) (pc' := 270) (lv' := [(0, vR a0), (1, vR l1), (2, vR l2), (3, vI l3)]) (st' := [vI (kI 0)]) rfl ?_
    exact j_iret hx hm (by decide +kernel) jz0n (he _)
  refine j_tab hx (dflt := 1182) (lo := 0) (hi := 30) (offs := #[139, 202, 225, 238, 251, 274, 308, 342, 445, 479, 513, 546, 569, 592, 626, 680, 693, 716, 729, 742, 775, 808, 842, 865, 889, 922, 985, 1038, 1092, 1136, 1169]) (len := 139) (k := 3) (off := 238) (tgt := 271) (by decide +kernel) (by decide) (by decide) (by decide) rfl (by decide) (fun _ => ?_) (fun h51 => ?_)
  · refine j_runA hx 1 (tb := [(271, .aload_n 1)]) (jtb_ok (by decide +kernel)) (pc' := 272) (lv' := [(0, vR a0), (1, vR l1), (2, vR l2), (3, vI l3)]) (st' := [vR l1]) rfl ?_
    refine j_gd (fun h52 => ?_)
    refine j_OI (j_callV (av := []) (st := []) hx hr (Or.inl q1561) q1562 q1563 rfl md_fcl_place np_fcl_place (ccl_place l1 W) (by decide) (Nat.le_of_ble_eq_true rfl) h52 (by decide) (by decide +kernel)) (fun q53 _ => ?_)
    refine j_runA hx 1 (tb := [(275, .aload_n 2)]) (jtb_ok (by decide +kernel)) (pc' := 276) (lv' := [(0, vR a0), (1, vR l1), (2, vR l2), (3, vI l3)]) (st' := [vR l2, vI q53]) rfl ?_
    refine j_gd (fun h54 => ?_)
    refine j_OI (j_callV (av := []) (st := [vI q53]) hx hr (Or.inl q3071) q3072 q3073 rfl md_fmo_place np_fmo_place (cmo_place l2 W) (by decide) (Nat.le_of_ble_eq_true rfl) h54 (by decide) (by decide +kernel)) (fun q55 _ => ?_)
    refine j_icmp_eq hx (off := 936) (tgt := 1215) (by decide +kernel) (by decide) (fun _ => ?_) (fun _ => ?_)
    · exact wlw_law_1215 h l1 l2 l3 W
    refine j_runA hx 1 (tb := [(282, .iconst 0)]) (jtb_ok (by decide +kernel)) (pc' := 283) (lv' := [(0, vR a0), (1, vR l1), (2, vR l2), (3, vI l3)]) (st' := [vI (kI 0)]) rfl ?_
    exact j_iret hx hm (by decide +kernel) jz0n (he _)
  refine j_tab hx (dflt := 1182) (lo := 0) (hi := 30) (offs := #[139, 202, 225, 238, 251, 274, 308, 342, 445, 479, 513, 546, 569, 592, 626, 680, 693, 716, 729, 742, 775, 808, 842, 865, 889, 922, 985, 1038, 1092, 1136, 1169]) (len := 139) (k := 4) (off := 251) (tgt := 284) (by decide +kernel) (by decide) (by decide) (by decide) rfl (by decide) (fun _ => ?_) (fun h56 => ?_)
  · refine j_runA hx 5 (tb := [(284, .aload_n 1), (285, .aload_n 0), (286, .iload_n 3), (287, .iconst 1), (288, .iadd)]) (jtb_ok (by decide +kernel)) (pc' := 289) (lv' := [(0, vR a0), (1, vR l1), (2, vR l2), (3, vI l3)]) (st' := [vI (l3 + (kI 1)), vR a0, vR l1]) rfl ?_
    refine j_gd (fun h57 => ?_)
    refine j_sld hx hsc (by decide +kernel) h57 ?_
    refine j_gd (fun h58 => ?_)
    refine j_OI (j_callV (av := [vI (sc (ix (l3 + (kI 1))))]) (st := []) hx hr (Or.inl q1565) q1566 q1567 rfl md_fcl_count np_fcl_count (ccl_count l1 (sc (ix (l3 + (kI 1)))) W) (by decide) (Nat.le_of_ble_eq_true rfl) h58 (by decide) (by decide +kernel)) (fun q59 _ => ?_)
    refine j_runA hx 5 (tb := [(293, .aload_n 2), (294, .aload_n 0), (295, .iload_n 3), (296, .iconst 1), (297, .iadd)]) (jtb_ok (by decide +kernel)) (pc' := 298) (lv' := [(0, vR a0), (1, vR l1), (2, vR l2), (3, vI l3)]) (st' := [vI (l3 + (kI 1)), vR a0, vR l2, vI q59]) rfl ?_
    refine j_gd (fun h60 => ?_)
    refine j_sld hx hsc (by decide +kernel) h60 ?_
    refine j_gd (fun h61 => ?_)
    refine j_OI (j_callV (av := [vI (sc (ix (l3 + (kI 1))))]) (st := [vI q59]) hx hr (Or.inl q3075) q3076 q3077 rfl md_fmo_count np_fmo_count (cmo_count l2 (sc (ix (l3 + (kI 1)))) W) (by decide) (Nat.le_of_ble_eq_true rfl) h61 (by decide) (by decide +kernel)) (fun q62 _ => ?_)
    refine j_icmp_eq hx (off := 913) (tgt := 1215) (by decide +kernel) (by decide) (fun _ => ?_) (fun _ => ?_)
    · exact wlw_law_1215 h l1 l2 l3 W
    refine j_runA hx 1 (tb := [(305, .iconst 0)]) (jtb_ok (by decide +kernel)) (pc' := 306) (lv' := [(0, vR a0), (1, vR l1), (2, vR l2), (3, vI l3)]) (st' := [vI (kI 0)]) rfl ?_
    exact j_iret hx hm (by decide +kernel) jz0n (he _)
  refine j_tab hx (dflt := 1182) (lo := 0) (hi := 30) (offs := #[139, 202, 225, 238, 251, 274, 308, 342, 445, 479, 513, 546, 569, 592, 626, 680, 693, 716, 729, 742, 775, 808, 842, 865, 889, 922, 985, 1038, 1092, 1136, 1169]) (len := 139) (k := 5) (off := 274) (tgt := 307) (by decide +kernel) (by decide) (by decide) (by decide) rfl (by decide) (fun _ => ?_) (fun h63 => ?_)
  · refine j_runA hx 5 (tb := [(307, .aload_n 1), (308, .aload_n 0), (309, .iload_n 3), (310, .iconst 1), (311, .iadd)]) (jtb_ok (by decide +kernel)) (pc' := 312) (lv' := [(0, vR a0), (1, vR l1), (2, vR l2), (3, vI l3)]) (st' := [vI (l3 + (kI 1)), vR a0, vR l1]) rfl ?_
    refine j_gd (fun h64 => ?_)
    refine j_sld hx hsc (by decide +kernel) h64 ?_
    refine j_runA hx 4 (tb := [(313, .aload_n 0), (314, .iload_n 3), (315, .iconst 2), (316, .iadd)]) (jtb_ok (by decide +kernel)) (pc' := 317) (lv' := [(0, vR a0), (1, vR l1), (2, vR l2), (3, vI l3)]) (st' := [vI (l3 + (kI 2)), vR a0, vI (sc (ix (l3 + (kI 1)))), vR l1]) rfl ?_
    refine j_gd (fun h65 => ?_)
    refine j_sld hx hsc (by decide +kernel) h65 ?_
    refine j_gd (fun h66 => ?_)
    refine j_WL (j_callV (av := [vI (sc (ix (l3 + (kI 1)))), vI (sc (ix (l3 + (kI 2))))]) (st := []) hx hr (Or.inl q1573) q1574 q1575 rfl md_fcl_function np_fcl_function (ccl_function l1 (sc (ix (l3 + (kI 1)))) (sc (ix (l3 + (kI 2)))) W) (by decide) (Nat.le_of_ble_eq_true rfl) h66 (by decide) (by decide +kernel)) (fun q67 _ => ?_)
    refine j_runA hx 5 (tb := [(321, .aload_n 2), (322, .aload_n 0), (323, .iload_n 3), (324, .iconst 1), (325, .iadd)]) (jtb_ok (by decide +kernel)) (pc' := 326) (lv' := [(0, vR a0), (1, vR l1), (2, vR l2), (3, vI l3)]) (st' := [vI (l3 + (kI 1)), vR a0, vR l2, vL q67.1]) rfl ?_
    refine j_gd (fun h69 => ?_)
    refine j_sld hx hsc (by decide +kernel) h69 ?_
    refine j_runA hx 4 (tb := [(327, .aload_n 0), (328, .iload_n 3), (329, .iconst 2), (330, .iadd)]) (jtb_ok (by decide +kernel)) (pc' := 331) (lv' := [(0, vR a0), (1, vR l1), (2, vR l2), (3, vI l3)]) (st' := [vI (l3 + (kI 2)), vR a0, vI (sc (ix (l3 + (kI 1)))), vR l2, vL q67.1]) rfl ?_
    refine j_gd (fun h70 => ?_)
    refine j_sld hx hsc (by decide +kernel) h70 ?_
    refine j_gd (fun h71 => ?_)
    refine j_OL (j_callV (av := [vI (sc (ix (l3 + (kI 1)))), vI (sc (ix (l3 + (kI 2))))]) (st := [vL q67.1]) hx hr (Or.inl q3079) q3080 q3081 rfl md_fmo_function np_fmo_function (cmo_function l2 (sc (ix (l3 + (kI 1)))) (sc (ix (l3 + (kI 2)))) q67.2) (by decide) (Nat.le_of_ble_eq_true rfl) h71 (by decide) (by decide +kernel)) (fun q72 _ => ?_)
    refine j_lcmp_eq hx (off := 879) (tgt := 1215) (by decide +kernel) (by decide +kernel) (by decide) (fun _ => ?_) (fun _ => ?_)
    · exact wlw_law_1215 h l1 l2 l3 q67.2
    refine j_runA hx 1 (tb := [(339, .iconst 0)]) (jtb_ok (by decide +kernel)) (pc' := 340) (lv' := [(0, vR a0), (1, vR l1), (2, vR l2), (3, vI l3)]) (st' := [vI (kI 0)]) rfl ?_
    exact j_iret hx hm (by decide +kernel) jz0n (he _)
  refine j_tab hx (dflt := 1182) (lo := 0) (hi := 30) (offs := #[139, 202, 225, 238, 251, 274, 308, 342, 445, 479, 513, 546, 569, 592, 626, 680, 693, 716, 729, 742, 775, 808, 842, 865, 889, 922, 985, 1038, 1092, 1136, 1169]) (len := 139) (k := 6) (off := 308) (tgt := 341) (by decide +kernel) (by decide) (by decide) (by decide) rfl (by decide) (fun _ => ?_) (fun h73 => ?_)
  · refine j_runA hx 5 (tb := [(341, .aload_n 1), (342, .aload_n 0), (343, .iload_n 3), (344, .iconst 1), (345, .iadd)]) (jtb_ok (by decide +kernel)) (pc' := 346) (lv' := [(0, vR a0), (1, vR l1), (2, vR l2), (3, vI l3)]) (st' := [vI (l3 + (kI 1)), vR a0, vR l1]) rfl ?_
    refine j_gd (fun h74 => ?_)
    refine j_sld hx hsc (by decide +kernel) h74 ?_
    refine j_runA hx 4 (tb := [(347, .aload_n 0), (348, .iload_n 3), (349, .iconst 2), (350, .iadd)]) (jtb_ok (by decide +kernel)) (pc' := 351) (lv' := [(0, vR a0), (1, vR l1), (2, vR l2), (3, vI l3)]) (st' := [vI (l3 + (kI 2)), vR a0, vI (sc (ix (l3 + (kI 1)))), vR l1]) rfl ?_
    refine j_gd (fun h75 => ?_)
    refine j_sld hx hsc (by decide +kernel) h75 ?_
    refine j_gd (fun h76 => ?_)
    refine j_WL (j_callV (av := [vI (sc (ix (l3 + (kI 1)))), vI (sc (ix (l3 + (kI 2))))]) (st := []) hx hr (Or.inl q1619) q1620 q1621 rfl md_fcl_block np_fcl_block (ccl_block l1 (sc (ix (l3 + (kI 1)))) (sc (ix (l3 + (kI 2)))) W) (by decide) (Nat.le_of_ble_eq_true rfl) h76 (by decide) (by decide +kernel)) (fun q77 _ => ?_)
    refine j_runA hx 5 (tb := [(355, .aload_n 2), (356, .aload_n 0), (357, .iload_n 3), (358, .iconst 1), (359, .iadd)]) (jtb_ok (by decide +kernel)) (pc' := 360) (lv' := [(0, vR a0), (1, vR l1), (2, vR l2), (3, vI l3)]) (st' := [vI (l3 + (kI 1)), vR a0, vR l2, vL q77.1]) rfl ?_
    refine j_gd (fun h79 => ?_)
    refine j_sld hx hsc (by decide +kernel) h79 ?_
    refine j_runA hx 4 (tb := [(361, .aload_n 0), (362, .iload_n 3), (363, .iconst 2), (364, .iadd)]) (jtb_ok (by decide +kernel)) (pc' := 365) (lv' := [(0, vR a0), (1, vR l1), (2, vR l2), (3, vI l3)]) (st' := [vI (l3 + (kI 2)), vR a0, vI (sc (ix (l3 + (kI 1)))), vR l2, vL q77.1]) rfl ?_
    refine j_gd (fun h80 => ?_)
    refine j_sld hx hsc (by decide +kernel) h80 ?_
    refine j_gd (fun h81 => ?_)
    refine j_OL (j_callV (av := [vI (sc (ix (l3 + (kI 1)))), vI (sc (ix (l3 + (kI 2))))]) (st := [vL q77.1]) hx hr (Or.inl q3088) q3089 q3090 rfl md_fmo_block np_fmo_block (cmo_block l2 (sc (ix (l3 + (kI 1)))) (sc (ix (l3 + (kI 2)))) q77.2) (by decide) (Nat.le_of_ble_eq_true rfl) h81 (by decide) (by decide +kernel)) (fun q82 _ => ?_)
    refine j_lcmp_eq hx (off := 845) (tgt := 1215) (by decide +kernel) (by decide +kernel) (by decide) (fun _ => ?_) (fun _ => ?_)
    · exact wlw_law_1215 h l1 l2 l3 q77.2
    refine j_runA hx 1 (tb := [(373, .iconst 0)]) (jtb_ok (by decide +kernel)) (pc' := 374) (lv' := [(0, vR a0), (1, vR l1), (2, vR l2), (3, vI l3)]) (st' := [vI (kI 0)]) rfl ?_
    exact j_iret hx hm (by decide +kernel) jz0n (he _)
  refine j_tab hx (dflt := 1182) (lo := 0) (hi := 30) (offs := #[139, 202, 225, 238, 251, 274, 308, 342, 445, 479, 513, 546, 569, 592, 626, 680, 693, 716, 729, 742, 775, 808, 842, 865, 889, 922, 985, 1038, 1092, 1136, 1169]) (len := 139) (k := 7) (off := 342) (tgt := 375) (by decide +kernel) (by decide) (by decide) (by decide) rfl (by decide) (fun _ => ?_) (fun h83 => ?_)
  · refine j_runA hx 5 (tb := [(375, .aload_n 1), (376, .aload_n 0), (377, .iload_n 3), (378, .iconst 1), (379, .iadd)]) (jtb_ok (by decide +kernel)) (pc' := 380) (lv' := [(0, vR a0), (1, vR l1), (2, vR l2), (3, vI l3)]) (st' := [vI (l3 + (kI 1)), vR a0, vR l1]) rfl ?_
    refine j_gd (fun h84 => ?_)
    refine j_sld hx hsc (by decide +kernel) h84 ?_
    refine j_runA hx 7 (tb := [(381, .i2l), (382, .bipush 32), (384, .lshl), (385, .aload_n 0), (386, .iload_n 3), (387, .iconst 2), (388, .iadd)]) (jtb_ok (by decide +kernel)) (pc' := 389) (lv' := [(0, vR a0), (1, vR l1), (2, vR l2), (3, vI l3)]) (st' := [vI (l3 + (kI 2)), vR a0, vL (lxl ((sc (ix (l3 + (kI 1)))).toInt64) (kI 32)), vR l1]) rfl ?_
    refine j_gd (fun h85 => ?_)
    refine j_sld hx hsc (by decide +kernel) h85 ?_
    refine j_runA hx 1 (tb := [(390, .i2l)]) (jtb_ok (by decide +kernel)) (pc' := 391) (lv' := [(0, vR a0), (1, vR l1), (2, vR l2), (3, vI l3)]) (st' := [vL ((sc (ix (l3 + (kI 2)))).toInt64), vL (lxl ((sc (ix (l3 + (kI 1)))).toInt64) (kI 32)), vR l1]) rfl ?_
    refine j_ldc2 hx (v := (kJ 4294967295)) (jkd2 q3610 (by decide +kernel)) (by decide +kernel) ?_
    refine j_runA hx 6 (tb := [(394, .land), (395, .lor), (396, .aload_n 0), (397, .iload_n 3), (398, .iconst 3), (399, .iadd)]) (jtb_ok (by decide +kernel)) (pc' := 400) (lv' := [(0, vR a0), (1, vR l1), (2, vR l2), (3, vI l3)]) (st' := [vI (l3 + (kI 3)), vR a0, vL ((lxl ((sc (ix (l3 + (kI 1)))).toInt64) (kI 32)) ||| (((sc (ix (l3 + (kI 2)))).toInt64) &&& (kJ 4294967295))), vR l1]) rfl ?_
    refine j_gd (fun h86 => ?_)
    refine j_sld hx hsc (by decide +kernel) h86 ?_
    refine j_runA hx 7 (tb := [(401, .i2l), (402, .bipush 32), (404, .lshl), (405, .aload_n 0), (406, .iload_n 3), (407, .iconst 4), (408, .iadd)]) (jtb_ok (by decide +kernel)) (pc' := 409) (lv' := [(0, vR a0), (1, vR l1), (2, vR l2), (3, vI l3)]) (st' := [vI (l3 + (kI 4)), vR a0, vL (lxl ((sc (ix (l3 + (kI 3)))).toInt64) (kI 32)), vL ((lxl ((sc (ix (l3 + (kI 1)))).toInt64) (kI 32)) ||| (((sc (ix (l3 + (kI 2)))).toInt64) &&& (kJ 4294967295))), vR l1]) rfl ?_
    refine j_gd (fun h87 => ?_)
    refine j_sld hx hsc (by decide +kernel) h87 ?_
    refine j_runA hx 1 (tb := [(410, .i2l)]) (jtb_ok (by decide +kernel)) (pc' := 411) (lv' := [(0, vR a0), (1, vR l1), (2, vR l2), (3, vI l3)]) (st' := [vL ((sc (ix (l3 + (kI 4)))).toInt64), vL (lxl ((sc (ix (l3 + (kI 3)))).toInt64) (kI 32)), vL ((lxl ((sc (ix (l3 + (kI 1)))).toInt64) (kI 32)) ||| (((sc (ix (l3 + (kI 2)))).toInt64) &&& (kJ 4294967295))), vR l1]) rfl ?_
    refine j_ldc2 hx (v := (kJ 4294967295)) (jkd2 q3610 (by decide +kernel)) (by decide +kernel) ?_
    refine j_runA hx 6 (tb := [(414, .land), (415, .lor), (416, .aload_n 0), (417, .iload_n 3), (418, .iconst 5), (419, .iadd)]) (jtb_ok (by decide +kernel)) (pc' := 420) (lv' := [(0, vR a0), (1, vR l1), (2, vR l2), (3, vI l3)]) (st' := [vI (l3 + (kI 5)), vR a0, vL ((lxl ((sc (ix (l3 + (kI 3)))).toInt64) (kI 32)) ||| (((sc (ix (l3 + (kI 4)))).toInt64) &&& (kJ 4294967295))), vL ((lxl ((sc (ix (l3 + (kI 1)))).toInt64) (kI 32)) ||| (((sc (ix (l3 + (kI 2)))).toInt64) &&& (kJ 4294967295))), vR l1]) rfl ?_
    refine j_gd (fun h88 => ?_)
    refine j_sld hx hsc (by decide +kernel) h88 ?_
    refine j_gd (fun h89 => ?_)
    refine j_WI (j_callV (av := [vL ((lxl ((sc (ix (l3 + (kI 1)))).toInt64) (kI 32)) ||| (((sc (ix (l3 + (kI 2)))).toInt64) &&& (kJ 4294967295))), vL ((lxl ((sc (ix (l3 + (kI 3)))).toInt64) (kI 32)) ||| (((sc (ix (l3 + (kI 4)))).toInt64) &&& (kJ 4294967295))), vI (sc (ix (l3 + (kI 5))))]) (st := []) hx hr (Or.inl q1640) q1641 q1642 rfl md_fcl_edge np_fcl_edge (ccl_edge l1 ((lxl ((sc (ix (l3 + (kI 1)))).toInt64) (kI 32)) ||| (((sc (ix (l3 + (kI 2)))).toInt64) &&& (kJ 4294967295))) ((lxl ((sc (ix (l3 + (kI 3)))).toInt64) (kI 32)) ||| (((sc (ix (l3 + (kI 4)))).toInt64) &&& (kJ 4294967295))) (sc (ix (l3 + (kI 5)))) W) (by decide) (Nat.le_of_ble_eq_true rfl) h89 (by decide) (by decide +kernel)) (fun q90 _ => ?_)
    refine j_runA hx 5 (tb := [(424, .aload_n 2), (425, .aload_n 0), (426, .iload_n 3), (427, .iconst 1), (428, .iadd)]) (jtb_ok (by decide +kernel)) (pc' := 429) (lv' := [(0, vR a0), (1, vR l1), (2, vR l2), (3, vI l3)]) (st' := [vI (l3 + (kI 1)), vR a0, vR l2, vI q90.1]) rfl ?_
    refine j_gd (fun h92 => ?_)
    refine j_sld hx hsc (by decide +kernel) h92 ?_
    refine j_runA hx 7 (tb := [(430, .i2l), (431, .bipush 32), (433, .lshl), (434, .aload_n 0), (435, .iload_n 3), (436, .iconst 2), (437, .iadd)]) (jtb_ok (by decide +kernel)) (pc' := 438) (lv' := [(0, vR a0), (1, vR l1), (2, vR l2), (3, vI l3)]) (st' := [vI (l3 + (kI 2)), vR a0, vL (lxl ((sc (ix (l3 + (kI 1)))).toInt64) (kI 32)), vR l2, vI q90.1]) rfl ?_
    refine j_gd (fun h93 => ?_)
    refine j_sld hx hsc (by decide +kernel) h93 ?_
    refine j_runA hx 1 (tb := [(439, .i2l)]) (jtb_ok (by decide +kernel)) (pc' := 440) (lv' := [(0, vR a0), (1, vR l1), (2, vR l2), (3, vI l3)]) (st' := [vL ((sc (ix (l3 + (kI 2)))).toInt64), vL (lxl ((sc (ix (l3 + (kI 1)))).toInt64) (kI 32)), vR l2, vI q90.1]) rfl ?_
    refine j_ldc2 hx (v := (kJ 4294967295)) (jkd2 q3610 (by decide +kernel)) (by decide +kernel) ?_
    refine j_runA hx 6 (tb := [(443, .land), (444, .lor), (445, .aload_n 0), (446, .iload_n 3), (447, .iconst 3), (448, .iadd)]) (jtb_ok (by decide +kernel)) (pc' := 449) (lv' := [(0, vR a0), (1, vR l1), (2, vR l2), (3, vI l3)]) (st' := [vI (l3 + (kI 3)), vR a0, vL ((lxl ((sc (ix (l3 + (kI 1)))).toInt64) (kI 32)) ||| (((sc (ix (l3 + (kI 2)))).toInt64) &&& (kJ 4294967295))), vR l2, vI q90.1]) rfl ?_
    refine j_gd (fun h94 => ?_)
    refine j_sld hx hsc (by decide +kernel) h94 ?_
    refine j_runA hx 7 (tb := [(450, .i2l), (451, .bipush 32), (453, .lshl), (454, .aload_n 0), (455, .iload_n 3), (456, .iconst 4), (457, .iadd)]) (jtb_ok (by decide +kernel)) (pc' := 458) (lv' := [(0, vR a0), (1, vR l1), (2, vR l2), (3, vI l3)]) (st' := [vI (l3 + (kI 4)), vR a0, vL (lxl ((sc (ix (l3 + (kI 3)))).toInt64) (kI 32)), vL ((lxl ((sc (ix (l3 + (kI 1)))).toInt64) (kI 32)) ||| (((sc (ix (l3 + (kI 2)))).toInt64) &&& (kJ 4294967295))), vR l2, vI q90.1]) rfl ?_
    refine j_gd (fun h95 => ?_)
    refine j_sld hx hsc (by decide +kernel) h95 ?_
    refine j_runA hx 1 (tb := [(459, .i2l)]) (jtb_ok (by decide +kernel)) (pc' := 460) (lv' := [(0, vR a0), (1, vR l1), (2, vR l2), (3, vI l3)]) (st' := [vL ((sc (ix (l3 + (kI 4)))).toInt64), vL (lxl ((sc (ix (l3 + (kI 3)))).toInt64) (kI 32)), vL ((lxl ((sc (ix (l3 + (kI 1)))).toInt64) (kI 32)) ||| (((sc (ix (l3 + (kI 2)))).toInt64) &&& (kJ 4294967295))), vR l2, vI q90.1]) rfl ?_
    refine j_ldc2 hx (v := (kJ 4294967295)) (jkd2 q3610 (by decide +kernel)) (by decide +kernel) ?_
    refine j_runA hx 6 (tb := [(463, .land), (464, .lor), (465, .aload_n 0), (466, .iload_n 3), (467, .iconst 5), (468, .iadd)]) (jtb_ok (by decide +kernel)) (pc' := 469) (lv' := [(0, vR a0), (1, vR l1), (2, vR l2), (3, vI l3)]) (st' := [vI (l3 + (kI 5)), vR a0, vL ((lxl ((sc (ix (l3 + (kI 3)))).toInt64) (kI 32)) ||| (((sc (ix (l3 + (kI 4)))).toInt64) &&& (kJ 4294967295))), vL ((lxl ((sc (ix (l3 + (kI 1)))).toInt64) (kI 32)) ||| (((sc (ix (l3 + (kI 2)))).toInt64) &&& (kJ 4294967295))), vR l2, vI q90.1]) rfl ?_
    refine j_gd (fun h96 => ?_)
    refine j_sld hx hsc (by decide +kernel) h96 ?_
    refine j_gd (fun h97 => ?_)
    refine j_WI (j_callV (av := [vL ((lxl ((sc (ix (l3 + (kI 1)))).toInt64) (kI 32)) ||| (((sc (ix (l3 + (kI 2)))).toInt64) &&& (kJ 4294967295))), vL ((lxl ((sc (ix (l3 + (kI 3)))).toInt64) (kI 32)) ||| (((sc (ix (l3 + (kI 4)))).toInt64) &&& (kJ 4294967295))), vI (sc (ix (l3 + (kI 5))))]) (st := [vI q90.1]) hx hr (Or.inl q3101) q3102 q3103 rfl md_fmo_edge np_fmo_edge (cmo_edge l2 ((lxl ((sc (ix (l3 + (kI 1)))).toInt64) (kI 32)) ||| (((sc (ix (l3 + (kI 2)))).toInt64) &&& (kJ 4294967295))) ((lxl ((sc (ix (l3 + (kI 3)))).toInt64) (kI 32)) ||| (((sc (ix (l3 + (kI 4)))).toInt64) &&& (kJ 4294967295))) (sc (ix (l3 + (kI 5)))) q90.2) (by decide) (Nat.le_of_ble_eq_true rfl) h97 (by decide) (by decide +kernel)) (fun q98 _ => ?_)
    refine j_icmp_eq hx (off := 742) (tgt := 1215) (by decide +kernel) (by decide) (fun _ => ?_) (fun _ => ?_)
    · exact wlw_law_1215 h l1 l2 l3 q98.2
    refine j_runA hx 1 (tb := [(476, .iconst 0)]) (jtb_ok (by decide +kernel)) (pc' := 477) (lv' := [(0, vR a0), (1, vR l1), (2, vR l2), (3, vI l3)]) (st' := [vI (kI 0)]) rfl ?_
    exact j_iret hx hm (by decide +kernel) jz0n (he _)
  refine j_tab hx (dflt := 1182) (lo := 0) (hi := 30) (offs := #[139, 202, 225, 238, 251, 274, 308, 342, 445, 479, 513, 546, 569, 592, 626, 680, 693, 716, 729, 742, 775, 808, 842, 865, 889, 922, 985, 1038, 1092, 1136, 1169]) (len := 139) (k := 8) (off := 445) (tgt := 478) (by decide +kernel) (by decide) (by decide) (by decide) rfl (by decide) (fun _ => ?_) (fun h100 => ?_)
  · refine j_runA hx 5 (tb := [(478, .aload_n 1), (479, .aload_n 0), (480, .iload_n 3), (481, .iconst 1), (482, .iadd)]) (jtb_ok (by decide +kernel)) (pc' := 483) (lv' := [(0, vR a0), (1, vR l1), (2, vR l2), (3, vI l3)]) (st' := [vI (l3 + (kI 1)), vR a0, vR l1]) rfl ?_
    refine j_gd (fun h101 => ?_)
    refine j_sld hx hsc (by decide +kernel) h101 ?_
    refine j_runA hx 4 (tb := [(484, .aload_n 0), (485, .iload_n 3), (486, .iconst 2), (487, .iadd)]) (jtb_ok (by decide +kernel)) (pc' := 488) (lv' := [(0, vR a0), (1, vR l1), (2, vR l2), (3, vI l3)]) (st' := [vI (l3 + (kI 2)), vR a0, vI (sc (ix (l3 + (kI 1)))), vR l1]) rfl ?_
    refine j_gd (fun h102 => ?_)
    refine j_sld hx hsc (by decide +kernel) h102 ?_
    refine j_gd (fun h103 => ?_)
    refine j_OL (j_callV (av := [vI (sc (ix (l3 + (kI 1)))), vI (sc (ix (l3 + (kI 2))))]) (st := []) hx hr (Or.inl q1674) q1675 q1676 rfl md_fcl_way np_fcl_way (ccl_way l1 (sc (ix (l3 + (kI 1)))) (sc (ix (l3 + (kI 2)))) W) (by decide) (Nat.le_of_ble_eq_true rfl) h103 (by decide) (by decide +kernel)) (fun q104 _ => ?_)
    refine j_runA hx 5 (tb := [(492, .aload_n 2), (493, .aload_n 0), (494, .iload_n 3), (495, .iconst 1), (496, .iadd)]) (jtb_ok (by decide +kernel)) (pc' := 497) (lv' := [(0, vR a0), (1, vR l1), (2, vR l2), (3, vI l3)]) (st' := [vI (l3 + (kI 1)), vR a0, vR l2, vL q104]) rfl ?_
    refine j_gd (fun h105 => ?_)
    refine j_sld hx hsc (by decide +kernel) h105 ?_
    refine j_runA hx 4 (tb := [(498, .aload_n 0), (499, .iload_n 3), (500, .iconst 2), (501, .iadd)]) (jtb_ok (by decide +kernel)) (pc' := 502) (lv' := [(0, vR a0), (1, vR l1), (2, vR l2), (3, vI l3)]) (st' := [vI (l3 + (kI 2)), vR a0, vI (sc (ix (l3 + (kI 1)))), vR l2, vL q104]) rfl ?_
    refine j_gd (fun h106 => ?_)
    refine j_sld hx hsc (by decide +kernel) h106 ?_
    refine j_gd (fun h107 => ?_)
    refine j_OL (j_callV (av := [vI (sc (ix (l3 + (kI 1)))), vI (sc (ix (l3 + (kI 2))))]) (st := [vL q104]) hx hr (Or.inl q3126) q3127 q3128 rfl md_fmo_way np_fmo_way (cmo_way l2 (sc (ix (l3 + (kI 1)))) (sc (ix (l3 + (kI 2)))) W) (by decide) (Nat.le_of_ble_eq_true rfl) h107 (by decide) (by decide +kernel)) (fun q108 _ => ?_)
    refine j_lcmp_eq hx (off := 708) (tgt := 1215) (by decide +kernel) (by decide +kernel) (by decide) (fun _ => ?_) (fun _ => ?_)
    · exact wlw_law_1215 h l1 l2 l3 W
    refine j_runA hx 1 (tb := [(510, .iconst 0)]) (jtb_ok (by decide +kernel)) (pc' := 511) (lv' := [(0, vR a0), (1, vR l1), (2, vR l2), (3, vI l3)]) (st' := [vI (kI 0)]) rfl ?_
    exact j_iret hx hm (by decide +kernel) jz0n (he _)
  refine j_tab hx (dflt := 1182) (lo := 0) (hi := 30) (offs := #[139, 202, 225, 238, 251, 274, 308, 342, 445, 479, 513, 546, 569, 592, 626, 680, 693, 716, 729, 742, 775, 808, 842, 865, 889, 922, 985, 1038, 1092, 1136, 1169]) (len := 139) (k := 9) (off := 479) (tgt := 512) (by decide +kernel) (by decide) (by decide) (by decide) rfl (by decide) (fun _ => ?_) (fun h109 => ?_)
  · refine j_runA hx 5 (tb := [(512, .aload_n 1), (513, .aload_n 0), (514, .iload_n 3), (515, .iconst 1), (516, .iadd)]) (jtb_ok (by decide +kernel)) (pc' := 517) (lv' := [(0, vR a0), (1, vR l1), (2, vR l2), (3, vI l3)]) (st' := [vI (l3 + (kI 1)), vR a0, vR l1]) rfl ?_
    refine j_gd (fun h110 => ?_)
    refine j_sld hx hsc (by decide +kernel) h110 ?_
    refine j_runA hx 4 (tb := [(518, .aload_n 0), (519, .iload_n 3), (520, .iconst 2), (521, .iadd)]) (jtb_ok (by decide +kernel)) (pc' := 522) (lv' := [(0, vR a0), (1, vR l1), (2, vR l2), (3, vI l3)]) (st' := [vI (l3 + (kI 2)), vR a0, vI (sc (ix (l3 + (kI 1)))), vR l1]) rfl ?_
    refine j_gd (fun h111 => ?_)
    refine j_sld hx hsc (by decide +kernel) h111 ?_
    refine j_gd (fun h112 => ?_)
    refine j_OL (j_callV (av := [vI (sc (ix (l3 + (kI 1)))), vI (sc (ix (l3 + (kI 2))))]) (st := []) hx hr (Or.inl q1682) q1683 q1684 rfl md_fcl_calls np_fcl_calls (ccl_calls l1 (sc (ix (l3 + (kI 1)))) (sc (ix (l3 + (kI 2)))) W) (by decide) (Nat.le_of_ble_eq_true rfl) h112 (by decide) (by decide +kernel)) (fun q113 _ => ?_)
    refine j_runA hx 5 (tb := [(526, .aload_n 2), (527, .aload_n 0), (528, .iload_n 3), (529, .iconst 1), (530, .iadd)]) (jtb_ok (by decide +kernel)) (pc' := 531) (lv' := [(0, vR a0), (1, vR l1), (2, vR l2), (3, vI l3)]) (st' := [vI (l3 + (kI 1)), vR a0, vR l2, vL q113]) rfl ?_
    refine j_gd (fun h114 => ?_)
    refine j_sld hx hsc (by decide +kernel) h114 ?_
    refine j_runA hx 4 (tb := [(532, .aload_n 0), (533, .iload_n 3), (534, .iconst 2), (535, .iadd)]) (jtb_ok (by decide +kernel)) (pc' := 536) (lv' := [(0, vR a0), (1, vR l1), (2, vR l2), (3, vI l3)]) (st' := [vI (l3 + (kI 2)), vR a0, vI (sc (ix (l3 + (kI 1)))), vR l2, vL q113]) rfl ?_
    refine j_gd (fun h115 => ?_)
    refine j_sld hx hsc (by decide +kernel) h115 ?_
    refine j_gd (fun h116 => ?_)
    refine j_OL (j_callV (av := [vI (sc (ix (l3 + (kI 1)))), vI (sc (ix (l3 + (kI 2))))]) (st := [vL q113]) hx hr (Or.inl q3130) q3131 q3132 rfl md_fmo_calls np_fmo_calls (cmo_calls l2 (sc (ix (l3 + (kI 1)))) (sc (ix (l3 + (kI 2)))) W) (by decide) (Nat.le_of_ble_eq_true rfl) h116 (by decide) (by decide +kernel)) (fun q117 _ => ?_)
    refine j_lcmp_eq hx (off := 674) (tgt := 1215) (by decide +kernel) (by decide +kernel) (by decide) (fun _ => ?_) (fun _ => ?_)
    · exact wlw_law_1215 h l1 l2 l3 W
    refine j_runA hx 1 (tb := [(544, .iconst 0)]) (jtb_ok (by decide +kernel)) (pc' := 545) (lv' := [(0, vR a0), (1, vR l1), (2, vR l2), (3, vI l3)]) (st' := [vI (kI 0)]) rfl ?_
    exact j_iret hx hm (by decide +kernel) jz0n (he _)
  refine j_tab hx (dflt := 1182) (lo := 0) (hi := 30) (offs := #[139, 202, 225, 238, 251, 274, 308, 342, 445, 479, 513, 546, 569, 592, 626, 680, 693, 716, 729, 742, 775, 808, 842, 865, 889, 922, 985, 1038, 1092, 1136, 1169]) (len := 139) (k := 10) (off := 513) (tgt := 546) (by decide +kernel) (by decide) (by decide) (by decide) rfl (by decide) (fun _ => ?_) (fun h118 => ?_)
  · refine j_runA hx 5 (tb := [(546, .aload_n 1), (547, .aload_n 0), (548, .iload_n 3), (549, .iconst 1), (550, .iadd)]) (jtb_ok (by decide +kernel)) (pc' := 551) (lv' := [(0, vR a0), (1, vR l1), (2, vR l2), (3, vI l3)]) (st' := [vI (l3 + (kI 1)), vR a0, vR l1]) rfl ?_
    refine j_gd (fun h119 => ?_)
    refine j_sld hx hsc (by decide +kernel) h119 ?_
    refine j_runA hx 4 (tb := [(552, .aload_n 0), (553, .iload_n 3), (554, .iconst 2), (555, .iadd)]) (jtb_ok (by decide +kernel)) (pc' := 556) (lv' := [(0, vR a0), (1, vR l1), (2, vR l2), (3, vI l3)]) (st' := [vI (l3 + (kI 2)), vR a0, vI (sc (ix (l3 + (kI 1)))), vR l1]) rfl ?_
    refine j_gd (fun h120 => ?_)
    refine j_sld hx hsc (by decide +kernel) h120 ?_
    refine j_gd (fun h121 => ?_)
    refine j_WI (j_callV (av := [vI (sc (ix (l3 + (kI 1)))), vI (sc (ix (l3 + (kI 2))))]) (st := []) hx hr (Or.inl q1686) q1687 q1688 rfl md_fcl_lay np_fcl_lay (ccl_lay l1 (sc (ix (l3 + (kI 1)))) (sc (ix (l3 + (kI 2)))) W) (by decide) (Nat.le_of_ble_eq_true rfl) h121 (by decide) (by decide +kernel)) (fun q122 _ => ?_)
    refine j_runA hx 5 (tb := [(560, .aload_n 2), (561, .aload_n 0), (562, .iload_n 3), (563, .iconst 1), (564, .iadd)]) (jtb_ok (by decide +kernel)) (pc' := 565) (lv' := [(0, vR a0), (1, vR l1), (2, vR l2), (3, vI l3)]) (st' := [vI (l3 + (kI 1)), vR a0, vR l2, vI q122.1]) rfl ?_
    refine j_gd (fun h124 => ?_)
    refine j_sld hx hsc (by decide +kernel) h124 ?_
    refine j_runA hx 4 (tb := [(566, .aload_n 0), (567, .iload_n 3), (568, .iconst 2), (569, .iadd)]) (jtb_ok (by decide +kernel)) (pc' := 570) (lv' := [(0, vR a0), (1, vR l1), (2, vR l2), (3, vI l3)]) (st' := [vI (l3 + (kI 2)), vR a0, vI (sc (ix (l3 + (kI 1)))), vR l2, vI q122.1]) rfl ?_
    refine j_gd (fun h125 => ?_)
    refine j_sld hx hsc (by decide +kernel) h125 ?_
    refine j_gd (fun h126 => ?_)
    refine j_WI (j_callV (av := [vI (sc (ix (l3 + (kI 1)))), vI (sc (ix (l3 + (kI 2))))]) (st := [vI q122.1]) hx hr (Or.inl q3205) q3206 q3207 rfl md_fmo_lay np_fmo_lay (cmo_lay l2 (sc (ix (l3 + (kI 1)))) (sc (ix (l3 + (kI 2)))) q122.2) (by decide) (Nat.le_of_ble_eq_true rfl) h126 (by decide) (by decide +kernel)) (fun q127 _ => ?_)
    refine j_icmp_eq hx (off := 641) (tgt := 1215) (by decide +kernel) (by decide) (fun _ => ?_) (fun _ => ?_)
    · exact wlw_law_1215 h l1 l2 l3 q127.2
    refine j_runA hx 1 (tb := [(577, .iconst 0)]) (jtb_ok (by decide +kernel)) (pc' := 578) (lv' := [(0, vR a0), (1, vR l1), (2, vR l2), (3, vI l3)]) (st' := [vI (kI 0)]) rfl ?_
    exact j_iret hx hm (by decide +kernel) jz0n (he _)
  refine j_tab hx (dflt := 1182) (lo := 0) (hi := 30) (offs := #[139, 202, 225, 238, 251, 274, 308, 342, 445, 479, 513, 546, 569, 592, 626, 680, 693, 716, 729, 742, 775, 808, 842, 865, 889, 922, 985, 1038, 1092, 1136, 1169]) (len := 139) (k := 11) (off := 546) (tgt := 579) (by decide +kernel) (by decide) (by decide) (by decide) rfl (by decide) (fun _ => ?_) (fun h129 => ?_)
  · refine j_runA hx 5 (tb := [(579, .aload_n 1), (580, .aload_n 0), (581, .iload_n 3), (582, .iconst 1), (583, .iadd)]) (jtb_ok (by decide +kernel)) (pc' := 584) (lv' := [(0, vR a0), (1, vR l1), (2, vR l2), (3, vI l3)]) (st' := [vI (l3 + (kI 1)), vR a0, vR l1]) rfl ?_
    refine j_gd (fun h130 => ?_)
    refine j_sld hx hsc (by decide +kernel) h130 ?_
    refine j_gd (fun h131 => ?_)
    refine j_OI (j_callV (av := [vI (sc (ix (l3 + (kI 1))))]) (st := []) hx hr (Or.inl q1924) q1925 q1926 rfl md_fcl_order np_fcl_order (ccl_order l1 (sc (ix (l3 + (kI 1)))) W) (by decide) (Nat.le_of_ble_eq_true rfl) h131 (by decide) (by decide +kernel)) (fun q132 _ => ?_)
    refine j_runA hx 5 (tb := [(588, .aload_n 2), (589, .aload_n 0), (590, .iload_n 3), (591, .iconst 1), (592, .iadd)]) (jtb_ok (by decide +kernel)) (pc' := 593) (lv' := [(0, vR a0), (1, vR l1), (2, vR l2), (3, vI l3)]) (st' := [vI (l3 + (kI 1)), vR a0, vR l2, vI q132]) rfl ?_
    refine j_gd (fun h133 => ?_)
    refine j_sld hx hsc (by decide +kernel) h133 ?_
    refine j_gd (fun h134 => ?_)
    refine j_OI (j_callV (av := [vI (sc (ix (l3 + (kI 1))))]) (st := [vI q132]) hx hr (Or.inl q3296) q3297 q3298 rfl md_fmo_order np_fmo_order (cmo_order l2 (sc (ix (l3 + (kI 1)))) W) (by decide) (Nat.le_of_ble_eq_true rfl) h134 (by decide) (by decide +kernel)) (fun q135 _ => ?_)
    refine j_icmp_eq hx (off := 618) (tgt := 1215) (by decide +kernel) (by decide) (fun _ => ?_) (fun _ => ?_)
    · exact wlw_law_1215 h l1 l2 l3 W
    refine j_runA hx 1 (tb := [(600, .iconst 0)]) (jtb_ok (by decide +kernel)) (pc' := 601) (lv' := [(0, vR a0), (1, vR l1), (2, vR l2), (3, vI l3)]) (st' := [vI (kI 0)]) rfl ?_
    exact j_iret hx hm (by decide +kernel) jz0n (he _)
  refine j_tab hx (dflt := 1182) (lo := 0) (hi := 30) (offs := #[139, 202, 225, 238, 251, 274, 308, 342, 445, 479, 513, 546, 569, 592, 626, 680, 693, 716, 729, 742, 775, 808, 842, 865, 889, 922, 985, 1038, 1092, 1136, 1169]) (len := 139) (k := 12) (off := 569) (tgt := 602) (by decide +kernel) (by decide) (by decide) (by decide) rfl (by decide) (fun _ => ?_) (fun h136 => ?_)
  · refine j_runA hx 5 (tb := [(602, .aload_n 1), (603, .aload_n 0), (604, .iload_n 3), (605, .iconst 1), (606, .iadd)]) (jtb_ok (by decide +kernel)) (pc' := 607) (lv' := [(0, vR a0), (1, vR l1), (2, vR l2), (3, vI l3)]) (st' := [vI (l3 + (kI 1)), vR a0, vR l1]) rfl ?_
    refine j_gd (fun h137 => ?_)
    refine j_sld hx hsc (by decide +kernel) h137 ?_
    refine j_gd (fun h138 => ?_)
    refine j_OI (j_callV (av := [vI (sc (ix (l3 + (kI 1))))]) (st := []) hx hr (Or.inl q1928) q1929 q1930 rfl md_fcl_laid np_fcl_laid (ccl_laid l1 (sc (ix (l3 + (kI 1)))) W) (by decide) (Nat.le_of_ble_eq_true rfl) h138 (by decide) (by decide +kernel)) (fun q139 _ => ?_)
    refine j_runA hx 5 (tb := [(611, .aload_n 2), (612, .aload_n 0), (613, .iload_n 3), (614, .iconst 1), (615, .iadd)]) (jtb_ok (by decide +kernel)) (pc' := 616) (lv' := [(0, vR a0), (1, vR l1), (2, vR l2), (3, vI l3)]) (st' := [vI (l3 + (kI 1)), vR a0, vR l2, vI q139]) rfl ?_
    refine j_gd (fun h140 => ?_)
    refine j_sld hx hsc (by decide +kernel) h140 ?_
    refine j_gd (fun h141 => ?_)
    refine j_OI (j_callV (av := [vI (sc (ix (l3 + (kI 1))))]) (st := [vI q139]) hx hr (Or.inl q3300) q3301 q3302 rfl md_fmo_laid np_fmo_laid (cmo_laid l2 (sc (ix (l3 + (kI 1)))) W) (by decide) (Nat.le_of_ble_eq_true rfl) h141 (by decide) (by decide +kernel)) (fun q142 _ => ?_)
    refine j_icmp_eq hx (off := 595) (tgt := 1215) (by decide +kernel) (by decide) (fun _ => ?_) (fun _ => ?_)
    · exact wlw_law_1215 h l1 l2 l3 W
    refine j_runA hx 1 (tb := [(623, .iconst 0)]) (jtb_ok (by decide +kernel)) (pc' := 624) (lv' := [(0, vR a0), (1, vR l1), (2, vR l2), (3, vI l3)]) (st' := [vI (kI 0)]) rfl ?_
    exact j_iret hx hm (by decide +kernel) jz0n (he _)
  refine j_tab hx (dflt := 1182) (lo := 0) (hi := 30) (offs := #[139, 202, 225, 238, 251, 274, 308, 342, 445, 479, 513, 546, 569, 592, 626, 680, 693, 716, 729, 742, 775, 808, 842, 865, 889, 922, 985, 1038, 1092, 1136, 1169]) (len := 139) (k := 13) (off := 592) (tgt := 625) (by decide +kernel) (by decide) (by decide) (by decide) rfl (by decide) (fun _ => ?_) (fun h143 => ?_)
  · refine j_runA hx 5 (tb := [(625, .aload_n 1), (626, .aload_n 0), (627, .iload_n 3), (628, .iconst 1), (629, .iadd)]) (jtb_ok (by decide +kernel)) (pc' := 630) (lv' := [(0, vR a0), (1, vR l1), (2, vR l2), (3, vI l3)]) (st' := [vI (l3 + (kI 1)), vR a0, vR l1]) rfl ?_
    refine j_gd (fun h144 => ?_)
    refine j_sld hx hsc (by decide +kernel) h144 ?_
    refine j_runA hx 4 (tb := [(631, .aload_n 0), (632, .iload_n 3), (633, .iconst 2), (634, .iadd)]) (jtb_ok (by decide +kernel)) (pc' := 635) (lv' := [(0, vR a0), (1, vR l1), (2, vR l2), (3, vI l3)]) (st' := [vI (l3 + (kI 2)), vR a0, vI (sc (ix (l3 + (kI 1)))), vR l1]) rfl ?_
    refine j_gd (fun h145 => ?_)
    refine j_sld hx hsc (by decide +kernel) h145 ?_
    refine j_gd (fun h146 => ?_)
    refine j_OL (j_callV (av := [vI (sc (ix (l3 + (kI 1)))), vI (sc (ix (l3 + (kI 2))))]) (st := []) hx hr (Or.inl q1932) q1933 q1934 rfl md_fcl_weight np_fcl_weight (ccl_weight l1 (sc (ix (l3 + (kI 1)))) (sc (ix (l3 + (kI 2)))) W) (by decide) (Nat.le_of_ble_eq_true rfl) h146 (by decide) (by decide +kernel)) (fun q147 _ => ?_)
    refine j_runA hx 5 (tb := [(639, .aload_n 2), (640, .aload_n 0), (641, .iload_n 3), (642, .iconst 1), (643, .iadd)]) (jtb_ok (by decide +kernel)) (pc' := 644) (lv' := [(0, vR a0), (1, vR l1), (2, vR l2), (3, vI l3)]) (st' := [vI (l3 + (kI 1)), vR a0, vR l2, vL q147]) rfl ?_
    refine j_gd (fun h148 => ?_)
    refine j_sld hx hsc (by decide +kernel) h148 ?_
    refine j_runA hx 4 (tb := [(645, .aload_n 0), (646, .iload_n 3), (647, .iconst 2), (648, .iadd)]) (jtb_ok (by decide +kernel)) (pc' := 649) (lv' := [(0, vR a0), (1, vR l1), (2, vR l2), (3, vI l3)]) (st' := [vI (l3 + (kI 2)), vR a0, vI (sc (ix (l3 + (kI 1)))), vR l2, vL q147]) rfl ?_
    refine j_gd (fun h149 => ?_)
    refine j_sld hx hsc (by decide +kernel) h149 ?_
    refine j_gd (fun h150 => ?_)
    refine j_OL (j_callV (av := [vI (sc (ix (l3 + (kI 1)))), vI (sc (ix (l3 + (kI 2))))]) (st := [vL q147]) hx hr (Or.inl q3304) q3305 q3306 rfl md_fmo_weight np_fmo_weight (cmo_weight l2 (sc (ix (l3 + (kI 1)))) (sc (ix (l3 + (kI 2)))) W) (by decide) (Nat.le_of_ble_eq_true rfl) h150 (by decide) (by decide +kernel)) (fun q151 _ => ?_)
    refine j_lcmp_eq hx (off := 561) (tgt := 1215) (by decide +kernel) (by decide +kernel) (by decide) (fun _ => ?_) (fun _ => ?_)
    · exact wlw_law_1215 h l1 l2 l3 W
    refine j_runA hx 1 (tb := [(657, .iconst 0)]) (jtb_ok (by decide +kernel)) (pc' := 658) (lv' := [(0, vR a0), (1, vR l1), (2, vR l2), (3, vI l3)]) (st' := [vI (kI 0)]) rfl ?_
    exact j_iret hx hm (by decide +kernel) jz0n (he _)
  refine j_tab hx (dflt := 1182) (lo := 0) (hi := 30) (offs := #[139, 202, 225, 238, 251, 274, 308, 342, 445, 479, 513, 546, 569, 592, 626, 680, 693, 716, 729, 742, 775, 808, 842, 865, 889, 922, 985, 1038, 1092, 1136, 1169]) (len := 139) (k := 14) (off := 626) (tgt := 659) (by decide +kernel) (by decide) (by decide) (by decide) rfl (by decide) (fun _ => ?_) (fun h152 => ?_)
  · refine j_runA hx 5 (tb := [(659, .aload_n 1), (660, .aload_n 0), (661, .iload_n 3), (662, .iconst 1), (663, .iadd)]) (jtb_ok (by decide +kernel)) (pc' := 664) (lv' := [(0, vR a0), (1, vR l1), (2, vR l2), (3, vI l3)]) (st' := [vI (l3 + (kI 1)), vR a0, vR l1]) rfl ?_
    refine j_gd (fun h153 => ?_)
    refine j_sld hx hsc (by decide +kernel) h153 ?_
    refine j_runA hx 7 (tb := [(665, .i2l), (666, .bipush 32), (668, .lshl), (669, .aload_n 0), (670, .iload_n 3), (671, .iconst 2), (672, .iadd)]) (jtb_ok (by decide +kernel)) (pc' := 673) (lv' := [(0, vR a0), (1, vR l1), (2, vR l2), (3, vI l3)]) (st' := [vI (l3 + (kI 2)), vR a0, vL (lxl ((sc (ix (l3 + (kI 1)))).toInt64) (kI 32)), vR l1]) rfl ?_
    refine j_gd (fun h154 => ?_)
    refine j_sld hx hsc (by decide +kernel) h154 ?_
    refine j_runA hx 1 (tb := [(674, .i2l)]) (jtb_ok (by decide +kernel)) (pc' := 675) (lv' := [(0, vR a0), (1, vR l1), (2, vR l2), (3, vI l3)]) (st' := [vL ((sc (ix (l3 + (kI 2)))).toInt64), vL (lxl ((sc (ix (l3 + (kI 1)))).toInt64) (kI 32)), vR l1]) rfl ?_
    refine j_ldc2 hx (v := (kJ 4294967295)) (jkd2 q3610 (by decide +kernel)) (by decide +kernel) ?_
    refine j_runA hx 2 (tb := [(678, .land), (679, .lor)]) (jtb_ok (by decide +kernel)) (pc' := 680) (lv' := [(0, vR a0), (1, vR l1), (2, vR l2), (3, vI l3)]) (st' := [vL ((lxl ((sc (ix (l3 + (kI 1)))).toInt64) (kI 32)) ||| (((sc (ix (l3 + (kI 2)))).toInt64) &&& (kJ 4294967295))), vR l1]) rfl ?_
    refine j_gd (fun h155 => ?_)
    refine j_OL (j_callV (av := [vL ((lxl ((sc (ix (l3 + (kI 1)))).toInt64) (kI 32)) ||| (((sc (ix (l3 + (kI 2)))).toInt64) &&& (kJ 4294967295)))]) (st := []) hx hr (Or.inl q1940) q1941 q1942 rfl md_fcl_moved np_fcl_moved (ccl_moved l1 ((lxl ((sc (ix (l3 + (kI 1)))).toInt64) (kI 32)) ||| (((sc (ix (l3 + (kI 2)))).toInt64) &&& (kJ 4294967295))) W) (by decide) (Nat.le_of_ble_eq_true rfl) h155 (by decide) (by decide +kernel)) (fun q156 _ => ?_)
    refine j_runA hx 5 (tb := [(683, .aload_n 2), (684, .aload_n 0), (685, .iload_n 3), (686, .iconst 1), (687, .iadd)]) (jtb_ok (by decide +kernel)) (pc' := 688) (lv' := [(0, vR a0), (1, vR l1), (2, vR l2), (3, vI l3)]) (st' := [vI (l3 + (kI 1)), vR a0, vR l2, vL q156]) rfl ?_
    refine j_gd (fun h157 => ?_)
    refine j_sld hx hsc (by decide +kernel) h157 ?_
    refine j_runA hx 7 (tb := [(689, .i2l), (690, .bipush 32), (692, .lshl), (693, .aload_n 0), (694, .iload_n 3), (695, .iconst 2), (696, .iadd)]) (jtb_ok (by decide +kernel)) (pc' := 697) (lv' := [(0, vR a0), (1, vR l1), (2, vR l2), (3, vI l3)]) (st' := [vI (l3 + (kI 2)), vR a0, vL (lxl ((sc (ix (l3 + (kI 1)))).toInt64) (kI 32)), vR l2, vL q156]) rfl ?_
    refine j_gd (fun h158 => ?_)
    refine j_sld hx hsc (by decide +kernel) h158 ?_
    refine j_runA hx 1 (tb := [(698, .i2l)]) (jtb_ok (by decide +kernel)) (pc' := 699) (lv' := [(0, vR a0), (1, vR l1), (2, vR l2), (3, vI l3)]) (st' := [vL ((sc (ix (l3 + (kI 2)))).toInt64), vL (lxl ((sc (ix (l3 + (kI 1)))).toInt64) (kI 32)), vR l2, vL q156]) rfl ?_
    refine j_ldc2 hx (v := (kJ 4294967295)) (jkd2 q3610 (by decide +kernel)) (by decide +kernel) ?_
    refine j_runA hx 2 (tb := [(702, .land), (703, .lor)]) (jtb_ok (by decide +kernel)) (pc' := 704) (lv' := [(0, vR a0), (1, vR l1), (2, vR l2), (3, vI l3)]) (st' := [vL ((lxl ((sc (ix (l3 + (kI 1)))).toInt64) (kI 32)) ||| (((sc (ix (l3 + (kI 2)))).toInt64) &&& (kJ 4294967295))), vR l2, vL q156]) rfl ?_
    refine j_gd (fun h159 => ?_)
    refine j_OL (j_callV (av := [vL ((lxl ((sc (ix (l3 + (kI 1)))).toInt64) (kI 32)) ||| (((sc (ix (l3 + (kI 2)))).toInt64) &&& (kJ 4294967295)))]) (st := [vL q156]) hx hr (Or.inl q3308) q3309 q3310 rfl md_fmo_moved np_fmo_moved (cmo_moved l2 ((lxl ((sc (ix (l3 + (kI 1)))).toInt64) (kI 32)) ||| (((sc (ix (l3 + (kI 2)))).toInt64) &&& (kJ 4294967295))) W) (by decide) (Nat.le_of_ble_eq_true rfl) h159 (by decide) (by decide +kernel)) (fun q160 _ => ?_)
    refine j_lcmp_eq hx (off := 507) (tgt := 1215) (by decide +kernel) (by decide +kernel) (by decide) (fun _ => ?_) (fun _ => ?_)
    · exact wlw_law_1215 h l1 l2 l3 W
    refine j_runA hx 1 (tb := [(711, .iconst 0)]) (jtb_ok (by decide +kernel)) (pc' := 712) (lv' := [(0, vR a0), (1, vR l1), (2, vR l2), (3, vI l3)]) (st' := [vI (kI 0)]) rfl ?_
    exact j_iret hx hm (by decide +kernel) jz0n (he _)
  refine j_tab hx (dflt := 1182) (lo := 0) (hi := 30) (offs := #[139, 202, 225, 238, 251, 274, 308, 342, 445, 479, 513, 546, 569, 592, 626, 680, 693, 716, 729, 742, 775, 808, 842, 865, 889, 922, 985, 1038, 1092, 1136, 1169]) (len := 139) (k := 15) (off := 680) (tgt := 713) (by decide +kernel) (by decide) (by decide) (by decide) rfl (by decide) (fun _ => ?_) (fun h161 => ?_)
  · refine j_runA hx 1 (tb := [(713, .aload_n 1)]) (jtb_ok (by decide +kernel)) (pc' := 714) (lv' := [(0, vR a0), (1, vR l1), (2, vR l2), (3, vI l3)]) (st' := [vR l1]) rfl ?_
    refine j_gd (fun h162 => ?_)
    refine j_OI (j_callV (av := []) (st := []) hx hr (Or.inl q1945) q1946 q1947 rfl md_fcl_size np_fcl_size (ccl_size l1 W) (by decide) (Nat.le_of_ble_eq_true rfl) h162 (by decide) (by decide +kernel)) (fun q163 _ => ?_)
    refine j_runA hx 1 (tb := [(717, .aload_n 2)]) (jtb_ok (by decide +kernel)) (pc' := 718) (lv' := [(0, vR a0), (1, vR l1), (2, vR l2), (3, vI l3)]) (st' := [vR l2, vI q163]) rfl ?_
    refine j_gd (fun h164 => ?_)
    refine j_OI (j_callV (av := []) (st := [vI q163]) hx hr (Or.inl q3312) q3313 q3314 rfl md_fmo_size np_fmo_size (cmo_size l2 W) (by decide) (Nat.le_of_ble_eq_true rfl) h164 (by decide) (by decide +kernel)) (fun q165 _ => ?_)
    refine j_icmp_eq hx (off := 494) (tgt := 1215) (by decide +kernel) (by decide) (fun _ => ?_) (fun _ => ?_)
    · exact wlw_law_1215 h l1 l2 l3 W
    refine j_runA hx 1 (tb := [(724, .iconst 0)]) (jtb_ok (by decide +kernel)) (pc' := 725) (lv' := [(0, vR a0), (1, vR l1), (2, vR l2), (3, vI l3)]) (st' := [vI (kI 0)]) rfl ?_
    exact j_iret hx hm (by decide +kernel) jz0n (he _)
  refine j_tab hx (dflt := 1182) (lo := 0) (hi := 30) (offs := #[139, 202, 225, 238, 251, 274, 308, 342, 445, 479, 513, 546, 569, 592, 626, 680, 693, 716, 729, 742, 775, 808, 842, 865, 889, 922, 985, 1038, 1092, 1136, 1169]) (len := 139) (k := 16) (off := 693) (tgt := 726) (by decide +kernel) (by decide) (by decide) (by decide) rfl (by decide) (fun _ => ?_) (fun h166 => ?_)
  · refine j_runA hx 5 (tb := [(726, .aload_n 1), (727, .aload_n 0), (728, .iload_n 3), (729, .iconst 1), (730, .iadd)]) (jtb_ok (by decide +kernel)) (pc' := 731) (lv' := [(0, vR a0), (1, vR l1), (2, vR l2), (3, vI l3)]) (st' := [vI (l3 + (kI 1)), vR a0, vR l1]) rfl ?_
    refine j_gd (fun h167 => ?_)
    refine j_sld hx hsc (by decide +kernel) h167 ?_
    refine j_gd (fun h168 => ?_)
    refine j_OI (j_callV (av := [vI (sc (ix (l3 + (kI 1))))]) (st := []) hx hr (Or.inl q1950) q1951 q1952 rfl md_fcl_out np_fcl_out (ccl_out l1 (sc (ix (l3 + (kI 1)))) W) (by decide) (Nat.le_of_ble_eq_true rfl) h168 (by decide) (by decide +kernel)) (fun q169 _ => ?_)
    refine j_runA hx 5 (tb := [(735, .aload_n 2), (736, .aload_n 0), (737, .iload_n 3), (738, .iconst 1), (739, .iadd)]) (jtb_ok (by decide +kernel)) (pc' := 740) (lv' := [(0, vR a0), (1, vR l1), (2, vR l2), (3, vI l3)]) (st' := [vI (l3 + (kI 1)), vR a0, vR l2, vI q169]) rfl ?_
    refine j_gd (fun h170 => ?_)
    refine j_sld hx hsc (by decide +kernel) h170 ?_
    refine j_gd (fun h171 => ?_)
    refine j_OI (j_callV (av := [vI (sc (ix (l3 + (kI 1))))]) (st := [vI q169]) hx hr (Or.inl q3316) q3317 q3318 rfl md_fmo_out np_fmo_out (cmo_out l2 (sc (ix (l3 + (kI 1)))) W) (by decide) (Nat.le_of_ble_eq_true rfl) h171 (by decide) (by decide +kernel)) (fun q172 _ => ?_)
    refine j_icmp_eq hx (off := 471) (tgt := 1215) (by decide +kernel) (by decide) (fun _ => ?_) (fun _ => ?_)
    · exact wlw_law_1215 h l1 l2 l3 W
    refine j_runA hx 1 (tb := [(747, .iconst 0)]) (jtb_ok (by decide +kernel)) (pc' := 748) (lv' := [(0, vR a0), (1, vR l1), (2, vR l2), (3, vI l3)]) (st' := [vI (kI 0)]) rfl ?_
    exact j_iret hx hm (by decide +kernel) jz0n (he _)
  refine j_tab hx (dflt := 1182) (lo := 0) (hi := 30) (offs := #[139, 202, 225, 238, 251, 274, 308, 342, 445, 479, 513, 546, 569, 592, 626, 680, 693, 716, 729, 742, 775, 808, 842, 865, 889, 922, 985, 1038, 1092, 1136, 1169]) (len := 139) (k := 17) (off := 716) (tgt := 749) (by decide +kernel) (by decide) (by decide) (by decide) rfl (by decide) (fun _ => ?_) (fun h173 => ?_)
  · refine j_runA hx 1 (tb := [(749, .aload_n 1)]) (jtb_ok (by decide +kernel)) (pc' := 750) (lv' := [(0, vR a0), (1, vR l1), (2, vR l2), (3, vI l3)]) (st' := [vR l1]) rfl ?_
    refine j_gd (fun h174 => ?_)
    refine j_WI (j_callV (av := []) (st := []) hx hr (Or.inl q1955) q1956 q1957 rfl md_fcl_check np_fcl_check (ccl_check l1 W) (by decide) (Nat.le_of_ble_eq_true rfl) h174 (by decide) (by decide +kernel)) (fun q175 _ => ?_)
    refine j_runA hx 1 (tb := [(753, .aload_n 2)]) (jtb_ok (by decide +kernel)) (pc' := 754) (lv' := [(0, vR a0), (1, vR l1), (2, vR l2), (3, vI l3)]) (st' := [vR l2, vI q175.1]) rfl ?_
    refine j_gd (fun h177 => ?_)
    refine j_WI (j_callV (av := []) (st := [vI q175.1]) hx hr (Or.inl q3320) q3321 q3322 rfl md_fmo_check np_fmo_check (cmo_check l2 q175.2) (by decide) (Nat.le_of_ble_eq_true rfl) h177 (by decide) (by decide +kernel)) (fun q178 _ => ?_)
    refine j_icmp_eq hx (off := 458) (tgt := 1215) (by decide +kernel) (by decide) (fun _ => ?_) (fun _ => ?_)
    · exact wlw_law_1215 h l1 l2 l3 q178.2
    refine j_runA hx 1 (tb := [(760, .iconst 0)]) (jtb_ok (by decide +kernel)) (pc' := 761) (lv' := [(0, vR a0), (1, vR l1), (2, vR l2), (3, vI l3)]) (st' := [vI (kI 0)]) rfl ?_
    exact j_iret hx hm (by decide +kernel) jz0n (he _)
  refine j_tab hx (dflt := 1182) (lo := 0) (hi := 30) (offs := #[139, 202, 225, 238, 251, 274, 308, 342, 445, 479, 513, 546, 569, 592, 626, 680, 693, 716, 729, 742, 775, 808, 842, 865, 889, 922, 985, 1038, 1092, 1136, 1169]) (len := 139) (k := 18) (off := 729) (tgt := 762) (by decide +kernel) (by decide) (by decide) (by decide) rfl (by decide) (fun _ => ?_) (fun h180 => ?_)
  · refine j_runA hx 1 (tb := [(762, .aload_n 1)]) (jtb_ok (by decide +kernel)) (pc' := 763) (lv' := [(0, vR a0), (1, vR l1), (2, vR l2), (3, vI l3)]) (st' := [vR l1]) rfl ?_
    refine j_gd (fun h181 => ?_)
    refine j_WI (j_callV (av := []) (st := []) hx hr (Or.inl q1960) q1961 q1962 rfl md_fcl_same np_fcl_same (ccl_same l1 W) (by decide) (Nat.le_of_ble_eq_true rfl) h181 (by decide) (by decide +kernel)) (fun q182 _ => ?_)
    refine j_runA hx 1 (tb := [(766, .aload_n 2)]) (jtb_ok (by decide +kernel)) (pc' := 767) (lv' := [(0, vR a0), (1, vR l1), (2, vR l2), (3, vI l3)]) (st' := [vR l2, vI q182.1]) rfl ?_
    refine j_gd (fun h184 => ?_)
    refine j_WI (j_callV (av := []) (st := [vI q182.1]) hx hr (Or.inl q3134) q3135 q3136 rfl md_fmo_same np_fmo_same (cmo_same l2 q182.2) (by decide) (Nat.le_of_ble_eq_true rfl) h184 (by decide) (by decide +kernel)) (fun q185 _ => ?_)
    refine j_icmp_eq hx (off := 445) (tgt := 1215) (by decide +kernel) (by decide) (fun _ => ?_) (fun _ => ?_)
    · exact wlw_law_1215 h l1 l2 l3 q185.2
    refine j_runA hx 1 (tb := [(773, .iconst 0)]) (jtb_ok (by decide +kernel)) (pc' := 774) (lv' := [(0, vR a0), (1, vR l1), (2, vR l2), (3, vI l3)]) (st' := [vI (kI 0)]) rfl ?_
    exact j_iret hx hm (by decide +kernel) jz0n (he _)
  refine j_tab hx (dflt := 1182) (lo := 0) (hi := 30) (offs := #[139, 202, 225, 238, 251, 274, 308, 342, 445, 479, 513, 546, 569, 592, 626, 680, 693, 716, 729, 742, 775, 808, 842, 865, 889, 922, 985, 1038, 1092, 1136, 1169]) (len := 139) (k := 19) (off := 742) (tgt := 775) (by decide +kernel) (by decide) (by decide) (by decide) rfl (by decide) (fun _ => ?_) (fun h187 => ?_)
  · refine j_runA hx 5 (tb := [(775, .aload_n 1), (776, .aload_n 0), (777, .iload_n 3), (778, .iconst 1), (779, .iadd)]) (jtb_ok (by decide +kernel)) (pc' := 780) (lv' := [(0, vR a0), (1, vR l1), (2, vR l2), (3, vI l3)]) (st' := [vI (l3 + (kI 1)), vR a0, vR l1]) rfl ?_
    refine j_gd (fun h188 => ?_)
    refine j_sld hx hsc (by decide +kernel) h188 ?_
    refine j_runA hx 4 (tb := [(781, .aload_n 0), (782, .iload_n 3), (783, .iconst 2), (784, .iadd)]) (jtb_ok (by decide +kernel)) (pc' := 785) (lv' := [(0, vR a0), (1, vR l1), (2, vR l2), (3, vI l3)]) (st' := [vI (l3 + (kI 2)), vR a0, vI (sc (ix (l3 + (kI 1)))), vR l1]) rfl ?_
    refine j_gd (fun h189 => ?_)
    refine j_sld hx hsc (by decide +kernel) h189 ?_
    refine j_gd (fun h190 => ?_)
    refine j_WI (j_callV (av := [vI (sc (ix (l3 + (kI 1)))), vI (sc (ix (l3 + (kI 2))))]) (st := []) hx hr (Or.inl q1969) q1970 q1971 rfl md_fcl_run np_fcl_run (ccl_run l1 (sc (ix (l3 + (kI 1)))) (sc (ix (l3 + (kI 2)))) W) (by decide) (Nat.le_of_ble_eq_true rfl) h190 (by decide) (by decide +kernel)) (fun q191 _ => ?_)
    refine j_runA hx 5 (tb := [(789, .aload_n 2), (790, .aload_n 0), (791, .iload_n 3), (792, .iconst 1), (793, .iadd)]) (jtb_ok (by decide +kernel)) (pc' := 794) (lv' := [(0, vR a0), (1, vR l1), (2, vR l2), (3, vI l3)]) (st' := [vI (l3 + (kI 1)), vR a0, vR l2, vI q191.1]) rfl ?_
    refine j_gd (fun h193 => ?_)
    refine j_sld hx hsc (by decide +kernel) h193 ?_
    refine j_runA hx 4 (tb := [(795, .aload_n 0), (796, .iload_n 3), (797, .iconst 2), (798, .iadd)]) (jtb_ok (by decide +kernel)) (pc' := 799) (lv' := [(0, vR a0), (1, vR l1), (2, vR l2), (3, vI l3)]) (st' := [vI (l3 + (kI 2)), vR a0, vI (sc (ix (l3 + (kI 1)))), vR l2, vI q191.1]) rfl ?_
    refine j_gd (fun h194 => ?_)
    refine j_sld hx hsc (by decide +kernel) h194 ?_
    refine j_gd (fun h195 => ?_)
    refine j_WI (j_callV (av := [vI (sc (ix (l3 + (kI 1)))), vI (sc (ix (l3 + (kI 2))))]) (st := [vI q191.1]) hx hr (Or.inl q3328) q3329 q3330 rfl md_fmo_run np_fmo_run (cmo_run l2 (sc (ix (l3 + (kI 1)))) (sc (ix (l3 + (kI 2)))) q191.2) (by decide) (Nat.le_of_ble_eq_true rfl) h195 (by decide) (by decide +kernel)) (fun q196 _ => ?_)
    refine j_icmp_eq hx (off := 412) (tgt := 1215) (by decide +kernel) (by decide) (fun _ => ?_) (fun _ => ?_)
    · exact wlw_law_1215 h l1 l2 l3 q196.2
    refine j_runA hx 1 (tb := [(806, .iconst 0)]) (jtb_ok (by decide +kernel)) (pc' := 807) (lv' := [(0, vR a0), (1, vR l1), (2, vR l2), (3, vI l3)]) (st' := [vI (kI 0)]) rfl ?_
    exact j_iret hx hm (by decide +kernel) jz0n (he _)
  refine j_tab hx (dflt := 1182) (lo := 0) (hi := 30) (offs := #[139, 202, 225, 238, 251, 274, 308, 342, 445, 479, 513, 546, 569, 592, 626, 680, 693, 716, 729, 742, 775, 808, 842, 865, 889, 922, 985, 1038, 1092, 1136, 1169]) (len := 139) (k := 20) (off := 775) (tgt := 808) (by decide +kernel) (by decide) (by decide) (by decide) rfl (by decide) (fun _ => ?_) (fun h198 => ?_)
  · refine j_runA hx 5 (tb := [(808, .aload_n 1), (809, .aload_n 0), (810, .iload_n 3), (811, .iconst 1), (812, .iadd)]) (jtb_ok (by decide +kernel)) (pc' := 813) (lv' := [(0, vR a0), (1, vR l1), (2, vR l2), (3, vI l3)]) (st' := [vI (l3 + (kI 1)), vR a0, vR l1]) rfl ?_
    refine j_gd (fun h199 => ?_)
    refine j_sld hx hsc (by decide +kernel) h199 ?_
    refine j_runA hx 4 (tb := [(814, .aload_n 0), (815, .iload_n 3), (816, .iconst 2), (817, .iadd)]) (jtb_ok (by decide +kernel)) (pc' := 818) (lv' := [(0, vR a0), (1, vR l1), (2, vR l2), (3, vI l3)]) (st' := [vI (l3 + (kI 2)), vR a0, vI (sc (ix (l3 + (kI 1)))), vR l1]) rfl ?_
    refine j_gd (fun h200 => ?_)
    refine j_sld hx hsc (by decide +kernel) h200 ?_
    refine j_gd (fun h201 => ?_)
    refine j_OI (j_callV (av := [vI (sc (ix (l3 + (kI 1)))), vI (sc (ix (l3 + (kI 2))))]) (st := []) hx hr (Or.inl q2262) q2263 q2264 rfl md_fcl_told np_fcl_told (ccl_told l1 (sc (ix (l3 + (kI 1)))) (sc (ix (l3 + (kI 2)))) W) (by decide) (Nat.le_of_ble_eq_true rfl) h201 (by decide) (by decide +kernel)) (fun q202 _ => ?_)
    refine j_runA hx 5 (tb := [(822, .aload_n 2), (823, .aload_n 0), (824, .iload_n 3), (825, .iconst 1), (826, .iadd)]) (jtb_ok (by decide +kernel)) (pc' := 827) (lv' := [(0, vR a0), (1, vR l1), (2, vR l2), (3, vI l3)]) (st' := [vI (l3 + (kI 1)), vR a0, vR l2, vI q202]) rfl ?_
    refine j_gd (fun h203 => ?_)
    refine j_sld hx hsc (by decide +kernel) h203 ?_
    refine j_runA hx 4 (tb := [(828, .aload_n 0), (829, .iload_n 3), (830, .iconst 2), (831, .iadd)]) (jtb_ok (by decide +kernel)) (pc' := 832) (lv' := [(0, vR a0), (1, vR l1), (2, vR l2), (3, vI l3)]) (st' := [vI (l3 + (kI 2)), vR a0, vI (sc (ix (l3 + (kI 1)))), vR l2, vI q202]) rfl ?_
    refine j_gd (fun h204 => ?_)
    refine j_sld hx hsc (by decide +kernel) h204 ?_
    refine j_gd (fun h205 => ?_)
    refine j_OI (j_callV (av := [vI (sc (ix (l3 + (kI 1)))), vI (sc (ix (l3 + (kI 2))))]) (st := [vI q202]) hx hr (Or.inl q3559) q3560 q3561 rfl md_fmo_told np_fmo_told (cmo_told l2 (sc (ix (l3 + (kI 1)))) (sc (ix (l3 + (kI 2)))) W) (by decide) (Nat.le_of_ble_eq_true rfl) h205 (by decide) (by decide +kernel)) (fun q206 _ => ?_)
    refine j_icmp_eq hx (off := 379) (tgt := 1215) (by decide +kernel) (by decide) (fun _ => ?_) (fun _ => ?_)
    · exact wlw_law_1215 h l1 l2 l3 W
    refine j_runA hx 1 (tb := [(839, .iconst 0)]) (jtb_ok (by decide +kernel)) (pc' := 840) (lv' := [(0, vR a0), (1, vR l1), (2, vR l2), (3, vI l3)]) (st' := [vI (kI 0)]) rfl ?_
    exact j_iret hx hm (by decide +kernel) jz0n (he _)
  refine j_tab hx (dflt := 1182) (lo := 0) (hi := 30) (offs := #[139, 202, 225, 238, 251, 274, 308, 342, 445, 479, 513, 546, 569, 592, 626, 680, 693, 716, 729, 742, 775, 808, 842, 865, 889, 922, 985, 1038, 1092, 1136, 1169]) (len := 139) (k := 21) (off := 808) (tgt := 841) (by decide +kernel) (by decide) (by decide) (by decide) rfl (by decide) (fun _ => ?_) (fun h207 => ?_)
  · refine j_runA hx 5 (tb := [(841, .aload_n 1), (842, .aload_n 0), (843, .iload_n 3), (844, .iconst 1), (845, .iadd)]) (jtb_ok (by decide +kernel)) (pc' := 846) (lv' := [(0, vR a0), (1, vR l1), (2, vR l2), (3, vI l3)]) (st' := [vI (l3 + (kI 1)), vR a0, vR l1]) rfl ?_
    refine j_gd (fun h208 => ?_)
    refine j_sld hx hsc (by decide +kernel) h208 ?_
    refine j_runA hx 4 (tb := [(847, .aload_n 0), (848, .iload_n 3), (849, .iconst 2), (850, .iadd)]) (jtb_ok (by decide +kernel)) (pc' := 851) (lv' := [(0, vR a0), (1, vR l1), (2, vR l2), (3, vI l3)]) (st' := [vI (l3 + (kI 2)), vR a0, vI (sc (ix (l3 + (kI 1)))), vR l1]) rfl ?_
    refine j_gd (fun h209 => ?_)
    refine j_sld hx hsc (by decide +kernel) h209 ?_
    refine j_gd (fun h210 => ?_)
    refine j_OL (j_callV (av := [vI (sc (ix (l3 + (kI 1)))), vI (sc (ix (l3 + (kI 2))))]) (st := []) hx hr (Or.inl q2270) q2271 q2272 rfl md_fcl_register np_fcl_register (ccl_register l1 (sc (ix (l3 + (kI 1)))) (sc (ix (l3 + (kI 2)))) W) (by decide) (Nat.le_of_ble_eq_true rfl) h210 (by decide) (by decide +kernel)) (fun q211 _ => ?_)
    refine j_runA hx 5 (tb := [(855, .aload_n 2), (856, .aload_n 0), (857, .iload_n 3), (858, .iconst 1), (859, .iadd)]) (jtb_ok (by decide +kernel)) (pc' := 860) (lv' := [(0, vR a0), (1, vR l1), (2, vR l2), (3, vI l3)]) (st' := [vI (l3 + (kI 1)), vR a0, vR l2, vL q211]) rfl ?_
    refine j_gd (fun h212 => ?_)
    refine j_sld hx hsc (by decide +kernel) h212 ?_
    refine j_runA hx 4 (tb := [(861, .aload_n 0), (862, .iload_n 3), (863, .iconst 2), (864, .iadd)]) (jtb_ok (by decide +kernel)) (pc' := 865) (lv' := [(0, vR a0), (1, vR l1), (2, vR l2), (3, vI l3)]) (st' := [vI (l3 + (kI 2)), vR a0, vI (sc (ix (l3 + (kI 1)))), vR l2, vL q211]) rfl ?_
    refine j_gd (fun h213 => ?_)
    refine j_sld hx hsc (by decide +kernel) h213 ?_
    refine j_gd (fun h214 => ?_)
    refine j_OL (j_callV (av := [vI (sc (ix (l3 + (kI 1)))), vI (sc (ix (l3 + (kI 2))))]) (st := [vL q211]) hx hr (Or.inl q3567) q3568 q3569 rfl md_fmo_register np_fmo_register (cmo_register l2 (sc (ix (l3 + (kI 1)))) (sc (ix (l3 + (kI 2)))) W) (by decide) (Nat.le_of_ble_eq_true rfl) h214 (by decide) (by decide +kernel)) (fun q215 _ => ?_)
    refine j_lcmp_eq hx (off := 345) (tgt := 1215) (by decide +kernel) (by decide +kernel) (by decide) (fun _ => ?_) (fun _ => ?_)
    · exact wlw_law_1215 h l1 l2 l3 W
    refine j_runA hx 1 (tb := [(873, .iconst 0)]) (jtb_ok (by decide +kernel)) (pc' := 874) (lv' := [(0, vR a0), (1, vR l1), (2, vR l2), (3, vI l3)]) (st' := [vI (kI 0)]) rfl ?_
    exact j_iret hx hm (by decide +kernel) jz0n (he _)
  refine j_tab hx (dflt := 1182) (lo := 0) (hi := 30) (offs := #[139, 202, 225, 238, 251, 274, 308, 342, 445, 479, 513, 546, 569, 592, 626, 680, 693, 716, 729, 742, 775, 808, 842, 865, 889, 922, 985, 1038, 1092, 1136, 1169]) (len := 139) (k := 22) (off := 842) (tgt := 875) (by decide +kernel) (by decide) (by decide) (by decide) rfl (by decide) (fun _ => ?_) (fun h216 => ?_)
  · refine j_runA hx 5 (tb := [(875, .aload_n 1), (876, .aload_n 0), (877, .iload_n 3), (878, .iconst 1), (879, .iadd)]) (jtb_ok (by decide +kernel)) (pc' := 880) (lv' := [(0, vR a0), (1, vR l1), (2, vR l2), (3, vI l3)]) (st' := [vI (l3 + (kI 1)), vR a0, vR l1]) rfl ?_
    refine j_gd (fun h217 => ?_)
    refine j_sld hx hsc (by decide +kernel) h217 ?_
    refine j_gd (fun h218 => ?_)
    refine j_OI (j_callV (av := [vI (sc (ix (l3 + (kI 1))))]) (st := []) hx hr (Or.inl q2278) q2279 q2280 rfl md_fcl_kind np_fcl_kind (ccl_kind l1 (sc (ix (l3 + (kI 1)))) W) (by decide) (Nat.le_of_ble_eq_true rfl) h218 (by decide) (by decide +kernel)) (fun q219 _ => ?_)
    refine j_runA hx 5 (tb := [(884, .aload_n 2), (885, .aload_n 0), (886, .iload_n 3), (887, .iconst 1), (888, .iadd)]) (jtb_ok (by decide +kernel)) (pc' := 889) (lv' := [(0, vR a0), (1, vR l1), (2, vR l2), (3, vI l3)]) (st' := [vI (l3 + (kI 1)), vR a0, vR l2, vI q219]) rfl ?_
    refine j_gd (fun h220 => ?_)
    refine j_sld hx hsc (by decide +kernel) h220 ?_
    refine j_gd (fun h221 => ?_)
    refine j_OI (j_callV (av := [vI (sc (ix (l3 + (kI 1))))]) (st := [vI q219]) hx hr (Or.inl q3571) q3572 q3573 rfl md_fmo_kind np_fmo_kind (cmo_kind l2 (sc (ix (l3 + (kI 1)))) W) (by decide) (Nat.le_of_ble_eq_true rfl) h221 (by decide) (by decide +kernel)) (fun q222 _ => ?_)
    refine j_icmp_eq hx (off := 322) (tgt := 1215) (by decide +kernel) (by decide) (fun _ => ?_) (fun _ => ?_)
    · exact wlw_law_1215 h l1 l2 l3 W
    refine j_runA hx 1 (tb := [(896, .iconst 0)]) (jtb_ok (by decide +kernel)) (pc' := 897) (lv' := [(0, vR a0), (1, vR l1), (2, vR l2), (3, vI l3)]) (st' := [vI (kI 0)]) rfl ?_
    exact j_iret hx hm (by decide +kernel) jz0n (he _)
  refine j_tab hx (dflt := 1182) (lo := 0) (hi := 30) (offs := #[139, 202, 225, 238, 251, 274, 308, 342, 445, 479, 513, 546, 569, 592, 626, 680, 693, 716, 729, 742, 775, 808, 842, 865, 889, 922, 985, 1038, 1092, 1136, 1169]) (len := 139) (k := 23) (off := 865) (tgt := 898) (by decide +kernel) (by decide) (by decide) (by decide) rfl (by decide) (fun _ => ?_) (fun h223 => ?_)
  · refine j_runA hx 5 (tb := [(898, .aload_n 1), (899, .aload_n 0), (900, .iload_n 3), (901, .iconst 1), (902, .iadd)]) (jtb_ok (by decide +kernel)) (pc' := 903) (lv' := [(0, vR a0), (1, vR l1), (2, vR l2), (3, vI l3)]) (st' := [vI (l3 + (kI 1)), vR a0, vR l1]) rfl ?_
    refine j_gd (fun h224 => ?_)
    refine j_sld hx hsc (by decide +kernel) h224 ?_
    refine j_gd (fun h225 => ?_)
    refine j_OL (j_callV (av := [vI (sc (ix (l3 + (kI 1))))]) (st := []) hx hr (Or.inl q2282) q2283 q2284 rfl md_fcl_newer np_fcl_newer (ccl_newer l1 (sc (ix (l3 + (kI 1)))) W) (by decide) (Nat.le_of_ble_eq_true rfl) h225 (by decide) (by decide +kernel)) (fun q226 _ => ?_)
    refine j_runA hx 5 (tb := [(907, .aload_n 2), (908, .aload_n 0), (909, .iload_n 3), (910, .iconst 1), (911, .iadd)]) (jtb_ok (by decide +kernel)) (pc' := 912) (lv' := [(0, vR a0), (1, vR l1), (2, vR l2), (3, vI l3)]) (st' := [vI (l3 + (kI 1)), vR a0, vR l2, vL q226]) rfl ?_
    refine j_gd (fun h227 => ?_)
    refine j_sld hx hsc (by decide +kernel) h227 ?_
    refine j_gd (fun h228 => ?_)
    refine j_OL (j_callV (av := [vI (sc (ix (l3 + (kI 1))))]) (st := [vL q226]) hx hr (Or.inl q3575) q3576 q3577 rfl md_fmo_newer np_fmo_newer (cmo_newer l2 (sc (ix (l3 + (kI 1)))) W) (by decide) (Nat.le_of_ble_eq_true rfl) h228 (by decide) (by decide +kernel)) (fun q229 _ => ?_)
    refine j_lcmp_eq hx (off := 298) (tgt := 1215) (by decide +kernel) (by decide +kernel) (by decide) (fun _ => ?_) (fun _ => ?_)
    · exact wlw_law_1215 h l1 l2 l3 W
    refine j_runA hx 1 (tb := [(920, .iconst 0)]) (jtb_ok (by decide +kernel)) (pc' := 921) (lv' := [(0, vR a0), (1, vR l1), (2, vR l2), (3, vI l3)]) (st' := [vI (kI 0)]) rfl ?_
    exact j_iret hx hm (by decide +kernel) jz0n (he _)
  refine j_tab hx (dflt := 1182) (lo := 0) (hi := 30) (offs := #[139, 202, 225, 238, 251, 274, 308, 342, 445, 479, 513, 546, 569, 592, 626, 680, 693, 716, 729, 742, 775, 808, 842, 865, 889, 922, 985, 1038, 1092, 1136, 1169]) (len := 139) (k := 24) (off := 889) (tgt := 922) (by decide +kernel) (by decide) (by decide) (by decide) rfl (by decide) (fun _ => ?_) (fun h230 => ?_)
  · refine j_runA hx 5 (tb := [(922, .aload_n 1), (923, .aload_n 0), (924, .iload_n 3), (925, .iconst 1), (926, .iadd)]) (jtb_ok (by decide +kernel)) (pc' := 927) (lv' := [(0, vR a0), (1, vR l1), (2, vR l2), (3, vI l3)]) (st' := [vI (l3 + (kI 1)), vR a0, vR l1]) rfl ?_
    refine j_gd (fun h231 => ?_)
    refine j_sld hx hsc (by decide +kernel) h231 ?_
    refine j_runA hx 4 (tb := [(928, .aload_n 0), (929, .iload_n 3), (930, .iconst 2), (931, .iadd)]) (jtb_ok (by decide +kernel)) (pc' := 932) (lv' := [(0, vR a0), (1, vR l1), (2, vR l2), (3, vI l3)]) (st' := [vI (l3 + (kI 2)), vR a0, vI (sc (ix (l3 + (kI 1)))), vR l1]) rfl ?_
    refine j_gd (fun h232 => ?_)
    refine j_sld hx hsc (by decide +kernel) h232 ?_
    refine j_gd (fun h233 => ?_)
    refine j_OI (j_callV (av := [vI (sc (ix (l3 + (kI 1)))), vI (sc (ix (l3 + (kI 2))))]) (st := []) hx hr (Or.inl q2292) q2293 q2294 rfl md_fcl_visit np_fcl_visit (ccl_visit l1 (sc (ix (l3 + (kI 1)))) (sc (ix (l3 + (kI 2)))) W) (by decide) (Nat.le_of_ble_eq_true rfl) h233 (by decide) (by decide +kernel)) (fun q234 _ => ?_)
    refine j_runA hx 5 (tb := [(936, .aload_n 2), (937, .aload_n 0), (938, .iload_n 3), (939, .iconst 1), (940, .iadd)]) (jtb_ok (by decide +kernel)) (pc' := 941) (lv' := [(0, vR a0), (1, vR l1), (2, vR l2), (3, vI l3)]) (st' := [vI (l3 + (kI 1)), vR a0, vR l2, vI q234]) rfl ?_
    refine j_gd (fun h235 => ?_)
    refine j_sld hx hsc (by decide +kernel) h235 ?_
    refine j_runA hx 4 (tb := [(942, .aload_n 0), (943, .iload_n 3), (944, .iconst 2), (945, .iadd)]) (jtb_ok (by decide +kernel)) (pc' := 946) (lv' := [(0, vR a0), (1, vR l1), (2, vR l2), (3, vI l3)]) (st' := [vI (l3 + (kI 2)), vR a0, vI (sc (ix (l3 + (kI 1)))), vR l2, vI q234]) rfl ?_
    refine j_gd (fun h236 => ?_)
    refine j_sld hx hsc (by decide +kernel) h236 ?_
    refine j_gd (fun h237 => ?_)
    refine j_OI (j_callV (av := [vI (sc (ix (l3 + (kI 1)))), vI (sc (ix (l3 + (kI 2))))]) (st := [vI q234]) hx hr (Or.inl q3583) q3584 q3585 rfl md_fmo_visit np_fmo_visit (cmo_visit l2 (sc (ix (l3 + (kI 1)))) (sc (ix (l3 + (kI 2)))) W) (by decide) (Nat.le_of_ble_eq_true rfl) h237 (by decide) (by decide +kernel)) (fun q238 _ => ?_)
    refine j_icmp_eq hx (off := 265) (tgt := 1215) (by decide +kernel) (by decide) (fun _ => ?_) (fun _ => ?_)
    · exact wlw_law_1215 h l1 l2 l3 W
    refine j_runA hx 1 (tb := [(953, .iconst 0)]) (jtb_ok (by decide +kernel)) (pc' := 954) (lv' := [(0, vR a0), (1, vR l1), (2, vR l2), (3, vI l3)]) (st' := [vI (kI 0)]) rfl ?_
    exact j_iret hx hm (by decide +kernel) jz0n (he _)
  refine j_tab hx (dflt := 1182) (lo := 0) (hi := 30) (offs := #[139, 202, 225, 238, 251, 274, 308, 342, 445, 479, 513, 546, 569, 592, 626, 680, 693, 716, 729, 742, 775, 808, 842, 865, 889, 922, 985, 1038, 1092, 1136, 1169]) (len := 139) (k := 25) (off := 922) (tgt := 955) (by decide +kernel) (by decide) (by decide) (by decide) rfl (by decide) (fun _ => ?_) (fun h239 => ?_)
  · refine j_runA hx 5 (tb := [(955, .aload_n 1), (956, .aload_n 0), (957, .iload_n 3), (958, .iconst 1), (959, .iadd)]) (jtb_ok (by decide +kernel)) (pc' := 960) (lv' := [(0, vR a0), (1, vR l1), (2, vR l2), (3, vI l3)]) (st' := [vI (l3 + (kI 1)), vR a0, vR l1]) rfl ?_
    refine j_gd (fun h240 => ?_)
    refine j_sld hx hsc (by decide +kernel) h240 ?_
    refine j_runA hx 4 (tb := [(961, .aload_n 0), (962, .iload_n 3), (963, .iconst 2), (964, .iadd)]) (jtb_ok (by decide +kernel)) (pc' := 965) (lv' := [(0, vR a0), (1, vR l1), (2, vR l2), (3, vI l3)]) (st' := [vI (l3 + (kI 2)), vR a0, vI (sc (ix (l3 + (kI 1)))), vR l1]) rfl ?_
    refine j_gd (fun h241 => ?_)
    refine j_sld hx hsc (by decide +kernel) h241 ?_
    refine j_runA hx 7 (tb := [(966, .i2l), (967, .bipush 32), (969, .lshl), (970, .aload_n 0), (971, .iload_n 3), (972, .iconst 3), (973, .iadd)]) (jtb_ok (by decide +kernel)) (pc' := 974) (lv' := [(0, vR a0), (1, vR l1), (2, vR l2), (3, vI l3)]) (st' := [vI (l3 + (kI 3)), vR a0, vL (lxl ((sc (ix (l3 + (kI 2)))).toInt64) (kI 32)), vI (sc (ix (l3 + (kI 1)))), vR l1]) rfl ?_
    refine j_gd (fun h242 => ?_)
    refine j_sld hx hsc (by decide +kernel) h242 ?_
    refine j_runA hx 1 (tb := [(975, .i2l)]) (jtb_ok (by decide +kernel)) (pc' := 976) (lv' := [(0, vR a0), (1, vR l1), (2, vR l2), (3, vI l3)]) (st' := [vL ((sc (ix (l3 + (kI 3)))).toInt64), vL (lxl ((sc (ix (l3 + (kI 2)))).toInt64) (kI 32)), vI (sc (ix (l3 + (kI 1)))), vR l1]) rfl ?_
    refine j_ldc2 hx (v := (kJ 4294967295)) (jkd2 q3610 (by decide +kernel)) (by decide +kernel) ?_
    refine j_runA hx 2 (tb := [(979, .land), (980, .lor)]) (jtb_ok (by decide +kernel)) (pc' := 981) (lv' := [(0, vR a0), (1, vR l1), (2, vR l2), (3, vI l3)]) (st' := [vL ((lxl ((sc (ix (l3 + (kI 2)))).toInt64) (kI 32)) ||| (((sc (ix (l3 + (kI 3)))).toInt64) &&& (kJ 4294967295))), vI (sc (ix (l3 + (kI 1)))), vR l1]) rfl ?_
    refine j_gd (fun h243 => ?_)
    refine j_OI (j_callV (av := [vI (sc (ix (l3 + (kI 1)))), vL ((lxl ((sc (ix (l3 + (kI 2)))).toInt64) (kI 32)) ||| (((sc (ix (l3 + (kI 3)))).toInt64) &&& (kJ 4294967295)))]) (st := []) hx hr (Or.inl q2296) q2297 q2298 rfl md_fcl_memory np_fcl_memory (ccl_memory l1 (sc (ix (l3 + (kI 1)))) ((lxl ((sc (ix (l3 + (kI 2)))).toInt64) (kI 32)) ||| (((sc (ix (l3 + (kI 3)))).toInt64) &&& (kJ 4294967295))) W) (by decide) (Nat.le_of_ble_eq_true rfl) h243 (by decide) (by decide +kernel)) (fun q244 _ => ?_)
    refine j_runA hx 5 (tb := [(984, .aload_n 2), (985, .aload_n 0), (986, .iload_n 3), (987, .iconst 1), (988, .iadd)]) (jtb_ok (by decide +kernel)) (pc' := 989) (lv' := [(0, vR a0), (1, vR l1), (2, vR l2), (3, vI l3)]) (st' := [vI (l3 + (kI 1)), vR a0, vR l2, vI q244]) rfl ?_
    refine j_gd (fun h245 => ?_)
    refine j_sld hx hsc (by decide +kernel) h245 ?_
    refine j_runA hx 4 (tb := [(990, .aload_n 0), (991, .iload_n 3), (992, .iconst 2), (993, .iadd)]) (jtb_ok (by decide +kernel)) (pc' := 994) (lv' := [(0, vR a0), (1, vR l1), (2, vR l2), (3, vI l3)]) (st' := [vI (l3 + (kI 2)), vR a0, vI (sc (ix (l3 + (kI 1)))), vR l2, vI q244]) rfl ?_
    refine j_gd (fun h246 => ?_)
    refine j_sld hx hsc (by decide +kernel) h246 ?_
    refine j_runA hx 7 (tb := [(995, .i2l), (996, .bipush 32), (998, .lshl), (999, .aload_n 0), (1000, .iload_n 3), (1001, .iconst 3), (1002, .iadd)]) (jtb_ok (by decide +kernel)) (pc' := 1003) (lv' := [(0, vR a0), (1, vR l1), (2, vR l2), (3, vI l3)]) (st' := [vI (l3 + (kI 3)), vR a0, vL (lxl ((sc (ix (l3 + (kI 2)))).toInt64) (kI 32)), vI (sc (ix (l3 + (kI 1)))), vR l2, vI q244]) rfl ?_
    refine j_gd (fun h247 => ?_)
    refine j_sld hx hsc (by decide +kernel) h247 ?_
    refine j_runA hx 1 (tb := [(1004, .i2l)]) (jtb_ok (by decide +kernel)) (pc' := 1005) (lv' := [(0, vR a0), (1, vR l1), (2, vR l2), (3, vI l3)]) (st' := [vL ((sc (ix (l3 + (kI 3)))).toInt64), vL (lxl ((sc (ix (l3 + (kI 2)))).toInt64) (kI 32)), vI (sc (ix (l3 + (kI 1)))), vR l2, vI q244]) rfl ?_
    refine j_ldc2 hx (v := (kJ 4294967295)) (jkd2 q3610 (by decide +kernel)) (by decide +kernel) ?_
    refine j_runA hx 2 (tb := [(1008, .land), (1009, .lor)]) (jtb_ok (by decide +kernel)) (pc' := 1010) (lv' := [(0, vR a0), (1, vR l1), (2, vR l2), (3, vI l3)]) (st' := [vL ((lxl ((sc (ix (l3 + (kI 2)))).toInt64) (kI 32)) ||| (((sc (ix (l3 + (kI 3)))).toInt64) &&& (kJ 4294967295))), vI (sc (ix (l3 + (kI 1)))), vR l2, vI q244]) rfl ?_
    refine j_gd (fun h248 => ?_)
    refine j_OI (j_callV (av := [vI (sc (ix (l3 + (kI 1)))), vL ((lxl ((sc (ix (l3 + (kI 2)))).toInt64) (kI 32)) ||| (((sc (ix (l3 + (kI 3)))).toInt64) &&& (kJ 4294967295)))]) (st := [vI q244]) hx hr (Or.inl q3587) q3588 q3589 rfl md_fmo_memory np_fmo_memory (cmo_memory l2 (sc (ix (l3 + (kI 1)))) ((lxl ((sc (ix (l3 + (kI 2)))).toInt64) (kI 32)) ||| (((sc (ix (l3 + (kI 3)))).toInt64) &&& (kJ 4294967295))) W) (by decide) (Nat.le_of_ble_eq_true rfl) h248 (by decide) (by decide +kernel)) (fun q249 _ => ?_)
    refine j_icmp_eq hx (off := 202) (tgt := 1215) (by decide +kernel) (by decide) (fun _ => ?_) (fun _ => ?_)
    · exact wlw_law_1215 h l1 l2 l3 W
    refine j_runA hx 1 (tb := [(1016, .iconst 0)]) (jtb_ok (by decide +kernel)) (pc' := 1017) (lv' := [(0, vR a0), (1, vR l1), (2, vR l2), (3, vI l3)]) (st' := [vI (kI 0)]) rfl ?_
    exact j_iret hx hm (by decide +kernel) jz0n (he _)
  refine j_tab hx (dflt := 1182) (lo := 0) (hi := 30) (offs := #[139, 202, 225, 238, 251, 274, 308, 342, 445, 479, 513, 546, 569, 592, 626, 680, 693, 716, 729, 742, 775, 808, 842, 865, 889, 922, 985, 1038, 1092, 1136, 1169]) (len := 139) (k := 26) (off := 985) (tgt := 1018) (by decide +kernel) (by decide) (by decide) (by decide) rfl (by decide) (fun _ => ?_) (fun h250 => ?_)
  · refine j_runA hx 5 (tb := [(1018, .aload_n 1), (1019, .aload_n 0), (1020, .iload_n 3), (1021, .iconst 1), (1022, .iadd)]) (jtb_ok (by decide +kernel)) (pc' := 1023) (lv' := [(0, vR a0), (1, vR l1), (2, vR l2), (3, vI l3)]) (st' := [vI (l3 + (kI 1)), vR a0, vR l1]) rfl ?_
    refine j_gd (fun h251 => ?_)
    refine j_sld hx hsc (by decide +kernel) h251 ?_
    refine j_runA hx 7 (tb := [(1024, .i2l), (1025, .bipush 32), (1027, .lshl), (1028, .aload_n 0), (1029, .iload_n 3), (1030, .iconst 2), (1031, .iadd)]) (jtb_ok (by decide +kernel)) (pc' := 1032) (lv' := [(0, vR a0), (1, vR l1), (2, vR l2), (3, vI l3)]) (st' := [vI (l3 + (kI 2)), vR a0, vL (lxl ((sc (ix (l3 + (kI 1)))).toInt64) (kI 32)), vR l1]) rfl ?_
    refine j_gd (fun h252 => ?_)
    refine j_sld hx hsc (by decide +kernel) h252 ?_
    refine j_runA hx 1 (tb := [(1033, .i2l)]) (jtb_ok (by decide +kernel)) (pc' := 1034) (lv' := [(0, vR a0), (1, vR l1), (2, vR l2), (3, vI l3)]) (st' := [vL ((sc (ix (l3 + (kI 2)))).toInt64), vL (lxl ((sc (ix (l3 + (kI 1)))).toInt64) (kI 32)), vR l1]) rfl ?_
    refine j_ldc2 hx (v := (kJ 4294967295)) (jkd2 q3610 (by decide +kernel)) (by decide +kernel) ?_
    refine j_runA hx 2 (tb := [(1037, .land), (1038, .lor)]) (jtb_ok (by decide +kernel)) (pc' := 1039) (lv' := [(0, vR a0), (1, vR l1), (2, vR l2), (3, vI l3)]) (st' := [vL ((lxl ((sc (ix (l3 + (kI 1)))).toInt64) (kI 32)) ||| (((sc (ix (l3 + (kI 2)))).toInt64) &&& (kJ 4294967295))), vR l1]) rfl ?_
    refine j_gd (fun h253 => ?_)
    refine j_OI (j_callV (av := [vL ((lxl ((sc (ix (l3 + (kI 1)))).toInt64) (kI 32)) ||| (((sc (ix (l3 + (kI 2)))).toInt64) &&& (kJ 4294967295)))]) (st := []) hx hr (Or.inl q2305) q2306 q2307 rfl md_fcl_keeps np_fcl_keeps (ccl_keeps l1 ((lxl ((sc (ix (l3 + (kI 1)))).toInt64) (kI 32)) ||| (((sc (ix (l3 + (kI 2)))).toInt64) &&& (kJ 4294967295))) W) (by decide) (Nat.le_of_ble_eq_true rfl) h253 (by decide) (by decide +kernel)) (fun q254 _ => ?_)
    refine j_runA hx 5 (tb := [(1042, .aload_n 2), (1043, .aload_n 0), (1044, .iload_n 3), (1045, .iconst 1), (1046, .iadd)]) (jtb_ok (by decide +kernel)) (pc' := 1047) (lv' := [(0, vR a0), (1, vR l1), (2, vR l2), (3, vI l3)]) (st' := [vI (l3 + (kI 1)), vR a0, vR l2, vI q254]) rfl ?_
    refine j_gd (fun h255 => ?_)
    refine j_sld hx hsc (by decide +kernel) h255 ?_
    refine j_runA hx 7 (tb := [(1048, .i2l), (1049, .bipush 32), (1051, .lshl), (1052, .aload_n 0), (1053, .iload_n 3), (1054, .iconst 2), (1055, .iadd)]) (jtb_ok (by decide +kernel)) (pc' := 1056) (lv' := [(0, vR a0), (1, vR l1), (2, vR l2), (3, vI l3)]) (st' := [vI (l3 + (kI 2)), vR a0, vL (lxl ((sc (ix (l3 + (kI 1)))).toInt64) (kI 32)), vR l2, vI q254]) rfl ?_
    refine j_gd (fun h256 => ?_)
    refine j_sld hx hsc (by decide +kernel) h256 ?_
    refine j_runA hx 1 (tb := [(1057, .i2l)]) (jtb_ok (by decide +kernel)) (pc' := 1058) (lv' := [(0, vR a0), (1, vR l1), (2, vR l2), (3, vI l3)]) (st' := [vL ((sc (ix (l3 + (kI 2)))).toInt64), vL (lxl ((sc (ix (l3 + (kI 1)))).toInt64) (kI 32)), vR l2, vI q254]) rfl ?_
    refine j_ldc2 hx (v := (kJ 4294967295)) (jkd2 q3610 (by decide +kernel)) (by decide +kernel) ?_
    refine j_runA hx 2 (tb := [(1061, .land), (1062, .lor)]) (jtb_ok (by decide +kernel)) (pc' := 1063) (lv' := [(0, vR a0), (1, vR l1), (2, vR l2), (3, vI l3)]) (st' := [vL ((lxl ((sc (ix (l3 + (kI 1)))).toInt64) (kI 32)) ||| (((sc (ix (l3 + (kI 2)))).toInt64) &&& (kJ 4294967295))), vR l2, vI q254]) rfl ?_
    refine j_gd (fun h257 => ?_)
    refine j_OI (j_callV (av := [vL ((lxl ((sc (ix (l3 + (kI 1)))).toInt64) (kI 32)) ||| (((sc (ix (l3 + (kI 2)))).toInt64) &&& (kJ 4294967295)))]) (st := [vI q254]) hx hr (Or.inl q3592) q3593 q3594 rfl md_fmo_keeps np_fmo_keeps (cmo_keeps l2 ((lxl ((sc (ix (l3 + (kI 1)))).toInt64) (kI 32)) ||| (((sc (ix (l3 + (kI 2)))).toInt64) &&& (kJ 4294967295))) W) (by decide) (Nat.le_of_ble_eq_true rfl) h257 (by decide) (by decide +kernel)) (fun q258 _ => ?_)
    refine j_icmp_eq hx (off := 149) (tgt := 1215) (by decide +kernel) (by decide) (fun _ => ?_) (fun _ => ?_)
    · exact wlw_law_1215 h l1 l2 l3 W
    refine j_runA hx 1 (tb := [(1069, .iconst 0)]) (jtb_ok (by decide +kernel)) (pc' := 1070) (lv' := [(0, vR a0), (1, vR l1), (2, vR l2), (3, vI l3)]) (st' := [vI (kI 0)]) rfl ?_
    exact j_iret hx hm (by decide +kernel) jz0n (he _)
  refine j_tab hx (dflt := 1182) (lo := 0) (hi := 30) (offs := #[139, 202, 225, 238, 251, 274, 308, 342, 445, 479, 513, 546, 569, 592, 626, 680, 693, 716, 729, 742, 775, 808, 842, 865, 889, 922, 985, 1038, 1092, 1136, 1169]) (len := 139) (k := 27) (off := 1038) (tgt := 1071) (by decide +kernel) (by decide) (by decide) (by decide) rfl (by decide) (fun _ => ?_) (fun h259 => ?_)
  · refine j_runA hx 5 (tb := [(1071, .aload_n 1), (1072, .aload_n 0), (1073, .iload_n 3), (1074, .iconst 1), (1075, .iadd)]) (jtb_ok (by decide +kernel)) (pc' := 1076) (lv' := [(0, vR a0), (1, vR l1), (2, vR l2), (3, vI l3)]) (st' := [vI (l3 + (kI 1)), vR a0, vR l1]) rfl ?_
    refine j_gd (fun h260 => ?_)
    refine j_sld hx hsc (by decide +kernel) h260 ?_
    refine j_runA hx 7 (tb := [(1077, .i2l), (1078, .bipush 32), (1080, .lshl), (1081, .aload_n 0), (1082, .iload_n 3), (1083, .iconst 2), (1084, .iadd)]) (jtb_ok (by decide +kernel)) (pc' := 1085) (lv' := [(0, vR a0), (1, vR l1), (2, vR l2), (3, vI l3)]) (st' := [vI (l3 + (kI 2)), vR a0, vL (lxl ((sc (ix (l3 + (kI 1)))).toInt64) (kI 32)), vR l1]) rfl ?_
    refine j_gd (fun h261 => ?_)
    refine j_sld hx hsc (by decide +kernel) h261 ?_
    refine j_runA hx 1 (tb := [(1086, .i2l)]) (jtb_ok (by decide +kernel)) (pc' := 1087) (lv' := [(0, vR a0), (1, vR l1), (2, vR l2), (3, vI l3)]) (st' := [vL ((sc (ix (l3 + (kI 2)))).toInt64), vL (lxl ((sc (ix (l3 + (kI 1)))).toInt64) (kI 32)), vR l1]) rfl ?_
    refine j_ldc2 hx (v := (kJ 4294967295)) (jkd2 q3610 (by decide +kernel)) (by decide +kernel) ?_
    refine j_runA hx 2 (tb := [(1090, .land), (1091, .lor)]) (jtb_ok (by decide +kernel)) (pc' := 1092) (lv' := [(0, vR a0), (1, vR l1), (2, vR l2), (3, vI l3)]) (st' := [vL ((lxl ((sc (ix (l3 + (kI 1)))).toInt64) (kI 32)) ||| (((sc (ix (l3 + (kI 2)))).toInt64) &&& (kJ 4294967295))), vR l1]) rfl ?_
    refine j_gd (fun h262 => ?_)
    refine j_OL (j_callV (av := [vL ((lxl ((sc (ix (l3 + (kI 1)))).toInt64) (kI 32)) ||| (((sc (ix (l3 + (kI 2)))).toInt64) &&& (kJ 4294967295)))]) (st := []) hx hr (Or.inl q2316) q2317 q2318 rfl md_fcl_newest np_fcl_newest (ccl_newest l1 ((lxl ((sc (ix (l3 + (kI 1)))).toInt64) (kI 32)) ||| (((sc (ix (l3 + (kI 2)))).toInt64) &&& (kJ 4294967295))) W) (by decide) (Nat.le_of_ble_eq_true rfl) h262 (by decide) (by decide +kernel)) (fun q263 _ => ?_)
    refine j_runA hx 5 (tb := [(1095, .aload_n 2), (1096, .aload_n 0), (1097, .iload_n 3), (1098, .iconst 1), (1099, .iadd)]) (jtb_ok (by decide +kernel)) (pc' := 1100) (lv' := [(0, vR a0), (1, vR l1), (2, vR l2), (3, vI l3)]) (st' := [vI (l3 + (kI 1)), vR a0, vR l2, vL q263]) rfl ?_
    refine j_gd (fun h264 => ?_)
    refine j_sld hx hsc (by decide +kernel) h264 ?_
    refine j_runA hx 7 (tb := [(1101, .i2l), (1102, .bipush 32), (1104, .lshl), (1105, .aload_n 0), (1106, .iload_n 3), (1107, .iconst 2), (1108, .iadd)]) (jtb_ok (by decide +kernel)) (pc' := 1109) (lv' := [(0, vR a0), (1, vR l1), (2, vR l2), (3, vI l3)]) (st' := [vI (l3 + (kI 2)), vR a0, vL (lxl ((sc (ix (l3 + (kI 1)))).toInt64) (kI 32)), vR l2, vL q263]) rfl ?_
    refine j_gd (fun h265 => ?_)
    refine j_sld hx hsc (by decide +kernel) h265 ?_
    refine j_runA hx 1 (tb := [(1110, .i2l)]) (jtb_ok (by decide +kernel)) (pc' := 1111) (lv' := [(0, vR a0), (1, vR l1), (2, vR l2), (3, vI l3)]) (st' := [vL ((sc (ix (l3 + (kI 2)))).toInt64), vL (lxl ((sc (ix (l3 + (kI 1)))).toInt64) (kI 32)), vR l2, vL q263]) rfl ?_
    refine j_ldc2 hx (v := (kJ 4294967295)) (jkd2 q3610 (by decide +kernel)) (by decide +kernel) ?_
    refine j_runA hx 2 (tb := [(1114, .land), (1115, .lor)]) (jtb_ok (by decide +kernel)) (pc' := 1116) (lv' := [(0, vR a0), (1, vR l1), (2, vR l2), (3, vI l3)]) (st' := [vL ((lxl ((sc (ix (l3 + (kI 1)))).toInt64) (kI 32)) ||| (((sc (ix (l3 + (kI 2)))).toInt64) &&& (kJ 4294967295))), vR l2, vL q263]) rfl ?_
    refine j_gd (fun h266 => ?_)
    refine j_OL (j_callV (av := [vL ((lxl ((sc (ix (l3 + (kI 1)))).toInt64) (kI 32)) ||| (((sc (ix (l3 + (kI 2)))).toInt64) &&& (kJ 4294967295)))]) (st := [vL q263]) hx hr (Or.inl q3597) q3598 q3599 rfl md_fmo_newest np_fmo_newest (cmo_newest l2 ((lxl ((sc (ix (l3 + (kI 1)))).toInt64) (kI 32)) ||| (((sc (ix (l3 + (kI 2)))).toInt64) &&& (kJ 4294967295))) W) (by decide) (Nat.le_of_ble_eq_true rfl) h266 (by decide) (by decide +kernel)) (fun q267 _ => ?_)
    refine j_lcmp_eq hx (off := 95) (tgt := 1215) (by decide +kernel) (by decide +kernel) (by decide) (fun _ => ?_) (fun _ => ?_)
    · exact wlw_law_1215 h l1 l2 l3 W
    refine j_runA hx 1 (tb := [(1123, .iconst 0)]) (jtb_ok (by decide +kernel)) (pc' := 1124) (lv' := [(0, vR a0), (1, vR l1), (2, vR l2), (3, vI l3)]) (st' := [vI (kI 0)]) rfl ?_
    exact j_iret hx hm (by decide +kernel) jz0n (he _)
  refine j_tab hx (dflt := 1182) (lo := 0) (hi := 30) (offs := #[139, 202, 225, 238, 251, 274, 308, 342, 445, 479, 513, 546, 569, 592, 626, 680, 693, 716, 729, 742, 775, 808, 842, 865, 889, 922, 985, 1038, 1092, 1136, 1169]) (len := 139) (k := 28) (off := 1092) (tgt := 1125) (by decide +kernel) (by decide) (by decide) (by decide) rfl (by decide) (fun _ => ?_) (fun h268 => ?_)
  · refine j_runA hx 5 (tb := [(1125, .aload_n 1), (1126, .aload_n 0), (1127, .iload_n 3), (1128, .iconst 1), (1129, .iadd)]) (jtb_ok (by decide +kernel)) (pc' := 1130) (lv' := [(0, vR a0), (1, vR l1), (2, vR l2), (3, vI l3)]) (st' := [vI (l3 + (kI 1)), vR a0, vR l1]) rfl ?_
    refine j_gd (fun h269 => ?_)
    refine j_sld hx hsc (by decide +kernel) h269 ?_
    refine j_runA hx 4 (tb := [(1131, .aload_n 0), (1132, .iload_n 3), (1133, .iconst 2), (1134, .iadd)]) (jtb_ok (by decide +kernel)) (pc' := 1135) (lv' := [(0, vR a0), (1, vR l1), (2, vR l2), (3, vI l3)]) (st' := [vI (l3 + (kI 2)), vR a0, vI (sc (ix (l3 + (kI 1)))), vR l1]) rfl ?_
    refine j_gd (fun h270 => ?_)
    refine j_sld hx hsc (by decide +kernel) h270 ?_
    refine j_runA hx 4 (tb := [(1136, .aload_n 0), (1137, .iload_n 3), (1138, .iconst 3), (1139, .iadd)]) (jtb_ok (by decide +kernel)) (pc' := 1140) (lv' := [(0, vR a0), (1, vR l1), (2, vR l2), (3, vI l3)]) (st' := [vI (l3 + (kI 3)), vR a0, vI (sc (ix (l3 + (kI 2)))), vI (sc (ix (l3 + (kI 1)))), vR l1]) rfl ?_
    refine j_gd (fun h271 => ?_)
    refine j_sld hx hsc (by decide +kernel) h271 ?_
    refine j_gd (fun h272 => ?_)
    refine j_OL (j_callV (av := [vI (sc (ix (l3 + (kI 1)))), vI (sc (ix (l3 + (kI 2)))), vI (sc (ix (l3 + (kI 3))))]) (st := []) hx hr (Or.inl q2321) q2322 q2323 rfl md_fcl_trace np_fcl_trace (ccl_trace l1 (sc (ix (l3 + (kI 1)))) (sc (ix (l3 + (kI 2)))) (sc (ix (l3 + (kI 3)))) W) (by decide) (Nat.le_of_ble_eq_true rfl) h272 (by decide) (by decide +kernel)) (fun q273 _ => ?_)
    refine j_runA hx 5 (tb := [(1144, .aload_n 2), (1145, .aload_n 0), (1146, .iload_n 3), (1147, .iconst 1), (1148, .iadd)]) (jtb_ok (by decide +kernel)) (pc' := 1149) (lv' := [(0, vR a0), (1, vR l1), (2, vR l2), (3, vI l3)]) (st' := [vI (l3 + (kI 1)), vR a0, vR l2, vL q273]) rfl ?_
    refine j_gd (fun h274 => ?_)
    refine j_sld hx hsc (by decide +kernel) h274 ?_
    refine j_runA hx 4 (tb := [(1150, .aload_n 0), (1151, .iload_n 3), (1152, .iconst 2), (1153, .iadd)]) (jtb_ok (by decide +kernel)) (pc' := 1154) (lv' := [(0, vR a0), (1, vR l1), (2, vR l2), (3, vI l3)]) (st' := [vI (l3 + (kI 2)), vR a0, vI (sc (ix (l3 + (kI 1)))), vR l2, vL q273]) rfl ?_
    refine j_gd (fun h275 => ?_)
    refine j_sld hx hsc (by decide +kernel) h275 ?_
    refine j_runA hx 4 (tb := [(1155, .aload_n 0), (1156, .iload_n 3), (1157, .iconst 3), (1158, .iadd)]) (jtb_ok (by decide +kernel)) (pc' := 1159) (lv' := [(0, vR a0), (1, vR l1), (2, vR l2), (3, vI l3)]) (st' := [vI (l3 + (kI 3)), vR a0, vI (sc (ix (l3 + (kI 2)))), vI (sc (ix (l3 + (kI 1)))), vR l2, vL q273]) rfl ?_
    refine j_gd (fun h276 => ?_)
    refine j_sld hx hsc (by decide +kernel) h276 ?_
    refine j_gd (fun h277 => ?_)
    refine j_OL (j_callV (av := [vI (sc (ix (l3 + (kI 1)))), vI (sc (ix (l3 + (kI 2)))), vI (sc (ix (l3 + (kI 3))))]) (st := [vL q273]) hx hr (Or.inl q3602) q3603 q3604 rfl md_fmo_trace np_fmo_trace (cmo_trace l2 (sc (ix (l3 + (kI 1)))) (sc (ix (l3 + (kI 2)))) (sc (ix (l3 + (kI 3)))) W) (by decide) (Nat.le_of_ble_eq_true rfl) h277 (by decide) (by decide +kernel)) (fun q278 _ => ?_)
    refine j_lcmp_eq hx (off := 51) (tgt := 1215) (by decide +kernel) (by decide +kernel) (by decide) (fun _ => ?_) (fun _ => ?_)
    · exact wlw_law_1215 h l1 l2 l3 W
    refine j_runA hx 1 (tb := [(1167, .iconst 0)]) (jtb_ok (by decide +kernel)) (pc' := 1168) (lv' := [(0, vR a0), (1, vR l1), (2, vR l2), (3, vI l3)]) (st' := [vI (kI 0)]) rfl ?_
    exact j_iret hx hm (by decide +kernel) jz0n (he _)
  refine j_tab hx (dflt := 1182) (lo := 0) (hi := 30) (offs := #[139, 202, 225, 238, 251, 274, 308, 342, 445, 479, 513, 546, 569, 592, 626, 680, 693, 716, 729, 742, 775, 808, 842, 865, 889, 922, 985, 1038, 1092, 1136, 1169]) (len := 139) (k := 29) (off := 1136) (tgt := 1169) (by decide +kernel) (by decide) (by decide) (by decide) rfl (by decide) (fun _ => ?_) (fun h279 => ?_)
  · refine j_runA hx 5 (tb := [(1169, .aload_n 1), (1170, .aload_n 0), (1171, .iload_n 3), (1172, .iconst 1), (1173, .iadd)]) (jtb_ok (by decide +kernel)) (pc' := 1174) (lv' := [(0, vR a0), (1, vR l1), (2, vR l2), (3, vI l3)]) (st' := [vI (l3 + (kI 1)), vR a0, vR l1]) rfl ?_
    refine j_gd (fun h280 => ?_)
    refine j_sld hx hsc (by decide +kernel) h280 ?_
    refine j_runA hx 4 (tb := [(1175, .aload_n 0), (1176, .iload_n 3), (1177, .iconst 2), (1178, .iadd)]) (jtb_ok (by decide +kernel)) (pc' := 1179) (lv' := [(0, vR a0), (1, vR l1), (2, vR l2), (3, vI l3)]) (st' := [vI (l3 + (kI 2)), vR a0, vI (sc (ix (l3 + (kI 1)))), vR l1]) rfl ?_
    refine j_gd (fun h281 => ?_)
    refine j_sld hx hsc (by decide +kernel) h281 ?_
    refine j_gd (fun h282 => ?_)
    refine j_OI (j_callV (av := [vI (sc (ix (l3 + (kI 1)))), vI (sc (ix (l3 + (kI 2))))]) (st := []) hx hr (Or.inl q2325) q2326 q2327 rfl md_fcl_text np_fcl_text (ccl_text l1 (sc (ix (l3 + (kI 1)))) (sc (ix (l3 + (kI 2)))) W) (by decide) (Nat.le_of_ble_eq_true rfl) h282 (by decide) (by decide +kernel)) (fun q283 _ => ?_)
    refine j_runA hx 5 (tb := [(1183, .aload_n 2), (1184, .aload_n 0), (1185, .iload_n 3), (1186, .iconst 1), (1187, .iadd)]) (jtb_ok (by decide +kernel)) (pc' := 1188) (lv' := [(0, vR a0), (1, vR l1), (2, vR l2), (3, vI l3)]) (st' := [vI (l3 + (kI 1)), vR a0, vR l2, vI q283]) rfl ?_
    refine j_gd (fun h284 => ?_)
    refine j_sld hx hsc (by decide +kernel) h284 ?_
    refine j_runA hx 4 (tb := [(1189, .aload_n 0), (1190, .iload_n 3), (1191, .iconst 2), (1192, .iadd)]) (jtb_ok (by decide +kernel)) (pc' := 1193) (lv' := [(0, vR a0), (1, vR l1), (2, vR l2), (3, vI l3)]) (st' := [vI (l3 + (kI 2)), vR a0, vI (sc (ix (l3 + (kI 1)))), vR l2, vI q283]) rfl ?_
    refine j_gd (fun h285 => ?_)
    refine j_sld hx hsc (by decide +kernel) h285 ?_
    refine j_gd (fun h286 => ?_)
    refine j_OI (j_callV (av := [vI (sc (ix (l3 + (kI 1)))), vI (sc (ix (l3 + (kI 2))))]) (st := [vI q283]) hx hr (Or.inl q3606) q3607 q3608 rfl md_fmo_text np_fmo_text (cmo_text l2 (sc (ix (l3 + (kI 1)))) (sc (ix (l3 + (kI 2)))) W) (by decide) (Nat.le_of_ble_eq_true rfl) h286 (by decide) (by decide +kernel)) (fun q287 _ => ?_)
    refine j_icmp_eq hx (off := 18) (tgt := 1215) (by decide +kernel) (by decide) (fun _ => ?_) (fun _ => ?_)
    · exact wlw_law_1215 h l1 l2 l3 W
    refine j_runA hx 1 (tb := [(1200, .iconst 0)]) (jtb_ok (by decide +kernel)) (pc' := 1201) (lv' := [(0, vR a0), (1, vR l1), (2, vR l2), (3, vI l3)]) (st' := [vI (kI 0)]) rfl ?_
    exact j_iret hx hm (by decide +kernel) jz0n (he _)
  refine j_tab hx (dflt := 1182) (lo := 0) (hi := 30) (offs := #[139, 202, 225, 238, 251, 274, 308, 342, 445, 479, 513, 546, 569, 592, 626, 680, 693, 716, 729, 742, 775, 808, 842, 865, 889, 922, 985, 1038, 1092, 1136, 1169]) (len := 139) (k := 30) (off := 1169) (tgt := 1202) (by decide +kernel) (by decide) (by decide) (by decide) rfl (by decide) (fun _ => ?_) (fun h288 => ?_)
  · refine j_runA hx 1 (tb := [(1202, .aload_n 1)]) (jtb_ok (by decide +kernel)) (pc' := 1203) (lv' := [(0, vR a0), (1, vR l1), (2, vR l2), (3, vI l3)]) (st' := [vR l1]) rfl ?_
    refine j_gd (fun h289 => ?_)
    refine j_OI (j_callV (av := []) (st := []) hx hr (Or.inl q1965) q1966 q1967 rfl md_fcl_strays np_fcl_strays (ccl_strays l1 W) (by decide) (Nat.le_of_ble_eq_true rfl) h289 (by decide) (by decide +kernel)) (fun q290 _ => ?_)
    refine j_runA hx 1 (tb := [(1206, .aload_n 2)]) (jtb_ok (by decide +kernel)) (pc' := 1207) (lv' := [(0, vR a0), (1, vR l1), (2, vR l2), (3, vI l3)]) (st' := [vR l2, vI q290]) rfl ?_
    refine j_gd (fun h291 => ?_)
    refine j_OI (j_callV (av := []) (st := [vI q290]) hx hr (Or.inl q3324) q3325 q3326 rfl md_fmo_strays np_fmo_strays (cmo_strays l2 W) (by decide) (Nat.le_of_ble_eq_true rfl) h291 (by decide) (by decide +kernel)) (fun q292 _ => ?_)
    refine j_icmp_eq hx (off := 5) (tgt := 1215) (by decide +kernel) (by decide) (fun _ => ?_) (fun _ => ?_)
    · exact wlw_law_1215 h l1 l2 l3 W
    refine j_runA hx 1 (tb := [(1213, .iconst 0)]) (jtb_ok (by decide +kernel)) (pc' := 1214) (lv' := [(0, vR a0), (1, vR l1), (2, vR l2), (3, vI l3)]) (st' := [vI (kI 0)]) rfl ?_
    exact j_iret hx hm (by decide +kernel) jz0n (he _)
  refine j_tabD hx (dflt := 1182) (lo := 0) (hi := 30) (offs := #[139, 202, 225, 238, 251, 274, 308, 342, 445, 479, 513, 546, 569, 592, 626, 680, 693, 716, 729, 742, 775, 808, 842, 865, 889, 922, 985, 1038, 1092, 1136, 1169]) (len := 139) (tgt := 1215) (by decide +kernel) (by decide) (fun i hi => by
    match i, hi with
    | 0, _ => exact Or.inr h18
    | 1, _ => exact Or.inr h35
    | 2, _ => exact Or.inr h44
    | 3, _ => exact Or.inr h51
    | 4, _ => exact Or.inr h56
    | 5, _ => exact Or.inr h63
    | 6, _ => exact Or.inr h73
    | 7, _ => exact Or.inr h83
    | 8, _ => exact Or.inr h100
    | 9, _ => exact Or.inr h109
    | 10, _ => exact Or.inr h118
    | 11, _ => exact Or.inr h129
    | 12, _ => exact Or.inr h136
    | 13, _ => exact Or.inr h143
    | 14, _ => exact Or.inr h152
    | 15, _ => exact Or.inr h161
    | 16, _ => exact Or.inr h166
    | 17, _ => exact Or.inr h173
    | 18, _ => exact Or.inr h180
    | 19, _ => exact Or.inr h187
    | 20, _ => exact Or.inr h198
    | 21, _ => exact Or.inr h207
    | 22, _ => exact Or.inr h216
    | 23, _ => exact Or.inr h223
    | 24, _ => exact Or.inr h230
    | 25, _ => exact Or.inr h239
    | 26, _ => exact Or.inr h250
    | 27, _ => exact Or.inr h259
    | 28, _ => exact Or.inr h268
    | 29, _ => exact Or.inr h279
    | 30, _ => exact Or.inr h288
    | n + 31, h => exact absurd h (by omega)) ?_
  exact wlw_law_1215 h l1 l2 l3 W
theorem wlw_law {x : jCx} {en : (flw_law_S ⊕ (Int32 × jW)) → Option (Outcome × jW)} {a0 : Nat} {sc : Nat → Int32} {sn : Nat} (h : hlw_law x en a0 sc sn) (W : jW) : jJ x 4 0 [(0, vR a0)] [] W (flw_law_0 a0 sc sn W) en := by
  have h0 := h
  obtain ⟨hx, hm, hr, he, hsc, k18⟩ := h0
  unfold flw_law_0
  refine j_gd (fun h1 => ?_)
  refine j_new hx nlL_7 (N := 24) rfl (by decide +kernel) h1 ?_
  refine j_ltn (fun W2 => ?_)
  refine j_runA hx 1 (tb := [(3, .dup)]) (jtb_ok (by decide +kernel)) (pc' := 4) (lv' := [(0, vR a0)]) (st' := [vR (jX W), vR (jX W)]) rfl ?_
  refine j_gd (fun h4 => ?_)
  refine j_WV (j_callI (av := []) (st := [vR (jX W)]) hx hr (Or.inl q260) q261 rfl q262 md_fcl_init np_fcl_init (ccl_init (jX W) W2) (by decide) (Nat.le_of_ble_eq_true rfl) h4 (by decide) (by decide +kernel)) (fun q5 _ => ?_)
  refine j_runA hx 1 (tb := [(7, .astore_n 1)]) (jtb_ok (by decide +kernel)) (pc' := 8) (lv' := [(1, vR (jX W)), (0, vR a0)]) (st' := []) rfl ?_
  refine j_let (v := (jX W)) (lv := fun v7 => [(1, vR v7), (0, vR a0)]) (st := fun _ => []) (fun v7 => ?_)
  refine j_gd (fun h8 => ?_)
  refine j_new hx nlL_10 (N := 64) rfl (by decide +kernel) h8 ?_
  refine j_ltn (fun W9 => ?_)
  refine j_runA hx 1 (tb := [(11, .dup)]) (jtb_ok (by decide +kernel)) (pc' := 12) (lv' := [(1, vR v7), (0, vR a0)]) (st' := [vR (jX q5), vR (jX q5)]) rfl ?_
  refine j_gd (fun h11 => ?_)
  refine j_WV (j_callI (av := []) (st := [vR (jX q5)]) hx hr (Or.inl q2331) q2332 rfl q2333 md_fmo_init np_fmo_init (cmo_init (jX q5) W9) (by decide) (Nat.le_of_ble_eq_true rfl) h11 (by decide) (by decide +kernel)) (fun q12 _ => ?_)
  refine j_runA hx 1 (tb := [(15, .astore_n 2)]) (jtb_ok (by decide +kernel)) (pc' := 16) (lv' := [(2, vR (jX q5)), (1, vR v7), (0, vR a0)]) (st' := []) rfl ?_
  refine j_let (v := (jX q5)) (lv := fun v14 => [(2, vR v14), (1, vR v7), (0, vR a0)]) (st := fun _ => []) (fun v14 => ?_)
  refine j_runA hx 2 (tb := [(16, .iconst 0), (17, .istore_n 3)]) (jtb_ok (by decide +kernel)) (pc' := 18) (lv' := [(3, vI (kI 0)), (2, vR v14), (1, vR v7), (0, vR a0)]) (st' := []) rfl ?_
  refine j_lv (lv' := [(0, vR a0), (1, vR v7), (2, vR v14), (3, vI (kI 0))]) ⟨rfl, rfl, rfl, rfl, trivial⟩ ?_
  exact k18 v7 v14 (kI 0) q12
theorem clw_law {x : jCx} {en0 : Int32 × jW → Option (Outcome × jW)} (a0 : Nat) (sc : Nat → Int32) (sn : Nat) (W : jW) (hx : jOK x RL cL_law 4) (hm : jMt x "law" (Option.some Jvm.ClassFile.FieldType.boolean) []) (hr : jRm x 14 201) (he0 : ∀ q, en0 q = some (.returned (some (.int q.1)), q.2)) (hsc : jSc x a0 sc sn) : jJ x 4 0 [(0, vR a0)] [] W (flw_law a0 sc sn W) en0 := by
  unfold flw_law
  refine j_begin (P := (fun s => (18, [(0, vR a0), (1, vR s.1), (2, vR s.2.1), (3, vI s.2.2.1)], s.2.2.2))) (fun en he hk => ?_)
  have h : hlw_law x en a0 sc sn := ⟨hx, hm, hr, fun q => (he _).trans (he0 q), hsc, fun l1 l2 l3 W => hk (l1, l2, l3, W)⟩
  exact ⟨fun s => wlw_law_18 h s.1 s.2.1 s.2.2.1 s.2.2.2, wlw_law h W⟩
