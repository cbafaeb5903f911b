/-! ===== walks: fog_cluster fog_put fog_lay fwr_isLeft fwr_isTurned fwr_isPut fwr_sizeOf fwr_place fwr_goalOf fwr_endAt fwo_reaches fwr_reaches fwr_addressOf fwr_movedWord fwo_paging fwo_adding ===== -/
set_option maxRecDepth 100000
def hog_cluster (x : jCx) (en : (fog_cluster_S ⊕ (jW)) → Option (Outcome × jW)) (t : Nat) (a1 : Int32) : Prop :=
  jOK x RX13 cX13_cluster 4 ∧
  jMt x "cluster" (Option.none : Option Jvm.ClassFile.FieldType) [] ∧
  jRm x 4 74 ∧
  (∀ q : jW, en (.inr q) = some (.returned none, q)) ∧
  (∀ (l2 : Int32) (W : jW), jJ x 4 10 [(0, vR t), (1, vI a1), (2, vI l2)] [] W (some (.inl (.inl (l2, W)))) en) ∧
  (∀ (l2 : Int32) (l3 : Int32) (W : jW), jJ x 4 70 [(0, vR t), (1, vI a1), (2, vI l2), (3, vI l3)] [] W (some (.inl (.inr (.inl (l2, l3, W))))) en) ∧
  (∀ (l2 : Int32) (W : jW), jJ x 4 157 [(0, vR t), (1, vI a1), (2, vI l2)] [] W (some (.inl (.inr (.inr (l2, W))))) en)
theorem wog_cluster_120 {x : jCx} {en : (fog_cluster_S ⊕ (jW)) → Option (Outcome × jW)} {t : Nat} {a1 : Int32} (h : hog_cluster x en t a1) (l2 : Int32) (l3 : Int32) (W : jW) : jJ x 4 120 [(0, vR t), (1, vI a1), (2, vI l2), (3, vI l3)] [] W (fog_cluster_120 t a1 l2 l3 W) en := by
  have h0 := h
  obtain ⟨hx, hm, hr, he, k10, k70, k157⟩ := h0
  unfold fog_cluster_120
  refine j_runA hx 1 (tb := [(120, .iinc 3 1)]) (jtb_ok (by decide +kernel)) (pc' := 123) (lv' := [(3, vI (l3 + (kI 1))), (0, vR t), (1, vI a1), (2, vI l2)]) (st' := []) rfl ?_
  refine j_let (v := (l3 + (kI 1))) (lv := fun v66 => [(3, vI v66), (0, vR t), (1, vI a1), (2, vI l2)]) (st := fun _ => []) (fun v66 => ?_)
  refine j_goto hx (off := -53) (by decide +kernel) (tgt := 70) (by decide) ?_
  refine j_lv (lv' := [(0, vR t), (1, vI a1), (2, vI l2), (3, vI v66)]) ⟨rfl, rfl, rfl, rfl, trivial⟩ ?_
  exact k70 l2 v66 W
theorem wog_cluster_145 {x : jCx} {en : (fog_cluster_S ⊕ (jW)) → Option (Outcome × jW)} {t : Nat} {a1 : Int32} (h : hog_cluster x en t a1) (l2 : Int32) (W : jW) : jJ x 4 145 [(0, vR t), (1, vI a1), (2, vI l2)] [] W (fog_cluster_145 t a1 l2 W) en := by
  have h0 := h
  obtain ⟨hx, hm, hr, he, k10, k70, k157⟩ := h0
  unfold fog_cluster_145
  refine j_runA hx 1 (tb := [(145, .iinc 2 1)]) (jtb_ok (by decide +kernel)) (pc' := 148) (lv' := [(2, vI (l2 + (kI 1))), (0, vR t), (1, vI a1)]) (st' := []) rfl ?_
  refine j_let (v := (l2 + (kI 1))) (lv := fun v68 => [(2, vI v68), (0, vR t), (1, vI a1)]) (st := fun _ => []) (fun v68 => ?_)
  refine j_goto hx (off := -138) (by decide +kernel) (tgt := 10) (by decide) ?_
  refine j_lv (lv' := [(0, vR t), (1, vI a1), (2, vI v68)]) ⟨rfl, rfl, rfl, trivial⟩ ?_
  exact k10 v68 W
theorem wog_cluster_70 {x : jCx} {en : (fog_cluster_S ⊕ (jW)) → Option (Outcome × jW)} {t : Nat} {a1 : Int32} (h : hog_cluster x en t a1) (l2 : Int32) (l3 : Int32) (W : jW) : jJ x 4 70 [(0, vR t), (1, vI a1), (2, vI l2), (3, vI l3)] [] W (fog_cluster_70 t a1 l2 l3 W) en := by
  have h0 := h
  obtain ⟨hx, hm, hr, he, k10, k70, k157⟩ := h0
  unfold fog_cluster_70
  refine j_runA hx 2 (tb := [(70, .iload_n 3), (71, .aload_n 0)]) (jtb_ok (by decide +kernel)) (pc' := 72) (lv' := [(0, vR t), (1, vI a1), (2, vI l2), (3, vI l3)]) (st' := [vR t, vI l3]) rfl ?_
  refine j_gd (fun h48 => ?_)
  refine j_getR hx flX13_91 kl800 h48 (by decide) (by decide +kernel) ?_
  refine j_runA hx 1 (tb := [(75, .iload_n 2)]) (jtb_ok (by decide +kernel)) (pc' := 76) (lv' := [(0, vR t), (1, vI a1), (2, vI l2), (3, vI l3)]) (st' := [vI l2, vR (jR W 800 t), vI l3]) rfl ?_
  refine j_gd (fun h49 => ?_)
  refine j_OI (j_callV (av := [vI l2]) (st := [vI l3]) hx hr (Or.inl q1603) q1604 q1605 rfl md_fpg_firstBlock np_fpg_firstBlock (cpg_firstBlock (jR W 800 t) l2 W) (by decide) (Nat.le_of_ble_eq_true rfl) h49 (by decide) (by decide +kernel)) (fun q50 _ => ?_)
  refine j_runA hx 1 (tb := [(79, .aload_n 0)]) (jtb_ok (by decide +kernel)) (pc' := 80) (lv' := [(0, vR t), (1, vI a1), (2, vI l2), (3, vI l3)]) (st' := [vR t, vI q50, vI l3]) rfl ?_
  refine j_getR hx flX13_91 kl800 h48 (by decide) (by decide +kernel) ?_
  refine j_runA hx 1 (tb := [(83, .iload_n 2)]) (jtb_ok (by decide +kernel)) (pc' := 84) (lv' := [(0, vR t), (1, vI a1), (2, vI l2), (3, vI l3)]) (st' := [vI l2, vR (jR W 800 t), vI q50, vI l3]) rfl ?_
  refine j_OI (j_callV (av := [vI l2]) (st := [vI q50, vI l3]) hx hr (Or.inl q1730) q1731 q1732 rfl md_fpg_blockCount np_fpg_blockCount (cpg_blockCount (jR W 800 t) l2 W) (by decide) (Nat.le_of_ble_eq_true rfl) h49 (by decide) (by decide +kernel)) (fun q51 _ => ?_)
  refine j_runA hx 1 (tb := [(87, .iadd)]) (jtb_ok (by decide +kernel)) (pc' := 88) (lv' := [(0, vR t), (1, vI a1), (2, vI l2), (3, vI l3)]) (st' := [vI (q50 + q51), vI l3]) rfl ?_
  refine j_icmp_ge hx (off := 38) (tgt := 126) (by decide +kernel) (by decide) (fun _ => ?_) (fun _ => ?_)
  · refine j_runA hx 1 (tb := [(126, .aload_n 0)]) (jtb_ok (by decide +kernel)) (pc' := 127) (lv' := [(0, vR t), (1, vI a1), (2, vI l2), (3, vI l3)]) (st' := [vR t]) rfl ?_
    refine j_getR hx flX13_58 kl818 h48 (by decide) (by decide +kernel) ?_
    refine j_runA hx 1 (tb := [(130, .iload_n 2)]) (jtb_ok (by decide +kernel)) (pc' := 131) (lv' := [(0, vR t), (1, vI a1), (2, vI l2), (3, vI l3)]) (st' := [vI l2, vR (jR W 818 t)]) rfl ?_
    refine j_gd (fun h52 => ?_)
    refine j_lald hx (f := 818) (o := t) kd818 rfl (by decide +kernel) h52 ?_
    refine j_runA hx 1 (tb := [(132, .lconst 0)]) (jtb_ok (by decide +kernel)) (pc' := 133) (lv' := [(0, vR t), (1, vI a1), (2, vI l2), (3, vI l3)]) (st' := [vL (kJ 0), vL (jB W 818 t (ix l2))]) rfl ?_
    refine j_lcmp_le hx (off := 11) (tgt := 145) (by decide +kernel) (by decide +kernel) (by decide) (fun _ => ?_) (fun _ => ?_)
    · refine j_lv (lv' := [(0, vR t), (1, vI a1), (2, vI l2)]) ⟨rfl, rfl, rfl, trivial⟩ ?_
      exact wog_cluster_145 h l2 W
    refine j_runA hx 1 (tb := [(137, .aload_n 0)]) (jtb_ok (by decide +kernel)) (pc' := 138) (lv' := [(0, vR t), (1, vI a1), (2, vI l2), (3, vI l3)]) (st' := [vR t]) rfl ?_
    refine j_getR hx flX13_43 kl813 h48 (by decide) (by decide +kernel) ?_
    refine j_runA hx 1 (tb := [(141, .iload_n 2)]) (jtb_ok (by decide +kernel)) (pc' := 142) (lv' := [(0, vR t), (1, vI a1), (2, vI l2), (3, vI l3)]) (st' := [vI l2, vR (jR W 813 t)]) rfl ?_
    refine j_gd (fun h53 => ?_)
    refine j_WV (j_callV (av := [vI l2]) (st := []) hx hr (Or.inl q1712) q1040 q1041 rfl md_fro_add np_fro_add (cro_add (jR W 813 t) l2 W) (by decide) (Nat.le_of_ble_eq_true rfl) h53 (by decide) (by decide +kernel)) (fun q54 _ => ?_)
    refine j_lv (lv' := [(0, vR t), (1, vI a1), (2, vI l2)]) ⟨rfl, rfl, rfl, trivial⟩ ?_
    exact wog_cluster_145 h l2 q54
  refine j_runA hx 1 (tb := [(91, .aload_n 0)]) (jtb_ok (by decide +kernel)) (pc' := 92) (lv' := [(0, vR t), (1, vI a1), (2, vI l2), (3, vI l3)]) (st' := [vR t]) rfl ?_
  refine j_getR hx flX13_17 kl806 h48 (by decide) (by decide +kernel) ?_
  refine j_runA hx 1 (tb := [(95, .iload_n 3)]) (jtb_ok (by decide +kernel)) (pc' := 96) (lv' := [(0, vR t), (1, vI a1), (2, vI l2), (3, vI l3)]) (st' := [vI l3, vR (jR W 806 t)]) rfl ?_
  refine j_gd (fun h56 => ?_)
  refine j_zald hx (f := 806) (o := t) kd806 rfl (by decide +kernel) h56 ?_
  refine j_if_eq hx (off := 23) (tgt := 120) (by decide +kernel) (by decide) (fun _ => ?_) (fun _ => ?_)
  · exact wog_cluster_120 h l2 l3 W
  refine j_runA hx 1 (tb := [(100, .aload_n 0)]) (jtb_ok (by decide +kernel)) (pc' := 101) (lv' := [(0, vR t), (1, vI a1), (2, vI l2), (3, vI l3)]) (st' := [vR t]) rfl ?_
  refine j_getR hx flX13_58 kl818 h48 (by decide) (by decide +kernel) ?_
  refine j_runA hx 2 (tb := [(104, .iload_n 2), (105, .dup2)]) (jtb_ok (by decide +kernel)) (pc' := 106) (lv' := [(0, vR t), (1, vI a1), (2, vI l2), (3, vI l3)]) (st' := [vI l2, vR (jR W 818 t), vI l2, vR (jR W 818 t)]) rfl ?_
  refine j_gd (fun h57 => ?_)
  refine j_lald hx (f := 818) (o := t) kd818 rfl (by decide +kernel) h57 ?_
  refine j_runA hx 2 (tb := [(107, .iconst 4), (108, .aload_n 0)]) (jtb_ok (by decide +kernel)) (pc' := 109) (lv' := [(0, vR t), (1, vI a1), (2, vI l2), (3, vI l3)]) (st' := [vR t, vI (kI 4), vL (jB W 818 t (ix l2)), vI l2, vR (jR W 818 t)]) rfl ?_
  refine j_getR hx flX13_91 kl800 h48 (by decide) (by decide +kernel) ?_
  refine j_runA hx 1 (tb := [(112, .iload_n 3)]) (jtb_ok (by decide +kernel)) (pc' := 113) (lv' := [(0, vR t), (1, vI a1), (2, vI l2), (3, vI l3)]) (st' := [vI l3, vR (jR W 800 t), vI (kI 4), vL (jB W 818 t (ix l2)), vI l2, vR (jR W 818 t)]) rfl ?_
  refine j_OI (j_callV (av := [vI l3]) (st := [vI (kI 4), vL (jB W 818 t (ix l2)), vI l2, vR (jR W 818 t)]) hx hr (Or.inl q1750) q1133 q1134 rfl md_fpg_wordsOf np_fpg_wordsOf (cpg_wordsOf (jR W 800 t) l3 W) (by decide) (Nat.le_of_ble_eq_true rfl) h49 (by decide) (by decide +kernel)) (fun q58 _ => ?_)
  refine j_runA hx 3 (tb := [(116, .imul), (117, .i2l), (118, .ladd)]) (jtb_ok (by decide +kernel)) (pc' := 119) (lv' := [(0, vR t), (1, vI a1), (2, vI l2), (3, vI l3)]) (st' := [vL ((jB W 818 t (ix l2)) + (((kI 4) * q58).toInt64)), vI l2, vR (jR W 818 t)]) rfl ?_
  refine j_gd (fun h59 => ?_)
  refine j_last hx (f := 818) (o := t) kd818 rfl (by decide +kernel) h59 ?_
  refine j_ltw rfl (fun W60 hc61 => ?_)
  have h62 : jC W60 t = 8 := (congrFun hc61 _).trans h48
  have h63 : jC W60 (jR W 800 t) = 2 := (congrFun hc61 _).trans h49
  exact wog_cluster_120 h l2 l3 W60
theorem wog_cluster_157 {x : jCx} {en : (fog_cluster_S ⊕ (jW)) → Option (Outcome × jW)} {t : Nat} {a1 : Int32} (h : hog_cluster x en t a1) (l2 : Int32) (W : jW) : jJ x 4 157 [(0, vR t), (1, vI a1), (2, vI l2)] [] W (fog_cluster_157 t a1 l2 W) en := by
  have h0 := h
  obtain ⟨hx, hm, hr, he, k10, k70, k157⟩ := h0
  unfold fog_cluster_157
  refine j_runA hx 2 (tb := [(157, .iload_n 2), (158, .aload_n 0)]) (jtb_ok (by decide +kernel)) (pc' := 159) (lv' := [(0, vR t), (1, vI a1), (2, vI l2)]) (st' := [vR t, vI l2]) rfl ?_
  refine j_gd (fun h70 => ?_)
  refine j_getR hx flX13_43 kl813 h70 (by decide) (by decide +kernel) ?_
  refine j_gd (fun h71 => ?_)
  refine j_getI hx flX13_146 kd601 h71 (by decide) (by decide +kernel) ?_
  refine j_icmp_ge hx (off := 23) (tgt := 188) (by decide +kernel) (by decide) (fun _ => ?_) (fun _ => ?_)
  · refine j_runA hx 1 (tb := [(188, .aload_n 0)]) (jtb_ok (by decide +kernel)) (pc' := 189) (lv' := [(0, vR t), (1, vI a1), (2, vI l2)]) (st' := [vR t]) rfl ?_
    refine j_WV (j_callV (av := []) (st := []) hx hr (Or.inl q1763) q1765 qs48 rfl md_fog_gather np_fog_gather (cog_gather t W) (by decide) (Nat.le_of_ble_eq_true rfl) h70 (by decide) (by decide +kernel)) (fun q72 _ => ?_)
    exact j_vret hx hm (by decide +kernel) (he _)
  refine j_runA hx 2 (tb := [(168, .aload_n 0), (169, .aload_n 0)]) (jtb_ok (by decide +kernel)) (pc' := 170) (lv' := [(0, vR t), (1, vI a1), (2, vI l2)]) (st' := [vR t, vR t]) rfl ?_
  refine j_getR hx flX13_43 kl813 h70 (by decide) (by decide +kernel) ?_
  refine j_getR hx flX13_123 kl600 h71 (by decide) (by decide +kernel) ?_
  refine j_runA hx 1 (tb := [(176, .iload_n 2)]) (jtb_ok (by decide +kernel)) (pc' := 177) (lv' := [(0, vR t), (1, vI a1), (2, vI l2)]) (st' := [vI l2, vR (jR W 600 (jR W 813 t)), vR t]) rfl ?_
  refine j_gd (fun h74 => ?_)
  refine j_iald hx (f := 600) (o := (jR W 813 t)) kd600 rfl (by decide +kernel) h74 ?_
  refine j_runA hx 1 (tb := [(178, .iload_n 1)]) (jtb_ok (by decide +kernel)) (pc' := 179) (lv' := [(0, vR t), (1, vI a1), (2, vI l2)]) (st' := [vI a1, vI (jA W 600 (jR W 813 t) (ix l2)), vR t]) rfl ?_
  refine j_WV (j_callV (av := [vI (jA W 600 (jR W 813 t) (ix l2)), vI a1]) (st := []) hx hr (Or.inl q1755) q1757 qs46 rfl md_fog_join np_fog_join (cog_join t (jA W 600 (jR W 813 t) (ix l2)) a1 W) (by decide) (Nat.le_of_ble_eq_true rfl) h70 (by decide) (by decide +kernel)) (fun q75 _ => ?_)
  refine j_runA hx 1 (tb := [(182, .iinc 2 1)]) (jtb_ok (by decide +kernel)) (pc' := 185) (lv' := [(2, vI (l2 + (kI 1))), (0, vR t), (1, vI a1)]) (st' := []) rfl ?_
  refine j_let (v := (l2 + (kI 1))) (lv := fun v77 => [(2, vI v77), (0, vR t), (1, vI a1)]) (st := fun _ => []) (fun v77 => ?_)
  refine j_goto hx (off := -28) (by decide +kernel) (tgt := 157) (by decide) ?_
  refine j_lv (lv' := [(0, vR t), (1, vI a1), (2, vI v77)]) ⟨rfl, rfl, rfl, trivial⟩ ?_
  exact k157 v77 q75
theorem wog_cluster_10 {x : jCx} {en : (fog_cluster_S ⊕ (jW)) → Option (Outcome × jW)} {t : Nat} {a1 : Int32} (h : hog_cluster x en t a1) (l2 : Int32) (W : jW) : jJ x 4 10 [(0, vR t), (1, vI a1), (2, vI l2)] [] W (fog_cluster_10 t a1 l2 W) en := by
  have h0 := h
  obtain ⟨hx, hm, hr, he, k10, k70, k157⟩ := h0
  unfold fog_cluster_10
  refine j_runA hx 2 (tb := [(10, .iload_n 2), (11, .aload_n 0)]) (jtb_ok (by decide +kernel)) (pc' := 12) (lv' := [(0, vR t), (1, vI a1), (2, vI l2)]) (st' := [vR t, vI l2]) rfl ?_
  refine j_gd (fun h9 => ?_)
  refine j_getR hx flX13_91 kl800 h9 (by decide) (by decide +kernel) ?_
  refine j_gd (fun h10 => ?_)
  refine j_OI (j_callV (av := []) (st := [vI l2]) hx hr (Or.inl q1594) q1558 q1559 rfl md_fpg_functionCount np_fpg_functionCount (cpg_functionCount (jR W 800 t) W) (by decide) (Nat.le_of_ble_eq_true rfl) h10 (by decide) (by decide +kernel)) (fun q11 _ => ?_)
  refine j_icmp_ge hx (off := 133) (tgt := 151) (by decide +kernel) (by decide) (fun _ => ?_) (fun _ => ?_)
  · refine j_runA hx 1 (tb := [(151, .aload_n 0)]) (jtb_ok (by decide +kernel)) (pc' := 152) (lv' := [(0, vR t), (1, vI a1), (2, vI l2)]) (st' := [vR t]) rfl ?_
    refine j_WV (j_callV (av := []) (st := []) hx hr (Or.inl q1751) q1753 qs45 rfl md_fog_sortByHeat np_fog_sortByHeat (cog_sortByHeat t W) (by decide) (Nat.le_of_ble_eq_true rfl) h9 (by decide) (by decide +kernel)) (fun q12 _ => ?_)
    refine j_runA hx 2 (tb := [(155, .iconst 0), (156, .istore_n 2)]) (jtb_ok (by decide +kernel)) (pc' := 157) (lv' := [(2, vI (kI 0)), (0, vR t), (1, vI a1)]) (st' := []) rfl ?_
    refine j_lv (lv' := [(0, vR t), (1, vI a1), (2, vI (kI 0))]) ⟨rfl, rfl, rfl, trivial⟩ ?_
    exact k157 (kI 0) q12
  refine j_runA hx 1 (tb := [(21, .aload_n 0)]) (jtb_ok (by decide +kernel)) (pc' := 22) (lv' := [(0, vR t), (1, vI a1), (2, vI l2)]) (st' := [vR t]) rfl ?_
  refine j_getR hx flX13_46 kl814 h9 (by decide) (by decide +kernel) ?_
  refine j_runA hx 2 (tb := [(25, .iload_n 2), (26, .iload_n 2)]) (jtb_ok (by decide +kernel)) (pc' := 27) (lv' := [(0, vR t), (1, vI a1), (2, vI l2)]) (st' := [vI l2, vI l2, vR (jR W 814 t)]) rfl ?_
  refine j_gd (fun h14 => ?_)
  refine j_iast hx (f := 814) (o := t) kd814 rfl (by decide +kernel) h14 ?_
  refine j_ltw rfl (fun W15 hc16 => ?_)
  have h17 : jC W15 t = 8 := (congrFun hc16 _).trans h9
  have h18 : jC W15 (jR W 800 t) = 2 := (congrFun hc16 _).trans h10
  refine j_runA hx 1 (tb := [(28, .aload_n 0)]) (jtb_ok (by decide +kernel)) (pc' := 29) (lv' := [(0, vR t), (1, vI a1), (2, vI l2)]) (st' := [vR t]) rfl ?_
  refine j_getR hx flX13_49 kl815 h17 (by decide) (by decide +kernel) ?_
  refine j_runA hx 2 (tb := [(32, .iload_n 2), (33, .iconst (-1))]) (jtb_ok (by decide +kernel)) (pc' := 34) (lv' := [(0, vR t), (1, vI a1), (2, vI l2)]) (st' := [vI (kI (-1)), vI l2, vR (jR W15 815 t)]) rfl ?_
  refine j_gd (fun h20 => ?_)
  refine j_iast hx (f := 815) (o := t) kd815 rfl (by decide +kernel) h20 ?_
  refine j_ltw rfl (fun W21 hc22 => ?_)
  have h23 : jC W21 t = 8 := (congrFun hc22 _).trans h17
  have h24 : jC W21 (jR W 800 t) = 2 := (congrFun hc22 _).trans h18
  refine j_runA hx 1 (tb := [(35, .aload_n 0)]) (jtb_ok (by decide +kernel)) (pc' := 36) (lv' := [(0, vR t), (1, vI a1), (2, vI l2)]) (st' := [vR t]) rfl ?_
  refine j_getR hx flX13_52 kl816 h23 (by decide) (by decide +kernel) ?_
  refine j_runA hx 2 (tb := [(39, .iload_n 2), (40, .iload_n 2)]) (jtb_ok (by decide +kernel)) (pc' := 41) (lv' := [(0, vR t), (1, vI a1), (2, vI l2)]) (st' := [vI l2, vI l2, vR (jR W21 816 t)]) rfl ?_
  refine j_gd (fun h26 => ?_)
  refine j_iast hx (f := 816) (o := t) kd816 rfl (by decide +kernel) h26 ?_
  refine j_ltw rfl (fun W27 hc28 => ?_)
  have h29 : jC W27 t = 8 := (congrFun hc28 _).trans h23
  have h30 : jC W27 (jR W 800 t) = 2 := (congrFun hc28 _).trans h24
  refine j_runA hx 1 (tb := [(42, .aload_n 0)]) (jtb_ok (by decide +kernel)) (pc' := 43) (lv' := [(0, vR t), (1, vI a1), (2, vI l2)]) (st' := [vR t]) rfl ?_
  refine j_getR hx flX13_55 kl817 h29 (by decide) (by decide +kernel) ?_
  refine j_runA hx 2 (tb := [(46, .iload_n 2), (47, .aload_n 0)]) (jtb_ok (by decide +kernel)) (pc' := 48) (lv' := [(0, vR t), (1, vI a1), (2, vI l2)]) (st' := [vR t, vI l2, vR (jR W27 817 t)]) rfl ?_
  refine j_getR hx flX13_40 kl812 h29 (by decide) (by decide +kernel) ?_
  refine j_runA hx 1 (tb := [(51, .iload_n 2)]) (jtb_ok (by decide +kernel)) (pc' := 52) (lv' := [(0, vR t), (1, vI a1), (2, vI l2)]) (st' := [vI l2, vR (jR W27 812 t), vI l2, vR (jR W27 817 t)]) rfl ?_
  refine j_gd (fun h32 => ?_)
  refine j_lald hx (f := 812) (o := t) kd812 rfl (by decide +kernel) h32 ?_
  refine j_gd (fun h33 => ?_)
  refine j_last hx (f := 817) (o := t) kd817 rfl (by decide +kernel) h33 ?_
  refine j_ltw rfl (fun W34 hc35 => ?_)
  have h36 : jC W34 t = 8 := (congrFun hc35 _).trans h29
  have h37 : jC W34 (jR W 800 t) = 2 := (congrFun hc35 _).trans h30
  refine j_runA hx 1 (tb := [(54, .aload_n 0)]) (jtb_ok (by decide +kernel)) (pc' := 55) (lv' := [(0, vR t), (1, vI a1), (2, vI l2)]) (st' := [vR t]) rfl ?_
  refine j_getR hx flX13_58 kl818 h36 (by decide) (by decide +kernel) ?_
  refine j_runA hx 2 (tb := [(58, .iload_n 2), (59, .lconst 0)]) (jtb_ok (by decide +kernel)) (pc' := 60) (lv' := [(0, vR t), (1, vI a1), (2, vI l2)]) (st' := [vL (kJ 0), vI l2, vR (jR W34 818 t)]) rfl ?_
  refine j_gd (fun h39 => ?_)
  refine j_last hx (f := 818) (o := t) kd818 rfl (by decide +kernel) h39 ?_
  refine j_ltw rfl (fun W40 hc41 => ?_)
  have h42 : jC W40 t = 8 := (congrFun hc41 _).trans h36
  have h43 : jC W40 (jR W 800 t) = 2 := (congrFun hc41 _).trans h37
  refine j_runA hx 1 (tb := [(61, .aload_n 0)]) (jtb_ok (by decide +kernel)) (pc' := 62) (lv' := [(0, vR t), (1, vI a1), (2, vI l2)]) (st' := [vR t]) rfl ?_
  refine j_getR hx flX13_91 kl800 h42 (by decide) (by decide +kernel) ?_
  refine j_runA hx 1 (tb := [(65, .iload_n 2)]) (jtb_ok (by decide +kernel)) (pc' := 66) (lv' := [(0, vR t), (1, vI a1), (2, vI l2)]) (st' := [vI l2, vR (jR W40 800 t)]) rfl ?_
  refine j_gd (fun h45 => ?_)
  refine j_OI (j_callV (av := [vI l2]) (st := []) hx hr (Or.inl q1603) q1604 q1605 rfl md_fpg_firstBlock np_fpg_firstBlock (cpg_firstBlock (jR W40 800 t) l2 W40) (by decide) (Nat.le_of_ble_eq_true rfl) h45 (by decide) (by decide +kernel)) (fun q46 _ => ?_)
  refine j_runA hx 1 (tb := [(69, .istore_n 3)]) (jtb_ok (by decide +kernel)) (pc' := 70) (lv' := [(3, vI q46), (0, vR t), (1, vI a1), (2, vI l2)]) (st' := []) rfl ?_
  refine j_lv (lv' := [(0, vR t), (1, vI a1), (2, vI l2), (3, vI q46)]) ⟨rfl, rfl, rfl, rfl, trivial⟩ ?_
  exact k70 l2 q46 W40
theorem wog_cluster {x : jCx} {en : (fog_cluster_S ⊕ (jW)) → Option (Outcome × jW)} {t : Nat} {a1 : Int32} (h : hog_cluster x en t a1) (W : jW) : jJ x 4 0 [(0, vR t), (1, vI a1)] [] W (fog_cluster_0 t a1 W) en := by
  have h0 := h
  obtain ⟨hx, hm, hr, he, k10, k70, k157⟩ := h0
  unfold fog_cluster_0
  refine j_runA hx 1 (tb := [(0, .aload_n 0)]) (jtb_ok (by decide +kernel)) (pc' := 1) (lv' := [(0, vR t), (1, vI a1)]) (st' := [vR t]) rfl ?_
  refine j_gd (fun h1 => ?_)
  refine j_getR hx flX13_43 kl813 h1 (by decide) (by decide +kernel) ?_
  refine j_runA hx 1 (tb := [(4, .iconst 0)]) (jtb_ok (by decide +kernel)) (pc' := 5) (lv' := [(0, vR t), (1, vI a1)]) (st' := [vI (kI 0), vR (jR W 813 t)]) rfl ?_
  refine j_gd (fun h2 => ?_)
  refine j_putI hx fwX13_146 wf601 kd601 h2 (by decide) (by decide +kernel) (ni601 _) (fi601 _) ?_
  refine j_ltw rfl (fun W3 hc4 => ?_)
  have h5 : jC W3 t = 8 := (congrFun hc4 _).trans h1
  have h6 : jC W3 (jR W 813 t) = 6 := (congrFun hc4 _).trans h2
  refine j_runA hx 2 (tb := [(8, .iconst 0), (9, .istore_n 2)]) (jtb_ok (by decide +kernel)) (pc' := 10) (lv' := [(2, vI (kI 0)), (0, vR t), (1, vI a1)]) (st' := []) rfl ?_
  refine j_lv (lv' := [(0, vR t), (1, vI a1), (2, vI (kI 0))]) ⟨rfl, rfl, rfl, trivial⟩ ?_
  exact k10 (kI 0) W3
theorem cog_cluster (t : Nat) (a1 : Int32) (W : jW) : jM yX13_cluster cX13_cluster 4 (Option.none : Option Jvm.ClassFile.FieldType) [] 4 74 [vR t, vI a1] W ((fog_cluster t a1 W).bind (fun q => some (.returned none, q))) := by
  refine jM.of (Nat.le_of_ble_eq_true rfl) (fun x hx hm hr => ?_)
  refine j_begin (P := (Sum.elim (fun s => (10, [(0, vR t), (1, vI a1), (2, vI s.1)], s.2)) (Sum.elim (fun s => (70, [(0, vR t), (1, vI a1), (2, vI s.1), (3, vI s.2.1)], s.2.2)) (fun s => (157, [(0, vR t), (1, vI a1), (2, vI s.1)], s.2))))) (fun en he hk => ?_)
  have h : hog_cluster x en t a1 := ⟨hx, hm, hr, fun q => he _, fun l2 W => hk (.inl (l2, W)), fun l2 l3 W => hk (.inr (.inl (l2, l3, W))), fun l2 W => hk (.inr (.inr (l2, W)))⟩
  refine ⟨fun s => ?_, wog_cluster h W⟩
  rcases s with s | s | s
  · exact wog_cluster_10 h s.1 s.2
  · exact wog_cluster_70 h s.1 s.2.1 s.2.2
  · exact wog_cluster_157 h s.1 s.2
def hog_put (x : jCx) (en : (fog_put_S ⊕ (Int32 × jW)) → Option (Outcome × jW)) (t : Nat) (a1 : Int32) (a2 : Int32) : Prop :=
  jOK x RX13 cX13_put 6 ∧
  jMt x "put" (Option.some Jvm.ClassFile.FieldType.int) [] ∧
  jRm x 1 15 ∧
  (∀ q : Int32 × jW, en (.inr q) = some (.returned (some (.int q.1)), q.2)) ∧
  (∀ (l3 : Int32) (l4 : Int32) (l5 : Int32) (W : jW), jJ x 6 35 [(0, vR t), (1, vI a1), (2, vI a2), (3, vI l3), (4, vI l4), (5, vI l5)] [] W (some (.inl (l3, l4, l5, W))) en)
theorem wog_put_103 {x : jCx} {en : (fog_put_S ⊕ (Int32 × jW)) → Option (Outcome × jW)} {t : Nat} {a1 : Int32} {a2 : Int32} (h : hog_put x en t a1 a2) (l3 : Int32) (l4 : Int32) (l5 : Int32) (W : jW) : jJ x 6 103 [(0, vR t), (1, vI a1), (2, vI a2), (3, vI l3), (4, vI l4), (5, vI l5)] [] W (fog_put_103 t a1 a2 l3 l4 l5 W) en := by
  have h0 := h
  obtain ⟨hx, hm, hr, he, k35⟩ := h0
  unfold fog_put_103
  refine j_runA hx 1 (tb := [(103, .iinc 5 1)]) (jtb_ok (by decide +kernel)) (pc' := 106) (lv' := [(5, vI (l5 + (kI 1))), (0, vR t), (1, vI a1), (2, vI a2), (3, vI l3), (4, vI l4)]) (st' := []) rfl ?_
  refine j_let (v := (l5 + (kI 1))) (lv := fun v17 => [(5, vI v17), (0, vR t), (1, vI a1), (2, vI a2), (3, vI l3), (4, vI l4)]) (st := fun _ => []) (fun v17 => ?_)
  refine j_goto hx (off := -71) (by decide +kernel) (tgt := 35) (by decide) ?_
  refine j_lv (lv' := [(0, vR t), (1, vI a1), (2, vI a2), (3, vI l3), (4, vI l4), (5, vI v17)]) ⟨rfl, rfl, rfl, rfl, rfl, rfl, trivial⟩ ?_
  exact k35 l3 l4 v17 W
theorem wog_put_96 {x : jCx} {en : (fog_put_S ⊕ (Int32 × jW)) → Option (Outcome × jW)} {t : Nat} {a1 : Int32} {a2 : Int32} (h : hog_put x en t a1 a2) (l3 : Int32) (l4 : Int32) (l5 : Int32) (s0 : Int32) (s1 : Int32) (s2 : Nat) (W : jW) : jJ x 6 96 [(0, vR t), (1, vI a1), (2, vI a2), (3, vI l3), (4, vI l4), (5, vI l5)] [vI s0, vI s1, vR s2] W (fog_put_96 t a1 a2 l3 l4 l5 s0 s1 s2 W) en := by
  have h0 := h
  obtain ⟨hx, hm, hr, he, k35⟩ := h0
  unfold fog_put_96
  refine j_runA hx 2 (tb := [(96, .iadd), (97, .iload 5)]) (jtb_ok (by decide +kernel)) (pc' := 99) (lv' := [(0, vR t), (1, vI a1), (2, vI a2), (3, vI l3), (4, vI l4), (5, vI l5)]) (st' := [vI l5, vI (s1 + s0), vR s2]) rfl ?_
  refine j_gd (fun h19 => ?_)
  refine j_gd (fun h20 => ?_)
  refine j_iast hx (f := 9003) (o := s2) kd9003 h19 (by decide +kernel) h20 ?_
  refine j_ltw rfl (fun W21 hc22 => ?_)
  refine j_runA hx 1 (tb := [(100, .iinc 4 1)]) (jtb_ok (by decide +kernel)) (pc' := 103) (lv' := [(4, vI (l4 + (kI 1))), (0, vR t), (1, vI a1), (2, vI a2), (3, vI l3), (5, vI l5)]) (st' := []) rfl ?_
  refine j_let (v := (l4 + (kI 1))) (lv := fun v24 => [(4, vI v24), (0, vR t), (1, vI a1), (2, vI a2), (3, vI l3), (5, vI l5)]) (st := fun _ => []) (fun v24 => ?_)
  refine j_lv (lv' := [(0, vR t), (1, vI a1), (2, vI a2), (3, vI l3), (4, vI v24), (5, vI l5)]) ⟨rfl, rfl, rfl, rfl, rfl, rfl, trivial⟩ ?_
  exact wog_put_103 h l3 v24 l5 W21
theorem wog_put_35 {x : jCx} {en : (fog_put_S ⊕ (Int32 × jW)) → Option (Outcome × jW)} {t : Nat} {a1 : Int32} {a2 : Int32} (h : hog_put x en t a1 a2) (l3 : Int32) (l4 : Int32) (l5 : Int32) (W : jW) : jJ x 6 35 [(0, vR t), (1, vI a1), (2, vI a2), (3, vI l3), (4, vI l4), (5, vI l5)] [] W (fog_put_35 t a1 a2 l3 l4 l5 W) en := by
  have h0 := h
  obtain ⟨hx, hm, hr, he, k35⟩ := h0
  unfold fog_put_35
  refine j_runA hx 2 (tb := [(35, .iload 5), (37, .aload_n 0)]) (jtb_ok (by decide +kernel)) (pc' := 38) (lv' := [(0, vR t), (1, vI a1), (2, vI a2), (3, vI l3), (4, vI l4), (5, vI l5)]) (st' := [vR t, vI l5]) rfl ?_
  refine j_gd (fun h9 => ?_)
  refine j_getR hx flX13_91 kl800 h9 (by decide) (by decide +kernel) ?_
  refine j_runA hx 1 (tb := [(41, .iload_n 1)]) (jtb_ok (by decide +kernel)) (pc' := 42) (lv' := [(0, vR t), (1, vI a1), (2, vI a2), (3, vI l3), (4, vI l4), (5, vI l5)]) (st' := [vI a1, vR (jR W 800 t), vI l5]) rfl ?_
  refine j_gd (fun h10 => ?_)
  refine j_OI (j_callV (av := [vI a1]) (st := [vI l5]) hx hr (Or.inl q1603) q1604 q1605 rfl md_fpg_firstBlock np_fpg_firstBlock (cpg_firstBlock (jR W 800 t) a1 W) (by decide) (Nat.le_of_ble_eq_true rfl) h10 (by decide) (by decide +kernel)) (fun q11 _ => ?_)
  refine j_runA hx 1 (tb := [(45, .aload_n 0)]) (jtb_ok (by decide +kernel)) (pc' := 46) (lv' := [(0, vR t), (1, vI a1), (2, vI a2), (3, vI l3), (4, vI l4), (5, vI l5)]) (st' := [vR t, vI q11, vI l5]) rfl ?_
  refine j_getR hx flX13_91 kl800 h9 (by decide) (by decide +kernel) ?_
  refine j_runA hx 1 (tb := [(49, .iload_n 1)]) (jtb_ok (by decide +kernel)) (pc' := 50) (lv' := [(0, vR t), (1, vI a1), (2, vI a2), (3, vI l3), (4, vI l4), (5, vI l5)]) (st' := [vI a1, vR (jR W 800 t), vI q11, vI l5]) rfl ?_
  refine j_OI (j_callV (av := [vI a1]) (st := [vI q11, vI l5]) hx hr (Or.inl q1730) q1731 q1732 rfl md_fpg_blockCount np_fpg_blockCount (cpg_blockCount (jR W 800 t) a1 W) (by decide) (Nat.le_of_ble_eq_true rfl) h10 (by decide) (by decide +kernel)) (fun q12 _ => ?_)
  refine j_runA hx 1 (tb := [(53, .iadd)]) (jtb_ok (by decide +kernel)) (pc' := 54) (lv' := [(0, vR t), (1, vI a1), (2, vI a2), (3, vI l3), (4, vI l4), (5, vI l5)]) (st' := [vI (q11 + q12), vI l5]) rfl ?_
  refine j_icmp_ge hx (off := 55) (tgt := 109) (by decide +kernel) (by decide) (fun _ => ?_) (fun _ => ?_)
  · refine j_runA hx 3 (tb := [(109, .iload_n 2), (110, .iload 4), (112, .iadd)]) (jtb_ok (by decide +kernel)) (pc' := 113) (lv' := [(0, vR t), (1, vI a1), (2, vI a2), (3, vI l3), (4, vI l4), (5, vI l5)]) (st' := [vI (a2 + l4)]) rfl ?_
    exact j_iret hx hm (by decide +kernel) rfl (he _)
  refine j_runA hx 1 (tb := [(57, .aload_n 0)]) (jtb_ok (by decide +kernel)) (pc' := 58) (lv' := [(0, vR t), (1, vI a1), (2, vI a2), (3, vI l3), (4, vI l4), (5, vI l5)]) (st' := [vR t]) rfl ?_
  refine j_getR hx flX13_17 kl806 h9 (by decide) (by decide +kernel) ?_
  refine j_runA hx 1 (tb := [(61, .iload 5)]) (jtb_ok (by decide +kernel)) (pc' := 63) (lv' := [(0, vR t), (1, vI a1), (2, vI a2), (3, vI l3), (4, vI l4), (5, vI l5)]) (st' := [vI l5, vR (jR W 806 t)]) rfl ?_
  refine j_gd (fun h13 => ?_)
  refine j_zald hx (f := 806) (o := t) kd806 rfl (by decide +kernel) h13 ?_
  refine j_if_ne hx (off := 6) (tgt := 70) (by decide +kernel) (by decide) (fun _ => ?_) (fun _ => ?_)
  · refine j_runA hx 1 (tb := [(70, .aload_n 0)]) (jtb_ok (by decide +kernel)) (pc' := 71) (lv' := [(0, vR t), (1, vI a1), (2, vI a2), (3, vI l3), (4, vI l4), (5, vI l5)]) (st' := [vR t]) rfl ?_
    refine j_getR hx flX13_13 kl804 h9 (by decide) (by decide +kernel) ?_
    refine j_runA hx 2 (tb := [(74, .iload_n 2), (75, .iload_n 3)]) (jtb_ok (by decide +kernel)) (pc' := 76) (lv' := [(0, vR t), (1, vI a1), (2, vI a2), (3, vI l3), (4, vI l4), (5, vI l5)]) (st' := [vI l3, vI a2, vR (jR W 804 t)]) rfl ?_
    refine j_if_eq hx (off := 13) (tgt := 89) (by decide +kernel) (by decide) (fun _ => ?_) (fun _ => ?_)
    · refine j_runA hx 1 (tb := [(89, .aload_n 0)]) (jtb_ok (by decide +kernel)) (pc' := 90) (lv' := [(0, vR t), (1, vI a1), (2, vI a2), (3, vI l3), (4, vI l4), (5, vI l5)]) (st' := [vR t, vI a2, vR (jR W 804 t)]) rfl ?_
      refine j_getR hx flX13_67 kl821 h9 (by decide) (by decide +kernel) ?_
      refine j_runA hx 1 (tb := [(93, .iload 5)]) (jtb_ok (by decide +kernel)) (pc' := 95) (lv' := [(0, vR t), (1, vI a1), (2, vI a2), (3, vI l3), (4, vI l4), (5, vI l5)]) (st' := [vI l5, vR (jR W 821 t), vI a2, vR (jR W 804 t)]) rfl ?_
      refine j_gd (fun h14 => ?_)
      refine j_iald hx (f := 821) (o := t) kd821 rfl (by decide +kernel) h14 ?_
      exact wog_put_96 h l3 l4 l5 (jA W 821 t (ix l5)) a2 (jR W 804 t) W
    refine j_runA hx 1 (tb := [(79, .aload_n 0)]) (jtb_ok (by decide +kernel)) (pc' := 80) (lv' := [(0, vR t), (1, vI a1), (2, vI a2), (3, vI l3), (4, vI l4), (5, vI l5)]) (st' := [vR t, vI a2, vR (jR W 804 t)]) rfl ?_
    refine j_getR hx flX13_64 kl820 h9 (by decide) (by decide +kernel) ?_
    refine j_runA hx 1 (tb := [(83, .iload 5)]) (jtb_ok (by decide +kernel)) (pc' := 85) (lv' := [(0, vR t), (1, vI a1), (2, vI a2), (3, vI l3), (4, vI l4), (5, vI l5)]) (st' := [vI l5, vR (jR W 820 t), vI a2, vR (jR W 804 t)]) rfl ?_
    refine j_gd (fun h15 => ?_)
    refine j_iald hx (f := 820) (o := t) kd820 rfl (by decide +kernel) h15 ?_
    refine j_goto hx (off := 10) (by decide +kernel) (tgt := 96) (by decide) ?_
    exact wog_put_96 h l3 l4 l5 (jA W 820 t (ix l5)) a2 (jR W 804 t) W
  refine j_goto hx (off := 36) (by decide +kernel) (tgt := 103) (by decide) ?_
  exact wog_put_103 h l3 l4 l5 W
theorem wog_put_21 {x : jCx} {en : (fog_put_S ⊕ (Int32 × jW)) → Option (Outcome × jW)} {t : Nat} {a1 : Int32} {a2 : Int32} (h : hog_put x en t a1 a2) (s0 : Int32) (W : jW) : jJ x 6 21 [(0, vR t), (1, vI a1), (2, vI a2)] [vI s0] W (fog_put_21 t a1 a2 s0 W) en := by
  have h0 := h
  obtain ⟨hx, hm, hr, he, k35⟩ := h0
  unfold fog_put_21
  refine j_runA hx 4 (tb := [(21, .istore_n 3), (22, .iconst 0), (23, .istore 4), (25, .aload_n 0)]) (jtb_ok (by decide +kernel)) (pc' := 26) (lv' := [(4, vI (kI 0)), (3, vI s0), (0, vR t), (1, vI a1), (2, vI a2)]) (st' := [vR t]) rfl ?_
  refine j_gd (fun h5 => ?_)
  refine j_getR hx flX13_91 kl800 h5 (by decide) (by decide +kernel) ?_
  refine j_runA hx 1 (tb := [(29, .iload_n 1)]) (jtb_ok (by decide +kernel)) (pc' := 30) (lv' := [(4, vI (kI 0)), (3, vI s0), (0, vR t), (1, vI a1), (2, vI a2)]) (st' := [vI a1, vR (jR W 800 t)]) rfl ?_
  refine j_gd (fun h6 => ?_)
  refine j_OI (j_callV (av := [vI a1]) (st := []) hx hr (Or.inl q1603) q1604 q1605 rfl md_fpg_firstBlock np_fpg_firstBlock (cpg_firstBlock (jR W 800 t) a1 W) (by decide) (Nat.le_of_ble_eq_true rfl) h6 (by decide) (by decide +kernel)) (fun q7 _ => ?_)
  refine j_runA hx 1 (tb := [(33, .istore 5)]) (jtb_ok (by decide +kernel)) (pc' := 35) (lv' := [(5, vI q7), (4, vI (kI 0)), (3, vI s0), (0, vR t), (1, vI a1), (2, vI a2)]) (st' := []) rfl ?_
  refine j_lv (lv' := [(0, vR t), (1, vI a1), (2, vI a2), (3, vI s0), (4, vI (kI 0)), (5, vI q7)]) ⟨rfl, rfl, rfl, rfl, rfl, rfl, trivial⟩ ?_
  exact k35 s0 (kI 0) q7 W
theorem wog_put {x : jCx} {en : (fog_put_S ⊕ (Int32 × jW)) → Option (Outcome × jW)} {t : Nat} {a1 : Int32} {a2 : Int32} (h : hog_put x en t a1 a2) (W : jW) : jJ x 6 0 [(0, vR t), (1, vI a1), (2, vI a2)] [] W (fog_put_0 t a1 a2 W) en := by
  have h0 := h
  obtain ⟨hx, hm, hr, he, k35⟩ := h0
  unfold fog_put_0
  refine j_runA hx 1 (tb := [(0, .aload_n 0)]) (jtb_ok (by decide +kernel)) (pc' := 1) (lv' := [(0, vR t), (1, vI a1), (2, vI a2)]) (st' := [vR t]) rfl ?_
  refine j_gd (fun h1 => ?_)
  refine j_getR hx flX13_82 kl826 h1 (by decide) (by decide +kernel) ?_
  refine j_runA hx 1 (tb := [(4, .iload_n 1)]) (jtb_ok (by decide +kernel)) (pc' := 5) (lv' := [(0, vR t), (1, vI a1), (2, vI a2)]) (st' := [vI a1, vR (jR W 826 t)]) rfl ?_
  refine j_gd (fun h2 => ?_)
  refine j_lald hx (f := 826) (o := t) kd826 rfl (by decide +kernel) h2 ?_
  refine j_runA hx 1 (tb := [(6, .aload_n 0)]) (jtb_ok (by decide +kernel)) (pc' := 7) (lv' := [(0, vR t), (1, vI a1), (2, vI a2)]) (st' := [vR t, vL (jB W 826 t (ix a1))]) rfl ?_
  refine j_getR hx flX13_85 kl827 h1 (by decide) (by decide +kernel) ?_
  refine j_runA hx 1 (tb := [(10, .iload_n 1)]) (jtb_ok (by decide +kernel)) (pc' := 11) (lv' := [(0, vR t), (1, vI a1), (2, vI a2)]) (st' := [vI a1, vR (jR W 827 t), vL (jB W 826 t (ix a1))]) rfl ?_
  refine j_gd (fun h3 => ?_)
  refine j_lald hx (f := 827) (o := t) kd827 rfl (by decide +kernel) h3 ?_
  refine j_lcmp_le hx (off := 7) (tgt := 20) (by decide +kernel) (by decide +kernel) (by decide) (fun _ => ?_) (fun _ => ?_)
  · refine j_runA hx 1 (tb := [(20, .iconst 0)]) (jtb_ok (by decide +kernel)) (pc' := 21) (lv' := [(0, vR t), (1, vI a1), (2, vI a2)]) (st' := [vI (kI 0)]) rfl ?_
    exact wog_put_21 h (kI 0) W
  refine j_runA hx 1 (tb := [(16, .iconst 1)]) (jtb_ok (by decide +kernel)) (pc' := 17) (lv' := [(0, vR t), (1, vI a1), (2, vI a2)]) (st' := [vI (kI 1)]) rfl ?_
  refine j_goto hx (off := 4) (by decide +kernel) (tgt := 21) (by decide) ?_
  exact wog_put_21 h (kI 1) W
theorem cog_put (t : Nat) (a1 : Int32) (a2 : Int32) (W : jW) : jM yX13_put cX13_put 6 (Option.some Jvm.ClassFile.FieldType.int) [] 1 15 [vR t, vI a1, vI a2] W ((fog_put t a1 a2 W).bind (fun q => some (.returned (some (.int q.1)), q.2))) := by
  refine jM.of (Nat.le_of_ble_eq_true rfl) (fun x hx hm hr => ?_)
  refine j_begin (P := (fun s => (35, [(0, vR t), (1, vI a1), (2, vI a2), (3, vI s.1), (4, vI s.2.1), (5, vI s.2.2.1)], s.2.2.2))) (fun en he hk => ?_)
  have h : hog_put x en t a1 a2 := ⟨hx, hm, hr, fun q => he _, fun l3 l4 l5 W => hk (l3, l4, l5, W)⟩
  exact ⟨fun s => wog_put_35 h s.1 s.2.1 s.2.2.1 s.2.2.2, wog_put h W⟩
def hog_lay (x : jCx) (en : (fog_lay_S ⊕ (jW)) → Option (Outcome × jW)) (t : Nat) (a1 : Int32) : Prop :=
  jOK x RX13 cX13_lay 4 ∧
  jMt x "lay" (Option.none : Option Jvm.ClassFile.FieldType) [] ∧
  jRm x 5 103 ∧
  (∀ q : jW, en (.inr q) = some (.returned none, q)) ∧
  (∀ (l2 : Int32) (W : jW), jJ x 4 10 [(0, vR t), (1, vI a1), (2, vI l2)] [] W (some (.inl (.inl (l2, W)))) en) ∧
  (∀ (l2 : Int32) (W : jW), jJ x 4 48 [(0, vR t), (1, vI a1), (2, vI l2)] [] W (some (.inl (.inr (.inl (l2, W))))) en) ∧
  (∀ (l2 : Int32) (l3 : Int32) (W : jW), jJ x 4 69 [(0, vR t), (1, vI a1), (2, vI l2), (3, vI l3)] [] W (some (.inl (.inr (.inr (.inl (l2, l3, W)))))) en) ∧
  (∀ (l2 : Int32) (l3 : Int32) (W : jW), jJ x 4 109 [(0, vR t), (1, vI a1), (2, vI l2), (3, vI l3)] [] W (some (.inl (.inr (.inr (.inr (l2, l3, W)))))) en)
theorem wog_lay_69 {x : jCx} {en : (fog_lay_S ⊕ (jW)) → Option (Outcome × jW)} {t : Nat} {a1 : Int32} (h : hog_lay x en t a1) (l2 : Int32) (l3 : Int32) (W : jW) : jJ x 4 69 [(0, vR t), (1, vI a1), (2, vI l2), (3, vI l3)] [] W (fog_lay_69 t a1 l2 l3 W) en := by
  have h0 := h
  obtain ⟨hx, hm, hr, he, k10, k48, k69, k109⟩ := h0
  unfold fog_lay_69
  refine j_runA hx 1 (tb := [(69, .iload_n 3)]) (jtb_ok (by decide +kernel)) (pc' := 70) (lv' := [(0, vR t), (1, vI a1), (2, vI l2), (3, vI l3)]) (st' := [vI l3]) rfl ?_
  refine j_if_lt hx (off := 26) (tgt := 96) (by decide +kernel) (by decide) (fun _ => ?_) (fun _ => ?_)
  · refine j_runA hx 1 (tb := [(96, .iinc 2 1)]) (jtb_ok (by decide +kernel)) (pc' := 99) (lv' := [(2, vI (l2 + (kI 1))), (0, vR t), (1, vI a1), (3, vI l3)]) (st' := []) rfl ?_
    refine j_let (v := (l2 + (kI 1))) (lv := fun v31 => [(2, vI v31), (0, vR t), (1, vI a1), (3, vI l3)]) (st := fun _ => []) (fun v31 => ?_)
    refine j_goto hx (off := -51) (by decide +kernel) (tgt := 48) (by decide) ?_
    refine j_lv (lv' := [(0, vR t), (1, vI a1), (2, vI v31)]) ⟨rfl, rfl, rfl, trivial⟩ ?_
    exact k48 v31 W
  refine j_runA hx 4 (tb := [(73, .aload_n 0), (74, .aload_n 0), (75, .iload_n 3), (76, .aload_n 0)]) (jtb_ok (by decide +kernel)) (pc' := 77) (lv' := [(0, vR t), (1, vI a1), (2, vI l2), (3, vI l3)]) (st' := [vR t, vI l3, vR t, vR t]) rfl ?_
  refine j_gd (fun h32 => ?_)
  refine j_getI hx flX13_186 kd805 h32 (by decide) (by decide +kernel) ?_
  refine j_WI (j_callV (av := [vI l3, vI (jI W 805 t)]) (st := [vR t]) hx hr (Or.inl q1776) q1778 qs51 rfl md_fog_put np_fog_put (cog_put t l3 (jI W 805 t) W) (by decide) (Nat.le_of_ble_eq_true rfl) h32 (by decide) (by decide +kernel)) (fun q33 _ => ?_)
  refine j_gd (fun h35 => ?_)
  refine j_putI hx fwX13_186 wf805 kd805 h35 (by decide) (by decide +kernel) (ni805 _) (fi805 _) ?_
  refine j_ltw rfl (fun W36 hc37 => ?_)
  have h38 : jC W36 t = 8 := (congrFun hc37 _).trans h35
  refine j_runA hx 1 (tb := [(86, .aload_n 0)]) (jtb_ok (by decide +kernel)) (pc' := 87) (lv' := [(0, vR t), (1, vI a1), (2, vI l2), (3, vI l3)]) (st' := [vR t]) rfl ?_
  refine j_getR hx flX13_49 kl815 h38 (by decide) (by decide +kernel) ?_
  refine j_runA hx 1 (tb := [(90, .iload_n 3)]) (jtb_ok (by decide +kernel)) (pc' := 91) (lv' := [(0, vR t), (1, vI a1), (2, vI l2), (3, vI l3)]) (st' := [vI l3, vR (jR W36 815 t)]) rfl ?_
  refine j_gd (fun h40 => ?_)
  refine j_iald hx (f := 815) (o := t) kd815 rfl (by decide +kernel) h40 ?_
  refine j_runA hx 1 (tb := [(92, .istore_n 3)]) (jtb_ok (by decide +kernel)) (pc' := 93) (lv' := [(3, vI (jA W36 815 t (ix l3))), (0, vR t), (1, vI a1), (2, vI l2)]) (st' := []) rfl ?_
  refine j_let (v := (jA W36 815 t (ix l3))) (lv := fun v41 => [(3, vI v41), (0, vR t), (1, vI a1), (2, vI l2)]) (st := fun _ => []) (fun v41 => ?_)
  refine j_goto hx (off := -24) (by decide +kernel) (tgt := 69) (by decide) ?_
  refine j_lv (lv' := [(0, vR t), (1, vI a1), (2, vI l2), (3, vI v41)]) ⟨rfl, rfl, rfl, rfl, trivial⟩ ?_
  exact k69 l2 v41 W36
theorem wog_lay_142 {x : jCx} {en : (fog_lay_S ⊕ (jW)) → Option (Outcome × jW)} {t : Nat} {a1 : Int32} (h : hog_lay x en t a1) (l2 : Int32) (l3 : Int32) (W : jW) : jJ x 4 142 [(0, vR t), (1, vI a1), (2, vI l2), (3, vI l3)] [] W (fog_lay_142 t a1 l2 l3 W) en := by
  have h0 := h
  obtain ⟨hx, hm, hr, he, k10, k48, k69, k109⟩ := h0
  unfold fog_lay_142
  refine j_runA hx 1 (tb := [(142, .iinc 3 1)]) (jtb_ok (by decide +kernel)) (pc' := 145) (lv' := [(3, vI (l3 + (kI 1))), (0, vR t), (1, vI a1), (2, vI l2)]) (st' := []) rfl ?_
  refine j_let (v := (l3 + (kI 1))) (lv := fun v55 => [(3, vI v55), (0, vR t), (1, vI a1), (2, vI l2)]) (st := fun _ => []) (fun v55 => ?_)
  refine j_goto hx (off := -36) (by decide +kernel) (tgt := 109) (by decide) ?_
  refine j_lv (lv' := [(0, vR t), (1, vI a1), (2, vI l2), (3, vI v55)]) ⟨rfl, rfl, rfl, rfl, trivial⟩ ?_
  exact k109 l2 v55 W
theorem wog_lay_109 {x : jCx} {en : (fog_lay_S ⊕ (jW)) → Option (Outcome × jW)} {t : Nat} {a1 : Int32} (h : hog_lay x en t a1) (l2 : Int32) (l3 : Int32) (W : jW) : jJ x 4 109 [(0, vR t), (1, vI a1), (2, vI l2), (3, vI l3)] [] W (fog_lay_109 t a1 l2 l3 W) en := by
  have h0 := h
  obtain ⟨hx, hm, hr, he, k10, k48, k69, k109⟩ := h0
  unfold fog_lay_109
  refine j_runA hx 2 (tb := [(109, .iload_n 3), (110, .aload_n 0)]) (jtb_ok (by decide +kernel)) (pc' := 111) (lv' := [(0, vR t), (1, vI a1), (2, vI l2), (3, vI l3)]) (st' := [vR t, vI l3]) rfl ?_
  refine j_gd (fun h43 => ?_)
  refine j_getR hx flX13_91 kl800 h43 (by decide) (by decide +kernel) ?_
  refine j_gd (fun h44 => ?_)
  refine j_getI hx flX13_95 kd217 h44 (by decide) (by decide +kernel) ?_
  refine j_icmp_ge hx (off := 31) (tgt := 148) (by decide +kernel) (by decide) (fun _ => ?_) (fun _ => ?_)
  · exact j_vret hx hm (by decide +kernel) (he _)
  refine j_runA hx 1 (tb := [(120, .aload_n 0)]) (jtb_ok (by decide +kernel)) (pc' := 121) (lv' := [(0, vR t), (1, vI a1), (2, vI l2), (3, vI l3)]) (st' := [vR t]) rfl ?_
  refine j_getR hx flX13_17 kl806 h43 (by decide) (by decide +kernel) ?_
  refine j_runA hx 1 (tb := [(124, .iload_n 3)]) (jtb_ok (by decide +kernel)) (pc' := 125) (lv' := [(0, vR t), (1, vI a1), (2, vI l2), (3, vI l3)]) (st' := [vI l3, vR (jR W 806 t)]) rfl ?_
  refine j_gd (fun h45 => ?_)
  refine j_zald hx (f := 806) (o := t) kd806 rfl (by decide +kernel) h45 ?_
  refine j_if_eq hx (off := 6) (tgt := 132) (by decide +kernel) (by decide) (fun _ => ?_) (fun _ => ?_)
  · refine j_runA hx 1 (tb := [(132, .aload_n 0)]) (jtb_ok (by decide +kernel)) (pc' := 133) (lv' := [(0, vR t), (1, vI a1), (2, vI l2), (3, vI l3)]) (st' := [vR t]) rfl ?_
    refine j_getR hx flX13_13 kl804 h43 (by decide) (by decide +kernel) ?_
    refine j_runA hx 2 (tb := [(136, .iload_n 2), (137, .iload_n 3)]) (jtb_ok (by decide +kernel)) (pc' := 138) (lv' := [(0, vR t), (1, vI a1), (2, vI l2), (3, vI l3)]) (st' := [vI l3, vI l2, vR (jR W 804 t)]) rfl ?_
    refine j_gd (fun h46 => ?_)
    refine j_gd (fun h47 => ?_)
    refine j_iast hx (f := 9003) (o := (jR W 804 t)) kd9003 h46 (by decide +kernel) h47 ?_
    refine j_ltw rfl (fun W48 hc49 => ?_)
    have h50 : jC W48 t = 8 := (congrFun hc49 _).trans h43
    have h51 : jC W48 (jR W 800 t) = 2 := (congrFun hc49 _).trans h44
    refine j_runA hx 1 (tb := [(139, .iinc 2 1)]) (jtb_ok (by decide +kernel)) (pc' := 142) (lv' := [(2, vI (l2 + (kI 1))), (0, vR t), (1, vI a1), (3, vI l3)]) (st' := []) rfl ?_
    refine j_let (v := (l2 + (kI 1))) (lv := fun v53 => [(2, vI v53), (0, vR t), (1, vI a1), (3, vI l3)]) (st := fun _ => []) (fun v53 => ?_)
    refine j_lv (lv' := [(0, vR t), (1, vI a1), (2, vI v53), (3, vI l3)]) ⟨rfl, rfl, rfl, rfl, trivial⟩ ?_
    exact wog_lay_142 h v53 l3 W48
  refine j_goto hx (off := 13) (by decide +kernel) (tgt := 142) (by decide) ?_
  exact wog_lay_142 h l2 l3 W
theorem wog_lay_48 {x : jCx} {en : (fog_lay_S ⊕ (jW)) → Option (Outcome × jW)} {t : Nat} {a1 : Int32} (h : hog_lay x en t a1) (l2 : Int32) (W : jW) : jJ x 4 48 [(0, vR t), (1, vI a1), (2, vI l2)] [] W (fog_lay_48 t a1 l2 W) en := by
  have h0 := h
  obtain ⟨hx, hm, hr, he, k10, k48, k69, k109⟩ := h0
  unfold fog_lay_48
  refine j_runA hx 2 (tb := [(48, .iload_n 2), (49, .aload_n 0)]) (jtb_ok (by decide +kernel)) (pc' := 50) (lv' := [(0, vR t), (1, vI a1), (2, vI l2)]) (st' := [vR t, vI l2]) rfl ?_
  refine j_gd (fun h25 => ?_)
  refine j_getR hx flX13_43 kl813 h25 (by decide) (by decide +kernel) ?_
  refine j_gd (fun h26 => ?_)
  refine j_getI hx flX13_146 kd601 h26 (by decide) (by decide +kernel) ?_
  refine j_icmp_ge hx (off := 46) (tgt := 102) (by decide +kernel) (by decide) (fun _ => ?_) (fun _ => ?_)
  · refine j_runA hx 1 (tb := [(102, .aload_n 0)]) (jtb_ok (by decide +kernel)) (pc' := 103) (lv' := [(0, vR t), (1, vI a1), (2, vI l2)]) (st' := [vR t]) rfl ?_
    refine j_getI hx flX13_186 kd805 h25 (by decide) (by decide +kernel) ?_
    refine j_runA hx 1 (tb := [(106, .istore_n 2)]) (jtb_ok (by decide +kernel)) (pc' := 107) (lv' := [(2, vI (jI W 805 t)), (0, vR t), (1, vI a1)]) (st' := []) rfl ?_
    refine j_let (v := (jI W 805 t)) (lv := fun v27 => [(2, vI v27), (0, vR t), (1, vI a1)]) (st := fun _ => []) (fun v27 => ?_)
    refine j_runA hx 2 (tb := [(107, .iconst 0), (108, .istore_n 3)]) (jtb_ok (by decide +kernel)) (pc' := 109) (lv' := [(3, vI (kI 0)), (2, vI v27), (0, vR t), (1, vI a1)]) (st' := []) rfl ?_
    refine j_lv (lv' := [(0, vR t), (1, vI a1), (2, vI v27), (3, vI (kI 0))]) ⟨rfl, rfl, rfl, rfl, trivial⟩ ?_
    exact k109 v27 (kI 0) W
  refine j_runA hx 1 (tb := [(59, .aload_n 0)]) (jtb_ok (by decide +kernel)) (pc' := 60) (lv' := [(0, vR t), (1, vI a1), (2, vI l2)]) (st' := [vR t]) rfl ?_
  refine j_getR hx flX13_43 kl813 h25 (by decide) (by decide +kernel) ?_
  refine j_getR hx flX13_123 kl600 h26 (by decide) (by decide +kernel) ?_
  refine j_runA hx 1 (tb := [(66, .iload_n 2)]) (jtb_ok (by decide +kernel)) (pc' := 67) (lv' := [(0, vR t), (1, vI a1), (2, vI l2)]) (st' := [vI l2, vR (jR W 600 (jR W 813 t))]) rfl ?_
  refine j_gd (fun h28 => ?_)
  refine j_iald hx (f := 600) (o := (jR W 813 t)) kd600 rfl (by decide +kernel) h28 ?_
  refine j_runA hx 1 (tb := [(68, .istore_n 3)]) (jtb_ok (by decide +kernel)) (pc' := 69) (lv' := [(3, vI (jA W 600 (jR W 813 t) (ix l2))), (0, vR t), (1, vI a1), (2, vI l2)]) (st' := []) rfl ?_
  refine j_let (v := (jA W 600 (jR W 813 t) (ix l2))) (lv := fun v29 => [(3, vI v29), (0, vR t), (1, vI a1), (2, vI l2)]) (st := fun _ => []) (fun v29 => ?_)
  refine j_lv (lv' := [(0, vR t), (1, vI a1), (2, vI l2), (3, vI v29)]) ⟨rfl, rfl, rfl, rfl, trivial⟩ ?_
  exact k69 l2 v29 W
theorem wog_lay_10 {x : jCx} {en : (fog_lay_S ⊕ (jW)) → Option (Outcome × jW)} {t : Nat} {a1 : Int32} (h : hog_lay x en t a1) (l2 : Int32) (W : jW) : jJ x 4 10 [(0, vR t), (1, vI a1), (2, vI l2)] [] W (fog_lay_10 t a1 l2 W) en := by
  have h0 := h
  obtain ⟨hx, hm, hr, he, k10, k48, k69, k109⟩ := h0
  unfold fog_lay_10
  refine j_runA hx 2 (tb := [(10, .iload_n 2), (11, .aload_n 0)]) (jtb_ok (by decide +kernel)) (pc' := 12) (lv' := [(0, vR t), (1, vI a1), (2, vI l2)]) (st' := [vR t, vI l2]) rfl ?_
  refine j_gd (fun h8 => ?_)
  refine j_getR hx flX13_91 kl800 h8 (by decide) (by decide +kernel) ?_
  refine j_gd (fun h9 => ?_)
  refine j_OI (j_callV (av := []) (st := [vI l2]) hx hr (Or.inl q1594) q1558 q1559 rfl md_fpg_functionCount np_fpg_functionCount (cpg_functionCount (jR W 800 t) W) (by decide) (Nat.le_of_ble_eq_true rfl) h9 (by decide) (by decide +kernel)) (fun q10 _ => ?_)
  refine j_icmp_ge hx (off := 14) (tgt := 32) (by decide +kernel) (by decide) (fun _ => ?_) (fun _ => ?_)
  · refine j_runA hx 1 (tb := [(32, .aload_n 0)]) (jtb_ok (by decide +kernel)) (pc' := 33) (lv' := [(0, vR t), (1, vI a1), (2, vI l2)]) (st' := [vR t]) rfl ?_
    refine j_WV (j_callV (av := []) (st := []) hx hr (Or.inl q1742) q1744 qs43 rfl md_fog_weigh np_fog_weigh (cog_weigh t W) (by decide) (Nat.le_of_ble_eq_true rfl) h8 (by decide) (by decide +kernel)) (fun q11 _ => ?_)
    refine j_runA hx 2 (tb := [(36, .aload_n 0), (37, .iload_n 1)]) (jtb_ok (by decide +kernel)) (pc' := 38) (lv' := [(0, vR t), (1, vI a1), (2, vI l2)]) (st' := [vI a1, vR t]) rfl ?_
    refine j_gd (fun h13 => ?_)
    refine j_WV (j_callV (av := [vI a1]) (st := []) hx hr (Or.inl q1746) q1748 qs44 rfl md_fog_cluster np_fog_cluster (cog_cluster t a1 q11) (by decide) (Nat.le_of_ble_eq_true rfl) h13 (by decide) (by decide +kernel)) (fun q14 _ => ?_)
    refine j_runA hx 2 (tb := [(41, .aload_n 0), (42, .iconst 0)]) (jtb_ok (by decide +kernel)) (pc' := 43) (lv' := [(0, vR t), (1, vI a1), (2, vI l2)]) (st' := [vI (kI 0), vR t]) rfl ?_
    refine j_gd (fun h16 => ?_)
    refine j_putI hx fwX13_186 wf805 kd805 h16 (by decide) (by decide +kernel) (ni805 _) (fi805 _) ?_
    refine j_ltw rfl (fun W17 hc18 => ?_)
    have h19 : jC W17 t = 8 := (congrFun hc18 _).trans h16
    refine j_runA hx 2 (tb := [(46, .iconst 0), (47, .istore_n 2)]) (jtb_ok (by decide +kernel)) (pc' := 48) (lv' := [(2, vI (kI 0)), (0, vR t), (1, vI a1)]) (st' := []) rfl ?_
    refine j_lv (lv' := [(0, vR t), (1, vI a1), (2, vI (kI 0))]) ⟨rfl, rfl, rfl, trivial⟩ ?_
    exact k48 (kI 0) W17
  refine j_runA hx 2 (tb := [(21, .aload_n 0), (22, .iload_n 2)]) (jtb_ok (by decide +kernel)) (pc' := 23) (lv' := [(0, vR t), (1, vI a1), (2, vI l2)]) (st' := [vI l2, vR t]) rfl ?_
  refine j_WV (j_callV (av := [vI l2]) (st := []) hx hr (Or.inl q1726) q1728 qs40 rfl md_fog_place np_fog_place (cog_place t l2 W) (by decide) (Nat.le_of_ble_eq_true rfl) h8 (by decide) (by decide +kernel)) (fun q21 _ => ?_)
  refine j_runA hx 1 (tb := [(26, .iinc 2 1)]) (jtb_ok (by decide +kernel)) (pc' := 29) (lv' := [(2, vI (l2 + (kI 1))), (0, vR t), (1, vI a1)]) (st' := []) rfl ?_
  refine j_let (v := (l2 + (kI 1))) (lv := fun v23 => [(2, vI v23), (0, vR t), (1, vI a1)]) (st := fun _ => []) (fun v23 => ?_)
  refine j_goto hx (off := -19) (by decide +kernel) (tgt := 10) (by decide) ?_
  refine j_lv (lv' := [(0, vR t), (1, vI a1), (2, vI v23)]) ⟨rfl, rfl, rfl, trivial⟩ ?_
  exact k10 v23 q21
theorem wog_lay {x : jCx} {en : (fog_lay_S ⊕ (jW)) → Option (Outcome × jW)} {t : Nat} {a1 : Int32} (h : hog_lay x en t a1) (W : jW) : jJ x 4 0 [(0, vR t), (1, vI a1)] [] W (fog_lay_0 t a1 W) en := by
  have h0 := h
  obtain ⟨hx, hm, hr, he, k10, k48, k69, k109⟩ := h0
  unfold fog_lay_0
  refine j_runA hx 1 (tb := [(0, .aload_n 0)]) (jtb_ok (by decide +kernel)) (pc' := 1) (lv' := [(0, vR t), (1, vI a1)]) (st' := [vR t]) rfl ?_
  refine j_gd (fun h1 => ?_)
  refine j_WV (j_callV (av := []) (st := []) hx hr (Or.inl q1696) q1698 qs34 rfl md_fog_roomForRows np_fog_roomForRows (cog_roomForRows t W) (by decide) (Nat.le_of_ble_eq_true rfl) h1 (by decide) (by decide +kernel)) (fun q2 _ => ?_)
  refine j_runA hx 1 (tb := [(4, .aload_n 0)]) (jtb_ok (by decide +kernel)) (pc' := 5) (lv' := [(0, vR t), (1, vI a1)]) (st' := [vR t]) rfl ?_
  refine j_gd (fun h4 => ?_)
  refine j_WV (j_callV (av := []) (st := []) hx hr (Or.inl q1700) q1702 qs35 rfl md_fog_chain np_fog_chain (cog_chain t q2) (by decide) (Nat.le_of_ble_eq_true rfl) h4 (by decide) (by decide +kernel)) (fun q5 _ => ?_)
  refine j_runA hx 2 (tb := [(8, .iconst 0), (9, .istore_n 2)]) (jtb_ok (by decide +kernel)) (pc' := 10) (lv' := [(2, vI (kI 0)), (0, vR t), (1, vI a1)]) (st' := []) rfl ?_
  refine j_lv (lv' := [(0, vR t), (1, vI a1), (2, vI (kI 0))]) ⟨rfl, rfl, rfl, trivial⟩ ?_
  exact k10 (kI 0) q5
theorem cog_lay (t : Nat) (a1 : Int32) (W : jW) : jM yX13_lay cX13_lay 4 (Option.none : Option Jvm.ClassFile.FieldType) [] 5 103 [vR t, vI a1] W ((fog_lay t a1 W).bind (fun q => some (.returned none, q))) := by
  refine jM.of (Nat.le_of_ble_eq_true rfl) (fun x hx hm hr => ?_)
  refine j_begin (P := (Sum.elim (fun s => (10, [(0, vR t), (1, vI a1), (2, vI s.1)], s.2)) (Sum.elim (fun s => (48, [(0, vR t), (1, vI a1), (2, vI s.1)], s.2)) (Sum.elim (fun s => (69, [(0, vR t), (1, vI a1), (2, vI s.1), (3, vI s.2.1)], s.2.2)) (fun s => (109, [(0, vR t), (1, vI a1), (2, vI s.1), (3, vI s.2.1)], s.2.2)))))) (fun en he hk => ?_)
  have h : hog_lay x en t a1 := ⟨hx, hm, hr, fun q => he _, fun l2 W => hk (.inl (l2, W)), fun l2 W => hk (.inr (.inl (l2, W))), fun l2 l3 W => hk (.inr (.inr (.inl (l2, l3, W)))), fun l2 l3 W => hk (.inr (.inr (.inr (l2, l3, W))))⟩
  refine ⟨fun s => ?_, wog_lay h W⟩
  rcases s with s | s | s | s
  · exact wog_lay_10 h s.1 s.2
  · exact wog_lay_48 h s.1 s.2
  · exact wog_lay_69 h s.1 s.2.1 s.2.2
  · exact wog_lay_109 h s.1 s.2.1 s.2.2
def hwr_isLeft (x : jCx) (en : (Int32) → Option (Outcome × jW)) (t : Nat) (a1 : Int32) (W : jW) : Prop :=
  jOK x RX14 cX14_isLeft 2 ∧
  jMt x "isLeft" (Option.some Jvm.ClassFile.FieldType.boolean) [] ∧
  jRm x 1 13 ∧
  (∀ q : Int32, en q = some (.returned (some (.int q)), W))
theorem wwr_isLeft_62 {x : jCx} {en : (Int32) → Option (Outcome × jW)} {W : jW} {t : Nat} {a1 : Int32} (h : hwr_isLeft x en t a1 W) : jJ x 2 62 [(0, vR t), (1, vI a1)] [] W (fwr_isLeft_62 t a1 W) en := by
  have h0 := h
  obtain ⟨hx, hm, hr, he⟩ := h0
  unfold fwr_isLeft_62
  refine j_runA hx 1 (tb := [(62, .iconst 0)]) (jtb_ok (by decide +kernel)) (pc' := 63) (lv' := [(0, vR t), (1, vI a1)]) (st' := [vI (kI 0)]) rfl ?_
  exact j_iret hx hm (by decide +kernel) jz0n (he _)
theorem wwr_isLeft {x : jCx} {en : (Int32) → Option (Outcome × jW)} {W : jW} {t : Nat} {a1 : Int32} (h : hwr_isLeft x en t a1 W) : jJ x 2 0 [(0, vR t), (1, vI a1)] [] W (fwr_isLeft t a1 W) en := by
  have h0 := h
  obtain ⟨hx, hm, hr, he⟩ := h0
  unfold fwr_isLeft
  refine j_runA hx 1 (tb := [(0, .aload_n 0)]) (jtb_ok (by decide +kernel)) (pc' := 1) (lv' := [(0, vR t), (1, vI a1)]) (st' := [vR t]) rfl ?_
  refine j_gd (fun h1 => ?_)
  refine j_getR hx flX14_30 kl900 h1 (by decide) (by decide +kernel) ?_
  refine j_gd (fun h2 => ?_)
  refine j_getR hx flX14_68 kl214 h2 (by decide) (by decide +kernel) ?_
  refine j_runA hx 1 (tb := [(7, .iload_n 1)]) (jtb_ok (by decide +kernel)) (pc' := 8) (lv' := [(0, vR t), (1, vI a1)]) (st' := [vI a1, vR (jR W 214 (jR W 900 t))]) rfl ?_
  refine j_gd (fun h3 => ?_)
  refine j_iald hx (f := 214) (o := (jR W 900 t)) kd214 rfl (by decide +kernel) h3 ?_
  refine j_runA hx 1 (tb := [(9, .iconst 1)]) (jtb_ok (by decide +kernel)) (pc' := 10) (lv' := [(0, vR t), (1, vI a1)]) (st' := [vI (kI 1), vI (jA W 214 (jR W 900 t) (ix a1))]) rfl ?_
  refine j_icmp_ne hx (off := 52) (tgt := 62) (by decide +kernel) (by decide) (fun _ => ?_) (fun _ => ?_)
  · exact wwr_isLeft_62 h
  refine j_runA hx 1 (tb := [(13, .aload_n 0)]) (jtb_ok (by decide +kernel)) (pc' := 14) (lv' := [(0, vR t), (1, vI a1)]) (st' := [vR t]) rfl ?_
  refine j_getR hx flX14_30 kl900 h1 (by decide) (by decide +kernel) ?_
  refine j_getR hx flX14_71 kl215 h2 (by decide) (by decide +kernel) ?_
  refine j_runA hx 1 (tb := [(20, .iload_n 1)]) (jtb_ok (by decide +kernel)) (pc' := 21) (lv' := [(0, vR t), (1, vI a1)]) (st' := [vI a1, vR (jR W 215 (jR W 900 t))]) rfl ?_
  refine j_gd (fun h4 => ?_)
  refine j_iald hx (f := 215) (o := (jR W 900 t)) kd215 rfl (by decide +kernel) h4 ?_
  refine j_runA hx 1 (tb := [(22, .aload_n 0)]) (jtb_ok (by decide +kernel)) (pc' := 23) (lv' := [(0, vR t), (1, vI a1)]) (st' := [vR t, vI (jA W 215 (jR W 900 t) (ix a1))]) rfl ?_
  refine j_getR hx flX14_15 kl906 h1 (by decide) (by decide +kernel) ?_
  refine j_runA hx 1 (tb := [(26, .iload_n 1)]) (jtb_ok (by decide +kernel)) (pc' := 27) (lv' := [(0, vR t), (1, vI a1)]) (st' := [vI a1, vR (jR W 906 t), vI (jA W 215 (jR W 900 t) (ix a1))]) rfl ?_
  refine j_gd (fun h5 => ?_)
  refine j_iald hx (f := 906) (o := t) kd906 rfl (by decide +kernel) h5 ?_
  refine j_icmp_ne hx (off := 34) (tgt := 62) (by decide +kernel) (by decide) (fun _ => ?_) (fun _ => ?_)
  · exact wwr_isLeft_62 h
  refine j_runA hx 1 (tb := [(31, .aload_n 0)]) (jtb_ok (by decide +kernel)) (pc' := 32) (lv' := [(0, vR t), (1, vI a1)]) (st' := [vR t]) rfl ?_
  refine j_getR hx flX14_30 kl900 h1 (by decide) (by decide +kernel) ?_
  refine j_runA hx 1 (tb := [(35, .iload_n 1)]) (jtb_ok (by decide +kernel)) (pc' := 36) (lv' := [(0, vR t), (1, vI a1)]) (st' := [vI a1, vR (jR W 900 t)]) rfl ?_
  refine j_OI (j_callV (av := [vI a1]) (st := []) hx hr (Or.inl q1793) q1133 q1134 rfl md_fpg_wordsOf np_fpg_wordsOf (cpg_wordsOf (jR W 900 t) a1 W) (by decide) (Nat.le_of_ble_eq_true rfl) h2 (by decide) (by decide +kernel)) (fun q6 _ => ?_)
  refine j_runA hx 1 (tb := [(39, .iconst 1)]) (jtb_ok (by decide +kernel)) (pc' := 40) (lv' := [(0, vR t), (1, vI a1)]) (st' := [vI (kI 1), vI q6]) rfl ?_
  refine j_icmp_le hx (off := 22) (tgt := 62) (by decide +kernel) (by decide) (fun _ => ?_) (fun _ => ?_)
  · exact wwr_isLeft_62 h
  refine j_runA hx 1 (tb := [(43, .aload_n 0)]) (jtb_ok (by decide +kernel)) (pc' := 44) (lv' := [(0, vR t), (1, vI a1)]) (st' := [vR t]) rfl ?_
  refine j_getR hx flX14_30 kl900 h1 (by decide) (by decide +kernel) ?_
  refine j_getR hx flX14_71 kl215 h2 (by decide) (by decide +kernel) ?_
  refine j_runA hx 1 (tb := [(50, .iload_n 1)]) (jtb_ok (by decide +kernel)) (pc' := 51) (lv' := [(0, vR t), (1, vI a1)]) (st' := [vI a1, vR (jR W 215 (jR W 900 t))]) rfl ?_
  refine j_gd (fun h7 => ?_)
  refine j_iald hx (f := 215) (o := (jR W 900 t)) kd215 rfl (by decide +kernel) h7 ?_
  refine j_runA hx 3 (tb := [(52, .iload_n 1), (53, .iconst 1), (54, .iadd)]) (jtb_ok (by decide +kernel)) (pc' := 55) (lv' := [(0, vR t), (1, vI a1)]) (st' := [vI (a1 + (kI 1)), vI (jA W 215 (jR W 900 t) (ix a1))]) rfl ?_
  refine j_icmp_eq hx (off := 7) (tgt := 62) (by decide +kernel) (by decide) (fun _ => ?_) (fun _ => ?_)
  · exact wwr_isLeft_62 h
  refine j_runA hx 1 (tb := [(58, .iconst 1)]) (jtb_ok (by decide +kernel)) (pc' := 59) (lv' := [(0, vR t), (1, vI a1)]) (st' := [vI (kI 1)]) rfl ?_
  refine j_goto hx (off := 4) (by decide +kernel) (tgt := 63) (by decide) ?_
  exact j_iret hx hm (by decide +kernel) jz1n (he _)
theorem cwr_isLeft (t : Nat) (a1 : Int32) (W : jW) : jM yX14_isLeft cX14_isLeft 2 (Option.some Jvm.ClassFile.FieldType.boolean) [] 1 13 [vR t, vI a1] W ((fwr_isLeft t a1 W).bind (fun q => some (.returned (some (.int q)), W))) := 
  jM.of (Nat.le_of_ble_eq_true rfl) (fun x hx hm hr => wwr_isLeft ⟨hx, hm, hr, fun _ => rfl⟩)
def hwr_isTurned (x : jCx) (en : (Int32) → Option (Outcome × jW)) (t : Nat) (a1 : Int32) (W : jW) : Prop :=
  jOK x RX14 cX14_isTurned 2 ∧
  jMt x "isTurned" (Option.some Jvm.ClassFile.FieldType.boolean) [] ∧
  jRm x 0 0 ∧
  (∀ q : Int32, en q = some (.returned (some (.int q)), W))
theorem wwr_isTurned_47 {x : jCx} {en : (Int32) → Option (Outcome × jW)} {W : jW} {t : Nat} {a1 : Int32} (h : hwr_isTurned x en t a1 W) : jJ x 2 47 [(0, vR t), (1, vI a1)] [] W (fwr_isTurned_47 t a1 W) en := by
  have h0 := h
  obtain ⟨hx, hm, hr, he⟩ := h0
  unfold fwr_isTurned_47
  refine j_runA hx 1 (tb := [(47, .iconst 0)]) (jtb_ok (by decide +kernel)) (pc' := 48) (lv' := [(0, vR t), (1, vI a1)]) (st' := [vI (kI 0)]) rfl ?_
  exact j_iret hx hm (by decide +kernel) jz0n (he _)
theorem wwr_isTurned {x : jCx} {en : (Int32) → Option (Outcome × jW)} {W : jW} {t : Nat} {a1 : Int32} (h : hwr_isTurned x en t a1 W) : jJ x 2 0 [(0, vR t), (1, vI a1)] [] W (fwr_isTurned t a1 W) en := by
  have h0 := h
  obtain ⟨hx, hm, hr, he⟩ := h0
  unfold fwr_isTurned
  refine j_runA hx 1 (tb := [(0, .aload_n 0)]) (jtb_ok (by decide +kernel)) (pc' := 1) (lv' := [(0, vR t), (1, vI a1)]) (st' := [vR t]) rfl ?_
  refine j_gd (fun h1 => ?_)
  refine j_getR hx flX14_30 kl900 h1 (by decide) (by decide +kernel) ?_
  refine j_gd (fun h2 => ?_)
  refine j_getR hx flX14_68 kl214 h2 (by decide) (by decide +kernel) ?_
  refine j_runA hx 1 (tb := [(7, .iload_n 1)]) (jtb_ok (by decide +kernel)) (pc' := 8) (lv' := [(0, vR t), (1, vI a1)]) (st' := [vI a1, vR (jR W 214 (jR W 900 t))]) rfl ?_
  refine j_gd (fun h3 => ?_)
  refine j_iald hx (f := 214) (o := (jR W 900 t)) kd214 rfl (by decide +kernel) h3 ?_
  refine j_runA hx 1 (tb := [(9, .iconst 3)]) (jtb_ok (by decide +kernel)) (pc' := 10) (lv' := [(0, vR t), (1, vI a1)]) (st' := [vI (kI 3), vI (jA W 214 (jR W 900 t) (ix a1))]) rfl ?_
  refine j_icmp_ne hx (off := 37) (tgt := 47) (by decide +kernel) (by decide) (fun _ => ?_) (fun _ => ?_)
  · exact wwr_isTurned_47 h
  refine j_runA hx 1 (tb := [(13, .aload_n 0)]) (jtb_ok (by decide +kernel)) (pc' := 14) (lv' := [(0, vR t), (1, vI a1)]) (st' := [vR t]) rfl ?_
  refine j_getR hx flX14_15 kl906 h1 (by decide) (by decide +kernel) ?_
  refine j_runA hx 1 (tb := [(17, .iload_n 1)]) (jtb_ok (by decide +kernel)) (pc' := 18) (lv' := [(0, vR t), (1, vI a1)]) (st' := [vI a1, vR (jR W 906 t)]) rfl ?_
  refine j_gd (fun h4 => ?_)
  refine j_iald hx (f := 906) (o := t) kd906 rfl (by decide +kernel) h4 ?_
  refine j_runA hx 3 (tb := [(19, .iload_n 1), (20, .iconst 1), (21, .iadd)]) (jtb_ok (by decide +kernel)) (pc' := 22) (lv' := [(0, vR t), (1, vI a1)]) (st' := [vI (a1 + (kI 1)), vI (jA W 906 t (ix a1))]) rfl ?_
  refine j_icmp_eq hx (off := 25) (tgt := 47) (by decide +kernel) (by decide) (fun _ => ?_) (fun _ => ?_)
  · exact wwr_isTurned_47 h
  refine j_runA hx 1 (tb := [(25, .aload_n 0)]) (jtb_ok (by decide +kernel)) (pc' := 26) (lv' := [(0, vR t), (1, vI a1)]) (st' := [vR t]) rfl ?_
  refine j_getR hx flX14_30 kl900 h1 (by decide) (by decide +kernel) ?_
  refine j_getR hx flX14_71 kl215 h2 (by decide) (by decide +kernel) ?_
  refine j_runA hx 1 (tb := [(32, .iload_n 1)]) (jtb_ok (by decide +kernel)) (pc' := 33) (lv' := [(0, vR t), (1, vI a1)]) (st' := [vI a1, vR (jR W 215 (jR W 900 t))]) rfl ?_
  refine j_gd (fun h5 => ?_)
  refine j_iald hx (f := 215) (o := (jR W 900 t)) kd215 rfl (by decide +kernel) h5 ?_
  refine j_runA hx 1 (tb := [(34, .aload_n 0)]) (jtb_ok (by decide +kernel)) (pc' := 35) (lv' := [(0, vR t), (1, vI a1)]) (st' := [vR t, vI (jA W 215 (jR W 900 t) (ix a1))]) rfl ?_
  refine j_getR hx flX14_15 kl906 h1 (by decide) (by decide +kernel) ?_
  refine j_runA hx 1 (tb := [(38, .iload_n 1)]) (jtb_ok (by decide +kernel)) (pc' := 39) (lv' := [(0, vR t), (1, vI a1)]) (st' := [vI a1, vR (jR W 906 t), vI (jA W 215 (jR W 900 t) (ix a1))]) rfl ?_
  refine j_gd (fun h6 => ?_)
  refine j_iald hx (f := 906) (o := t) kd906 rfl (by decide +kernel) h6 ?_
  refine j_icmp_ne hx (off := 7) (tgt := 47) (by decide +kernel) (by decide) (fun _ => ?_) (fun _ => ?_)
  · exact wwr_isTurned_47 h
  refine j_runA hx 1 (tb := [(43, .iconst 1)]) (jtb_ok (by decide +kernel)) (pc' := 44) (lv' := [(0, vR t), (1, vI a1)]) (st' := [vI (kI 1)]) rfl ?_
  refine j_goto hx (off := 4) (by decide +kernel) (tgt := 48) (by decide) ?_
  exact j_iret hx hm (by decide +kernel) jz1n (he _)
theorem cwr_isTurned (t : Nat) (a1 : Int32) (W : jW) : jM yX14_isTurned cX14_isTurned 2 (Option.some Jvm.ClassFile.FieldType.boolean) [] 0 0 [vR t, vI a1] W ((fwr_isTurned t a1 W).bind (fun q => some (.returned (some (.int q)), W))) := 
  jM.of (Nat.le_of_ble_eq_true rfl) (fun x hx hm hr => wwr_isTurned ⟨hx, hm, hr, fun _ => rfl⟩)
def hwr_isPut (x : jCx) (en : (Int32) → Option (Outcome × jW)) (t : Nat) (a1 : Int32) (W : jW) : Prop :=
  jOK x RX14 cX14_isPut 2 ∧
  jMt x "isPut" (Option.some Jvm.ClassFile.FieldType.boolean) [] ∧
  jRm x 1 13 ∧
  (∀ q : Int32, en q = some (.returned (some (.int q)), W))
theorem wwr_isPut_35 {x : jCx} {en : (Int32) → Option (Outcome × jW)} {W : jW} {t : Nat} {a1 : Int32} (h : hwr_isPut x en t a1 W) : jJ x 2 35 [(0, vR t), (1, vI a1)] [] W (fwr_isPut_35 t a1 W) en := by
  have h0 := h
  obtain ⟨hx, hm, hr, he⟩ := h0
  unfold fwr_isPut_35
  refine j_runA hx 1 (tb := [(35, .iconst 0)]) (jtb_ok (by decide +kernel)) (pc' := 36) (lv' := [(0, vR t), (1, vI a1)]) (st' := [vI (kI 0)]) rfl ?_
  exact j_iret hx hm (by decide +kernel) jz0n (he _)
theorem wwr_isPut {x : jCx} {en : (Int32) → Option (Outcome × jW)} {W : jW} {t : Nat} {a1 : Int32} (h : hwr_isPut x en t a1 W) : jJ x 2 0 [(0, vR t), (1, vI a1)] [] W (fwr_isPut t a1 W) en := by
  have h0 := h
  obtain ⟨hx, hm, hr, he⟩ := h0
  unfold fwr_isPut
  refine j_runA hx 1 (tb := [(0, .aload_n 0)]) (jtb_ok (by decide +kernel)) (pc' := 1) (lv' := [(0, vR t), (1, vI a1)]) (st' := [vR t]) rfl ?_
  refine j_gd (fun h1 => ?_)
  refine j_getR hx flX14_30 kl900 h1 (by decide) (by decide +kernel) ?_
  refine j_runA hx 1 (tb := [(4, .iload_n 1)]) (jtb_ok (by decide +kernel)) (pc' := 5) (lv' := [(0, vR t), (1, vI a1)]) (st' := [vI a1, vR (jR W 900 t)]) rfl ?_
  refine j_gd (fun h2 => ?_)
  refine j_OI (j_callV (av := [vI a1]) (st := []) hx hr (Or.inl q1802) q1633 q1634 rfl md_fpg_nextOf np_fpg_nextOf (cpg_nextOf (jR W 900 t) a1 W) (by decide) (Nat.le_of_ble_eq_true rfl) h2 (by decide) (by decide +kernel)) (fun q3 _ => ?_)
  refine j_if_lt hx (off := 27) (tgt := 35) (by decide +kernel) (by decide) (fun _ => ?_) (fun _ => ?_)
  · exact wwr_isPut_35 h
  refine j_runA hx 1 (tb := [(11, .aload_n 0)]) (jtb_ok (by decide +kernel)) (pc' := 12) (lv' := [(0, vR t), (1, vI a1)]) (st' := [vR t]) rfl ?_
  refine j_getR hx flX14_15 kl906 h1 (by decide) (by decide +kernel) ?_
  refine j_runA hx 1 (tb := [(15, .iload_n 1)]) (jtb_ok (by decide +kernel)) (pc' := 16) (lv' := [(0, vR t), (1, vI a1)]) (st' := [vI a1, vR (jR W 906 t)]) rfl ?_
  refine j_gd (fun h4 => ?_)
  refine j_iald hx (f := 906) (o := t) kd906 rfl (by decide +kernel) h4 ?_
  refine j_runA hx 3 (tb := [(17, .iload_n 1), (18, .iconst 1), (19, .iadd)]) (jtb_ok (by decide +kernel)) (pc' := 20) (lv' := [(0, vR t), (1, vI a1)]) (st' := [vI (a1 + (kI 1)), vI (jA W 906 t (ix a1))]) rfl ?_
  refine j_icmp_eq hx (off := 15) (tgt := 35) (by decide +kernel) (by decide) (fun _ => ?_) (fun _ => ?_)
  · exact wwr_isPut_35 h
  refine j_runA hx 2 (tb := [(23, .aload_n 0), (24, .iload_n 1)]) (jtb_ok (by decide +kernel)) (pc' := 25) (lv' := [(0, vR t), (1, vI a1)]) (st' := [vI a1, vR t]) rfl ?_
  refine j_OI (j_callV (av := [vI a1]) (st := []) hx hr (Or.inl q1803) q1805 qs56 rfl md_fwr_isTurned np_fwr_isTurned (cwr_isTurned t a1 W) (by decide) (Nat.le_of_ble_eq_true rfl) h1 (by decide) (by decide +kernel)) (fun q5 _ => ?_)
  refine j_if_ne hx (off := 7) (tgt := 35) (by decide +kernel) (by decide) (fun _ => ?_) (fun _ => ?_)
  · exact wwr_isPut_35 h
  refine j_runA hx 1 (tb := [(31, .iconst 1)]) (jtb_ok (by decide +kernel)) (pc' := 32) (lv' := [(0, vR t), (1, vI a1)]) (st' := [vI (kI 1)]) rfl ?_
  refine j_goto hx (off := 4) (by decide +kernel) (tgt := 36) (by decide) ?_
  exact j_iret hx hm (by decide +kernel) jz1n (he _)
theorem cwr_isPut (t : Nat) (a1 : Int32) (W : jW) : jM yX14_isPut cX14_isPut 2 (Option.some Jvm.ClassFile.FieldType.boolean) [] 1 13 [vR t, vI a1] W ((fwr_isPut t a1 W).bind (fun q => some (.returned (some (.int q)), W))) := 
  jM.of (Nat.le_of_ble_eq_true rfl) (fun x hx hm hr => wwr_isPut ⟨hx, hm, hr, fun _ => rfl⟩)
def hwr_sizeOf (x : jCx) (en : (Int32) → Option (Outcome × jW)) (t : Nat) (a1 : Int32) (W : jW) : Prop :=
  jOK x RX14 cX14_sizeOf 2 ∧
  jMt x "sizeOf" (Option.some Jvm.ClassFile.FieldType.int) [] ∧
  jRm x 2 28 ∧
  (∀ q : Int32, en q = some (.returned (some (.int q)), W))
theorem wwr_sizeOf_51 {x : jCx} {en : (Int32) → Option (Outcome × jW)} {W : jW} {t : Nat} {a1 : Int32} (h : hwr_sizeOf x en t a1 W) (s0 : Int32) (s1 : Int32) (s2 : Int32) : jJ x 2 51 [(0, vR t), (1, vI a1)] [vI s0, vI s1, vI s2] W (fwr_sizeOf_51 t a1 s0 s1 s2 W) en := by
  have h0 := h
  obtain ⟨hx, hm, hr, he⟩ := h0
  unfold fwr_sizeOf_51
  refine j_runA hx 2 (tb := [(51, .iadd), (52, .imul)]) (jtb_ok (by decide +kernel)) (pc' := 53) (lv' := [(0, vR t), (1, vI a1)]) (st' := [vI (s2 * (s1 + s0))]) rfl ?_
  exact j_iret hx hm (by decide +kernel) rfl (he _)
theorem wwr_sizeOf_36 {x : jCx} {en : (Int32) → Option (Outcome × jW)} {W : jW} {t : Nat} {a1 : Int32} (h : hwr_sizeOf x en t a1 W) (s0 : Int32) (s1 : Int32) (s2 : Int32) : jJ x 2 36 [(0, vR t), (1, vI a1)] [vI s0, vI s1, vI s2] W (fwr_sizeOf_36 t a1 s0 s1 s2 W) en := by
  have h0 := h
  obtain ⟨hx, hm, hr, he⟩ := h0
  unfold fwr_sizeOf_36
  refine j_runA hx 2 (tb := [(36, .iadd), (37, .aload_n 0)]) (jtb_ok (by decide +kernel)) (pc' := 38) (lv' := [(0, vR t), (1, vI a1)]) (st' := [vR t, vI (s1 + s0), vI s2]) rfl ?_
  refine j_gd (fun h9 => ?_)
  refine j_getR hx flX14_18 kl907 h9 (by decide) (by decide +kernel) ?_
  refine j_runA hx 1 (tb := [(41, .iload_n 1)]) (jtb_ok (by decide +kernel)) (pc' := 42) (lv' := [(0, vR t), (1, vI a1)]) (st' := [vI a1, vR (jR W 907 t), vI (s1 + s0), vI s2]) rfl ?_
  refine j_gd (fun h10 => ?_)
  refine j_zald hx (f := 907) (o := t) kd907 rfl (by decide +kernel) h10 ?_
  refine j_if_eq hx (off := 7) (tgt := 50) (by decide +kernel) (by decide) (fun _ => ?_) (fun _ => ?_)
  · refine j_runA hx 1 (tb := [(50, .iconst 0)]) (jtb_ok (by decide +kernel)) (pc' := 51) (lv' := [(0, vR t), (1, vI a1)]) (st' := [vI (kI 0), vI (s1 + s0), vI s2]) rfl ?_
    exact wwr_sizeOf_51 h (kI 0) (s1 + s0) s2
  refine j_runA hx 1 (tb := [(46, .iconst 1)]) (jtb_ok (by decide +kernel)) (pc' := 47) (lv' := [(0, vR t), (1, vI a1)]) (st' := [vI (kI 1), vI (s1 + s0), vI s2]) rfl ?_
  refine j_goto hx (off := 4) (by decide +kernel) (tgt := 51) (by decide) ?_
  exact wwr_sizeOf_51 h (kI 1) (s1 + s0) s2
theorem wwr_sizeOf_22 {x : jCx} {en : (Int32) → Option (Outcome × jW)} {W : jW} {t : Nat} {a1 : Int32} (h : hwr_sizeOf x en t a1 W) (s0 : Int32) (s1 : Int32) (s2 : Int32) : jJ x 2 22 [(0, vR t), (1, vI a1)] [vI s0, vI s1, vI s2] W (fwr_sizeOf_22 t a1 s0 s1 s2 W) en := by
  have h0 := h
  obtain ⟨hx, hm, hr, he⟩ := h0
  unfold fwr_sizeOf_22
  refine j_runA hx 3 (tb := [(22, .iadd), (23, .aload_n 0), (24, .iload_n 1)]) (jtb_ok (by decide +kernel)) (pc' := 25) (lv' := [(0, vR t), (1, vI a1)]) (st' := [vI a1, vR t, vI (s1 + s0), vI s2]) rfl ?_
  refine j_gd (fun h6 => ?_)
  refine j_OI (j_callV (av := [vI a1]) (st := [vI (s1 + s0), vI s2]) hx hr (Or.inl q1798) q1800 qs55 rfl md_fwr_isPut np_fwr_isPut (cwr_isPut t a1 W) (by decide) (Nat.le_of_ble_eq_true rfl) h6 (by decide) (by decide +kernel)) (fun q7 _ => ?_)
  refine j_if_eq hx (off := 7) (tgt := 35) (by decide +kernel) (by decide) (fun _ => ?_) (fun _ => ?_)
  · refine j_runA hx 1 (tb := [(35, .iconst 0)]) (jtb_ok (by decide +kernel)) (pc' := 36) (lv' := [(0, vR t), (1, vI a1)]) (st' := [vI (kI 0), vI (s1 + s0), vI s2]) rfl ?_
    exact wwr_sizeOf_36 h (kI 0) (s1 + s0) s2
  refine j_runA hx 1 (tb := [(31, .iconst 1)]) (jtb_ok (by decide +kernel)) (pc' := 32) (lv' := [(0, vR t), (1, vI a1)]) (st' := [vI (kI 1), vI (s1 + s0), vI s2]) rfl ?_
  refine j_goto hx (off := 4) (by decide +kernel) (tgt := 36) (by decide) ?_
  exact wwr_sizeOf_36 h (kI 1) (s1 + s0) s2
theorem wwr_sizeOf {x : jCx} {en : (Int32) → Option (Outcome × jW)} {W : jW} {t : Nat} {a1 : Int32} (h : hwr_sizeOf x en t a1 W) : jJ x 2 0 [(0, vR t), (1, vI a1)] [] W (fwr_sizeOf t a1 W) en := by
  have h0 := h
  obtain ⟨hx, hm, hr, he⟩ := h0
  unfold fwr_sizeOf
  refine j_runA hx 2 (tb := [(0, .iconst 4), (1, .aload_n 0)]) (jtb_ok (by decide +kernel)) (pc' := 2) (lv' := [(0, vR t), (1, vI a1)]) (st' := [vR t, vI (kI 4)]) rfl ?_
  refine j_gd (fun h1 => ?_)
  refine j_getR hx flX14_30 kl900 h1 (by decide) (by decide +kernel) ?_
  refine j_runA hx 1 (tb := [(5, .iload_n 1)]) (jtb_ok (by decide +kernel)) (pc' := 6) (lv' := [(0, vR t), (1, vI a1)]) (st' := [vI a1, vR (jR W 900 t), vI (kI 4)]) rfl ?_
  refine j_gd (fun h2 => ?_)
  refine j_OI (j_callV (av := [vI a1]) (st := [vI (kI 4)]) hx hr (Or.inl q1793) q1133 q1134 rfl md_fpg_wordsOf np_fpg_wordsOf (cpg_wordsOf (jR W 900 t) a1 W) (by decide) (Nat.le_of_ble_eq_true rfl) h2 (by decide) (by decide +kernel)) (fun q3 _ => ?_)
  refine j_runA hx 2 (tb := [(9, .aload_n 0), (10, .iload_n 1)]) (jtb_ok (by decide +kernel)) (pc' := 11) (lv' := [(0, vR t), (1, vI a1)]) (st' := [vI a1, vR t, vI q3, vI (kI 4)]) rfl ?_
  refine j_OI (j_callV (av := [vI a1]) (st := [vI q3, vI (kI 4)]) hx hr (Or.inl q1794) q1796 qs54 rfl md_fwr_isLeft np_fwr_isLeft (cwr_isLeft t a1 W) (by decide) (Nat.le_of_ble_eq_true rfl) h1 (by decide) (by decide +kernel)) (fun q4 _ => ?_)
  refine j_if_eq hx (off := 7) (tgt := 21) (by decide +kernel) (by decide) (fun _ => ?_) (fun _ => ?_)
  · refine j_runA hx 1 (tb := [(21, .iconst 0)]) (jtb_ok (by decide +kernel)) (pc' := 22) (lv' := [(0, vR t), (1, vI a1)]) (st' := [vI (kI 0), vI q3, vI (kI 4)]) rfl ?_
    exact wwr_sizeOf_22 h (kI 0) q3 (kI 4)
  refine j_runA hx 1 (tb := [(17, .iconst (-1))]) (jtb_ok (by decide +kernel)) (pc' := 18) (lv' := [(0, vR t), (1, vI a1)]) (st' := [vI (kI (-1)), vI q3, vI (kI 4)]) rfl ?_
  refine j_goto hx (off := 4) (by decide +kernel) (tgt := 22) (by decide) ?_
  exact wwr_sizeOf_22 h (kI (-1)) q3 (kI 4)
theorem cwr_sizeOf (t : Nat) (a1 : Int32) (W : jW) : jM yX14_sizeOf cX14_sizeOf 2 (Option.some Jvm.ClassFile.FieldType.int) [] 2 28 [vR t, vI a1] W ((fwr_sizeOf t a1 W).bind (fun q => some (.returned (some (.int q)), W))) := 
  jM.of (Nat.le_of_ble_eq_true rfl) (fun x hx hm hr => wwr_sizeOf ⟨hx, hm, hr, fun _ => rfl⟩)
def hwr_place (x : jCx) (en : (fwr_place_S ⊕ (jW)) → Option (Outcome × jW)) (t : Nat) : Prop :=
  jOK x RX14 cX14_place 5 ∧
  jMt x "place" (Option.none : Option Jvm.ClassFile.FieldType) [] ∧
  jRm x 3 43 ∧
  (∀ q : jW, en (.inr q) = some (.returned none, q)) ∧
  (∀ (l1 : Int32) (l2 : Int32) (W : jW), jJ x 5 9 [(0, vR t), (1, vI l1), (2, vI l2)] [] W (some (.inl (l1, l2, W))) en)
theorem wwr_place_64 {x : jCx} {en : (fwr_place_S ⊕ (jW)) → Option (Outcome × jW)} {t : Nat} (h : hwr_place x en t) (l1 : Int32) (l2 : Int32) (W : jW) : jJ x 5 64 [(0, vR t), (1, vI l1), (2, vI l2)] [] W (fwr_place_64 t l1 l2 W) en := by
  have h0 := h
  obtain ⟨hx, hm, hr, he, k9⟩ := h0
  unfold fwr_place_64
  refine j_runA hx 1 (tb := [(64, .aload_n 0)]) (jtb_ok (by decide +kernel)) (pc' := 65) (lv' := [(0, vR t), (1, vI l1), (2, vI l2)]) (st' := [vR t]) rfl ?_
  refine j_gd (fun h30 => ?_)
  refine j_getR hx flX14_9 kl905 h30 (by decide) (by decide +kernel) ?_
  refine j_runA hx 1 (tb := [(68, .aload_n 0)]) (jtb_ok (by decide +kernel)) (pc' := 69) (lv' := [(0, vR t), (1, vI l1), (2, vI l2)]) (st' := [vR t, vR (jR W 905 t)]) rfl ?_
  refine j_getR hx flX14_34 kl901 h30 (by decide) (by decide +kernel) ?_
  refine j_runA hx 1 (tb := [(72, .iload_n 2)]) (jtb_ok (by decide +kernel)) (pc' := 73) (lv' := [(0, vR t), (1, vI l1), (2, vI l2)]) (st' := [vI l2, vR (jR W 901 t), vR (jR W 905 t)]) rfl ?_
  refine j_gd (fun h31 => ?_)
  refine j_gd (fun h32 => ?_)
  refine j_iald hx (f := 9003) (o := (jR W 901 t)) kd9003 h31 (by decide +kernel) h32 ?_
  refine j_runA hx 1 (tb := [(74, .iload_n 1)]) (jtb_ok (by decide +kernel)) (pc' := 75) (lv' := [(0, vR t), (1, vI l1), (2, vI l2)]) (st' := [vI l1, vI (jA W 9003 (jR W 901 t) (ix l2)), vR (jR W 905 t)]) rfl ?_
  refine j_gd (fun h33 => ?_)
  refine j_iast hx (f := 905) (o := t) kd905 rfl (by decide +kernel) h33 ?_
  refine j_ltw rfl (fun W34 hc35 => ?_)
  have h36 : jC W34 t = 9 := (congrFun hc35 _).trans h30
  refine j_runA hx 3 (tb := [(76, .iload_n 1), (77, .aload_n 0), (78, .aload_n 0)]) (jtb_ok (by decide +kernel)) (pc' := 79) (lv' := [(0, vR t), (1, vI l1), (2, vI l2)]) (st' := [vR t, vR t, vI l1]) rfl ?_
  refine j_getR hx flX14_34 kl901 h36 (by decide) (by decide +kernel) ?_
  refine j_runA hx 1 (tb := [(82, .iload_n 2)]) (jtb_ok (by decide +kernel)) (pc' := 83) (lv' := [(0, vR t), (1, vI l1), (2, vI l2)]) (st' := [vI l2, vR (jR W34 901 t), vR t, vI l1]) rfl ?_
  refine j_gd (fun h38 => ?_)
  refine j_gd (fun h39 => ?_)
  refine j_iald hx (f := 9003) (o := (jR W34 901 t)) kd9003 h38 (by decide +kernel) h39 ?_
  refine j_OI (j_callV (av := [vI (jA W34 9003 (jR W34 901 t) (ix l2))]) (st := [vI l1]) hx hr (Or.inl q1789) q1791 qs53 rfl md_fwr_sizeOf np_fwr_sizeOf (cwr_sizeOf t (jA W34 9003 (jR W34 901 t) (ix l2)) W34) (by decide) (Nat.le_of_ble_eq_true rfl) h36 (by decide) (by decide +kernel)) (fun q40 _ => ?_)
  refine j_runA hx 2 (tb := [(87, .iadd), (88, .istore_n 1)]) (jtb_ok (by decide +kernel)) (pc' := 89) (lv' := [(1, vI (l1 + q40)), (0, vR t), (2, vI l2)]) (st' := []) rfl ?_
  refine j_let (v := (l1 + q40)) (lv := fun v41 => [(1, vI v41), (0, vR t), (2, vI l2)]) (st := fun _ => []) (fun v41 => ?_)
  refine j_runA hx 2 (tb := [(89, .aload_n 0), (90, .dup)]) (jtb_ok (by decide +kernel)) (pc' := 91) (lv' := [(1, vI v41), (0, vR t), (2, vI l2)]) (st' := [vR t, vR t]) rfl ?_
  refine j_getI hx flX14_59 kd909 h36 (by decide) (by decide +kernel) ?_
  refine j_runA hx 2 (tb := [(94, .aload_n 0), (95, .aload_n 0)]) (jtb_ok (by decide +kernel)) (pc' := 96) (lv' := [(1, vI v41), (0, vR t), (2, vI l2)]) (st' := [vR t, vR t, vI (jI W34 909 t), vR t]) rfl ?_
  refine j_getR hx flX14_34 kl901 h36 (by decide) (by decide +kernel) ?_
  refine j_runA hx 1 (tb := [(99, .iload_n 2)]) (jtb_ok (by decide +kernel)) (pc' := 100) (lv' := [(1, vI v41), (0, vR t), (2, vI l2)]) (st' := [vI l2, vR (jR W34 901 t), vR t, vI (jI W34 909 t), vR t]) rfl ?_
  refine j_gd (fun h42 => ?_)
  refine j_gd (fun h43 => ?_)
  refine j_iald hx (f := 9003) (o := (jR W34 901 t)) kd9003 h42 (by decide +kernel) h43 ?_
  refine j_OI (j_callV (av := [vI (jA W34 9003 (jR W34 901 t) (ix l2))]) (st := [vI (jI W34 909 t), vR t]) hx hr (Or.inl q1789) q1791 qs53 rfl md_fwr_sizeOf np_fwr_sizeOf (cwr_sizeOf t (jA W34 9003 (jR W34 901 t) (ix l2)) W34) (by decide) (Nat.le_of_ble_eq_true rfl) h36 (by decide) (by decide +kernel)) (fun q44 _ => ?_)
  refine j_runA hx 1 (tb := [(104, .iconst 4)]) (jtb_ok (by decide +kernel)) (pc' := 105) (lv' := [(1, vI v41), (0, vR t), (2, vI l2)]) (st' := [vI (kI 4), vI q44, vI (jI W34 909 t), vR t]) rfl ?_
  refine j_idiv hx (by decide +kernel) (by decide +kernel) ?_
  refine j_runA hx 1 (tb := [(106, .iadd)]) (jtb_ok (by decide +kernel)) (pc' := 107) (lv' := [(1, vI v41), (0, vR t), (2, vI l2)]) (st' := [vI ((jI W34 909 t) + (q44 / (kI 4))), vR t]) rfl ?_
  refine j_putI hx fwX14_59 wf909 kd909 h36 (by decide) (by decide +kernel) (ni909 _) (fi909 _) ?_
  refine j_ltw rfl (fun W45 hc46 => ?_)
  have h47 : jC W45 t = 9 := (congrFun hc46 _).trans h36
  refine j_runA hx 1 (tb := [(110, .iinc 2 1)]) (jtb_ok (by decide +kernel)) (pc' := 113) (lv' := [(2, vI (l2 + (kI 1))), (1, vI v41), (0, vR t)]) (st' := []) rfl ?_
  refine j_let (v := (l2 + (kI 1))) (lv := fun v49 => [(2, vI v49), (1, vI v41), (0, vR t)]) (st := fun _ => []) (fun v49 => ?_)
  refine j_goto hx (off := -104) (by decide +kernel) (tgt := 9) (by decide) ?_
  refine j_lv (lv' := [(0, vR t), (1, vI v41), (2, vI v49)]) ⟨rfl, rfl, rfl, trivial⟩ ?_
  exact k9 v41 v49 W45
theorem wwr_place_140 {x : jCx} {en : (fwr_place_S ⊕ (jW)) → Option (Outcome × jW)} {t : Nat} (h : hwr_place x en t) (l1 : Int32) (W : jW) : jJ x 5 140 [(0, vR t), (1, vI l1)] [] W (fwr_place_140 t l1 W) en := by
  have h0 := h
  obtain ⟨hx, hm, hr, he, k9⟩ := h0
  unfold fwr_place_140
  refine j_runA hx 2 (tb := [(140, .aload_n 0), (141, .iload_n 1)]) (jtb_ok (by decide +kernel)) (pc' := 142) (lv' := [(0, vR t), (1, vI l1)]) (st' := [vI l1, vR t]) rfl ?_
  refine j_gd (fun h51 => ?_)
  refine j_putI hx fwX14_120 wf912 kd912 h51 (by decide) (by decide +kernel) (ni912 _) (fi912 _) ?_
  refine j_ltw rfl (fun W52 hc53 => ?_)
  have h54 : jC W52 t = 9 := (congrFun hc53 _).trans h51
  exact j_vret hx hm (by decide +kernel) (he _)
theorem wwr_place_9 {x : jCx} {en : (fwr_place_S ⊕ (jW)) → Option (Outcome × jW)} {t : Nat} (h : hwr_place x en t) (l1 : Int32) (l2 : Int32) (W : jW) : jJ x 5 9 [(0, vR t), (1, vI l1), (2, vI l2)] [] W (fwr_place_9 t l1 l2 W) en := by
  have h0 := h
  obtain ⟨hx, hm, hr, he, k9⟩ := h0
  unfold fwr_place_9
  refine j_runA hx 2 (tb := [(9, .iload_n 2), (10, .aload_n 0)]) (jtb_ok (by decide +kernel)) (pc' := 11) (lv' := [(0, vR t), (1, vI l1), (2, vI l2)]) (st' := [vR t, vI l2]) rfl ?_
  refine j_gd (fun h7 => ?_)
  refine j_getI hx flX14_43 kd902 h7 (by decide) (by decide +kernel) ?_
  refine j_icmp_ge hx (off := 102) (tgt := 116) (by decide +kernel) (by decide) (fun _ => ?_) (fun _ => ?_)
  · refine j_runA hx 1 (tb := [(116, .aload_n 0)]) (jtb_ok (by decide +kernel)) (pc' := 117) (lv' := [(0, vR t), (1, vI l1), (2, vI l2)]) (st' := [vR t]) rfl ?_
    refine j_getI hx flX14_46 kd903 h7 (by decide) (by decide +kernel) ?_
    refine j_runA hx 1 (tb := [(120, .aload_n 0)]) (jtb_ok (by decide +kernel)) (pc' := 121) (lv' := [(0, vR t), (1, vI l1), (2, vI l2)]) (st' := [vR t, vI (jI W 903 t)]) rfl ?_
    refine j_getI hx flX14_43 kd902 h7 (by decide) (by decide +kernel) ?_
    refine j_icmp_ne hx (off := 16) (tgt := 140) (by decide +kernel) (by decide) (fun _ => ?_) (fun _ => ?_)
    · refine j_lv (lv' := [(0, vR t), (1, vI l1)]) ⟨rfl, rfl, trivial⟩ ?_
      exact wwr_place_140 h l1 W
    refine j_runA hx 2 (tb := [(127, .aload_n 0), (128, .aload_n 0)]) (jtb_ok (by decide +kernel)) (pc' := 129) (lv' := [(0, vR t), (1, vI l1), (2, vI l2)]) (st' := [vR t, vR t]) rfl ?_
    refine j_getI hx flX14_59 kd909 h7 (by decide) (by decide +kernel) ?_
    refine j_putI hx fwX14_107 wf910 kd910 h7 (by decide) (by decide +kernel) (ni910 _) (fi910 _) ?_
    refine j_ltw rfl (fun W8 hc9 => ?_)
    have h10 : jC W8 t = 9 := (congrFun hc9 _).trans h7
    refine j_runA hx 2 (tb := [(135, .aload_n 0), (136, .iload_n 1)]) (jtb_ok (by decide +kernel)) (pc' := 137) (lv' := [(0, vR t), (1, vI l1), (2, vI l2)]) (st' := [vI l1, vR t]) rfl ?_
    refine j_putI hx fwX14_114 wf911 kd911 h10 (by decide) (by decide +kernel) (ni911 _) (fi911 _) ?_
    refine j_ltw rfl (fun W12 hc13 => ?_)
    have h14 : jC W12 t = 9 := (congrFun hc13 _).trans h10
    refine j_lv (lv' := [(0, vR t), (1, vI l1)]) ⟨rfl, rfl, trivial⟩ ?_
    exact wwr_place_140 h l1 W12
  refine j_runA hx 2 (tb := [(17, .iload_n 2), (18, .aload_n 0)]) (jtb_ok (by decide +kernel)) (pc' := 19) (lv' := [(0, vR t), (1, vI l1), (2, vI l2)]) (st' := [vR t, vI l2]) rfl ?_
  refine j_getI hx flX14_46 kd903 h7 (by decide) (by decide +kernel) ?_
  refine j_icmp_ne hx (off := 42) (tgt := 64) (by decide +kernel) (by decide) (fun _ => ?_) (fun _ => ?_)
  · exact wwr_place_64 h l1 l2 W
  refine j_runA hx 2 (tb := [(25, .aload_n 0), (26, .aload_n 0)]) (jtb_ok (by decide +kernel)) (pc' := 27) (lv' := [(0, vR t), (1, vI l1), (2, vI l2)]) (st' := [vR t, vR t]) rfl ?_
  refine j_getI hx flX14_59 kd909 h7 (by decide) (by decide +kernel) ?_
  refine j_putI hx fwX14_107 wf910 kd910 h7 (by decide) (by decide +kernel) (ni910 _) (fi910 _) ?_
  refine j_ltw rfl (fun W16 hc17 => ?_)
  have h18 : jC W16 t = 9 := (congrFun hc17 _).trans h7
  refine j_runA hx 1 (tb := [(33, .aload_n 0)]) (jtb_ok (by decide +kernel)) (pc' := 34) (lv' := [(0, vR t), (1, vI l1), (2, vI l2)]) (st' := [vR t]) rfl ?_
  refine j_getR hx flX14_30 kl900 h18 (by decide) (by decide +kernel) ?_
  refine j_runA hx 1 (tb := [(37, .iconst 0)]) (jtb_ok (by decide +kernel)) (pc' := 38) (lv' := [(0, vR t), (1, vI l1), (2, vI l2)]) (st' := [vI (kI 0), vR (jR W16 900 t)]) rfl ?_
  refine j_gd (fun h20 => ?_)
  refine j_OL (j_callV (av := [vI (kI 0)]) (st := []) hx hr (Or.inl q1788) q1609 q1610 rfl md_fpg_addressOf np_fpg_addressOf (cpg_addressOf (jR W16 900 t) (kI 0) W16) (by decide) (Nat.le_of_ble_eq_true rfl) h20 (by decide) (by decide +kernel)) (fun q21 _ => ?_)
  refine j_runA hx 4 (tb := [(41, .iload_n 1), (42, .i2l), (43, .ladd), (44, .lstore_n 3)]) (jtb_ok (by decide +kernel)) (pc' := 45) (lv' := [(3, vL (q21 + l1.toInt64)), (0, vR t), (1, vI l1), (2, vI l2)]) (st' := []) rfl ?_
  refine j_let (v := (q21 + l1.toInt64)) (lv := fun v22 => [(3, vL v22), (0, vR t), (1, vI l1), (2, vI l2)]) (st := fun _ => []) (fun v22 => ?_)
  refine j_runA hx 4 (tb := [(45, .iload_n 1), (46, .lload_n 3), (47, .lneg), (48, .aload_n 0)]) (jtb_ok (by decide +kernel)) (pc' := 49) (lv' := [(3, vL v22), (0, vR t), (1, vI l1), (2, vI l2)]) (st' := [vR t, vL (-v22), vI l1]) rfl ?_
  refine j_getI hx flX14_49 kd904 h18 (by decide) (by decide +kernel) ?_
  refine j_runA hx 7 (tb := [(52, .iconst 1), (53, .isub), (54, .i2l), (55, .land), (56, .l2i), (57, .iadd), (58, .istore_n 1)]) (jtb_ok (by decide +kernel)) (pc' := 59) (lv' := [(1, vI (l1 + (((-v22) &&& (((jI W16 904 t) - (kI 1)).toInt64)).toInt32))), (3, vL v22), (0, vR t), (2, vI l2)]) (st' := []) rfl ?_
  refine j_let (v := (l1 + (((-v22) &&& (((jI W16 904 t) - (kI 1)).toInt64)).toInt32))) (lv := fun v23 => [(1, vI v23), (3, vL v22), (0, vR t), (2, vI l2)]) (st := fun _ => []) (fun v23 => ?_)
  refine j_runA hx 2 (tb := [(59, .aload_n 0), (60, .iload_n 1)]) (jtb_ok (by decide +kernel)) (pc' := 61) (lv' := [(1, vI v23), (3, vL v22), (0, vR t), (2, vI l2)]) (st' := [vI v23, vR t]) rfl ?_
  refine j_putI hx fwX14_114 wf911 kd911 h18 (by decide) (by decide +kernel) (ni911 _) (fi911 _) ?_
  refine j_ltw rfl (fun W24 hc25 => ?_)
  have h26 : jC W24 t = 9 := (congrFun hc25 _).trans h18
  have h27 : jC W24 (jR W16 900 t) = 2 := (congrFun hc25 _).trans h20
  refine j_lv (lv' := [(0, vR t), (1, vI v23), (2, vI l2)]) ⟨rfl, rfl, rfl, trivial⟩ ?_
  exact wwr_place_64 h v23 l2 W24
theorem wwr_place {x : jCx} {en : (fwr_place_S ⊕ (jW)) → Option (Outcome × jW)} {t : Nat} (h : hwr_place x en t) (W : jW) : jJ x 5 0 [(0, vR t)] [] W (fwr_place_0 t W) en := by
  have h0 := h
  obtain ⟨hx, hm, hr, he, k9⟩ := h0
  unfold fwr_place_0
  refine j_runA hx 4 (tb := [(0, .iconst 0), (1, .istore_n 1), (2, .aload_n 0), (3, .iconst 0)]) (jtb_ok (by decide +kernel)) (pc' := 4) (lv' := [(1, vI (kI 0)), (0, vR t)]) (st' := [vI (kI 0), vR t]) rfl ?_
  refine j_gd (fun h1 => ?_)
  refine j_putI hx fwX14_59 wf909 kd909 h1 (by decide) (by decide +kernel) (ni909 _) (fi909 _) ?_
  refine j_ltw rfl (fun W2 hc3 => ?_)
  have h4 : jC W2 t = 9 := (congrFun hc3 _).trans h1
  refine j_runA hx 2 (tb := [(7, .iconst 0), (8, .istore_n 2)]) (jtb_ok (by decide +kernel)) (pc' := 9) (lv' := [(2, vI (kI 0)), (1, vI (kI 0)), (0, vR t)]) (st' := []) rfl ?_
  refine j_lv (lv' := [(0, vR t), (1, vI (kI 0)), (2, vI (kI 0))]) ⟨rfl, rfl, rfl, trivial⟩ ?_
  exact k9 (kI 0) (kI 0) W2
theorem cwr_place (t : Nat) (W : jW) : jM yX14_place cX14_place 5 (Option.none : Option Jvm.ClassFile.FieldType) [] 3 43 [vR t] W ((fwr_place t W).bind (fun q => some (.returned none, q))) := by
  refine jM.of (Nat.le_of_ble_eq_true rfl) (fun x hx hm hr => ?_)
  refine j_begin (P := (fun s => (9, [(0, vR t), (1, vI s.1), (2, vI s.2.1)], s.2.2))) (fun en he hk => ?_)
  have h : hwr_place x en t := ⟨hx, hm, hr, fun q => he _, fun l1 l2 W => hk (l1, l2, W)⟩
  exact ⟨fun s => wwr_place_9 h s.1 s.2.1 s.2.2, wwr_place h W⟩
def hwr_goalOf (x : jCx) (en : (Int32) → Option (Outcome × jW)) (t : Nat) (a1 : Int32) (W : jW) : Prop :=
  jOK x RX14 cX14_goalOf 2 ∧
  jMt x "goalOf" (Option.some Jvm.ClassFile.FieldType.int) [] ∧
  jRm x 1 13 ∧
  (∀ q : Int32, en q = some (.returned (some (.int q)), W))
theorem wwr_goalOf {x : jCx} {en : (Int32) → Option (Outcome × jW)} {W : jW} {t : Nat} {a1 : Int32} (h : hwr_goalOf x en t a1 W) : jJ x 2 0 [(0, vR t), (1, vI a1)] [] W (fwr_goalOf t a1 W) en := by
  have h0 := h
  obtain ⟨hx, hm, hr, he⟩ := h0
  unfold fwr_goalOf
  refine j_runA hx 2 (tb := [(0, .aload_n 0), (1, .iload_n 1)]) (jtb_ok (by decide +kernel)) (pc' := 2) (lv' := [(0, vR t), (1, vI a1)]) (st' := [vI a1, vR t]) rfl ?_
  refine j_gd (fun h1 => ?_)
  refine j_OI (j_callV (av := [vI a1]) (st := []) hx hr (Or.inl q1803) q1805 qs56 rfl md_fwr_isTurned np_fwr_isTurned (cwr_isTurned t a1 W) (by decide) (Nat.le_of_ble_eq_true rfl) h1 (by decide) (by decide +kernel)) (fun q2 _ => ?_)
  refine j_if_eq hx (off := 9) (tgt := 14) (by decide +kernel) (by decide) (fun _ => ?_) (fun _ => ?_)
  · refine j_runA hx 1 (tb := [(14, .aload_n 0)]) (jtb_ok (by decide +kernel)) (pc' := 15) (lv' := [(0, vR t), (1, vI a1)]) (st' := [vR t]) rfl ?_
    refine j_getR hx flX14_30 kl900 h1 (by decide) (by decide +kernel) ?_
    refine j_gd (fun h3 => ?_)
    refine j_getR hx flX14_71 kl215 h3 (by decide) (by decide +kernel) ?_
    refine j_runA hx 1 (tb := [(21, .iload_n 1)]) (jtb_ok (by decide +kernel)) (pc' := 22) (lv' := [(0, vR t), (1, vI a1)]) (st' := [vI a1, vR (jR W 215 (jR W 900 t))]) rfl ?_
    refine j_gd (fun h4 => ?_)
    refine j_iald hx (f := 215) (o := (jR W 900 t)) kd215 rfl (by decide +kernel) h4 ?_
    exact j_iret hx hm (by decide +kernel) rfl (he _)
  refine j_runA hx 3 (tb := [(8, .iload_n 1), (9, .iconst 1), (10, .iadd)]) (jtb_ok (by decide +kernel)) (pc' := 11) (lv' := [(0, vR t), (1, vI a1)]) (st' := [vI (a1 + (kI 1))]) rfl ?_
  refine j_goto hx (off := 12) (by decide +kernel) (tgt := 23) (by decide) ?_
  exact j_iret hx hm (by decide +kernel) rfl (he _)
theorem cwr_goalOf (t : Nat) (a1 : Int32) (W : jW) : jM yX14_goalOf cX14_goalOf 2 (Option.some Jvm.ClassFile.FieldType.int) [] 1 13 [vR t, vI a1] W ((fwr_goalOf t a1 W).bind (fun q => some (.returned (some (.int q)), W))) := 
  jM.of (Nat.le_of_ble_eq_true rfl) (fun x hx hm hr => wwr_goalOf ⟨hx, hm, hr, fun _ => rfl⟩)
def hwr_endAt (x : jCx) (en : (Int32) → Option (Outcome × jW)) (t : Nat) (a1 : Int32) (W : jW) : Prop :=
  jOK x RX14 cX14_endAt 2 ∧
  jMt x "endAt" (Option.some Jvm.ClassFile.FieldType.int) [] ∧
  jRm x 1 15 ∧
  (∀ q : Int32, en q = some (.returned (some (.int q)), W))
theorem wwr_endAt {x : jCx} {en : (Int32) → Option (Outcome × jW)} {W : jW} {t : Nat} {a1 : Int32} (h : hwr_endAt x en t a1 W) : jJ x 2 0 [(0, vR t), (1, vI a1)] [] W (fwr_endAt t a1 W) en := by
  have h0 := h
  obtain ⟨hx, hm, hr, he⟩ := h0
  unfold fwr_endAt
  refine j_runA hx 1 (tb := [(0, .aload_n 0)]) (jtb_ok (by decide +kernel)) (pc' := 1) (lv' := [(0, vR t), (1, vI a1)]) (st' := [vR t]) rfl ?_
  refine j_gd (fun h1 => ?_)
  refine j_getR hx flX14_9 kl905 h1 (by decide) (by decide +kernel) ?_
  refine j_runA hx 1 (tb := [(4, .iload_n 1)]) (jtb_ok (by decide +kernel)) (pc' := 5) (lv' := [(0, vR t), (1, vI a1)]) (st' := [vI a1, vR (jR W 905 t)]) rfl ?_
  refine j_gd (fun h2 => ?_)
  refine j_iald hx (f := 905) (o := t) kd905 rfl (by decide +kernel) h2 ?_
  refine j_runA hx 2 (tb := [(6, .iconst 4), (7, .aload_n 0)]) (jtb_ok (by decide +kernel)) (pc' := 8) (lv' := [(0, vR t), (1, vI a1)]) (st' := [vR t, vI (kI 4), vI (jA W 905 t (ix a1))]) rfl ?_
  refine j_getR hx flX14_30 kl900 h1 (by decide) (by decide +kernel) ?_
  refine j_runA hx 1 (tb := [(11, .iload_n 1)]) (jtb_ok (by decide +kernel)) (pc' := 12) (lv' := [(0, vR t), (1, vI a1)]) (st' := [vI a1, vR (jR W 900 t), vI (kI 4), vI (jA W 905 t (ix a1))]) rfl ?_
  refine j_gd (fun h3 => ?_)
  refine j_OI (j_callV (av := [vI a1]) (st := [vI (kI 4), vI (jA W 905 t (ix a1))]) hx hr (Or.inl q1793) q1133 q1134 rfl md_fpg_wordsOf np_fpg_wordsOf (cpg_wordsOf (jR W 900 t) a1 W) (by decide) (Nat.le_of_ble_eq_true rfl) h3 (by decide) (by decide +kernel)) (fun q4 _ => ?_)
  refine j_runA hx 4 (tb := [(15, .imul), (16, .iadd), (17, .iconst 4), (18, .isub)]) (jtb_ok (by decide +kernel)) (pc' := 19) (lv' := [(0, vR t), (1, vI a1)]) (st' := [vI (((jA W 905 t (ix a1)) + ((kI 4) * q4)) - (kI 4))]) rfl ?_
  exact j_iret hx hm (by decide +kernel) rfl (he _)
theorem cwr_endAt (t : Nat) (a1 : Int32) (W : jW) : jM yX14_endAt cX14_endAt 2 (Option.some Jvm.ClassFile.FieldType.int) [] 1 15 [vR t, vI a1] W ((fwr_endAt t a1 W).bind (fun q => some (.returned (some (.int q)), W))) := 
  jM.of (Nat.le_of_ble_eq_true rfl) (fun x hx hm hr => wwr_endAt ⟨hx, hm, hr, fun _ => rfl⟩)
def hwo_reaches (x : jCx) (en : (Int32) → Option (Outcome × jW)) (a0 : Int32) (a1 : Int64) (W : jW) : Prop :=
  jOK x RX12 cX12_reaches 3 ∧
  jMt x "reaches" (Option.some Jvm.ClassFile.FieldType.boolean) [] ∧
  jRm x 1 16 ∧
  (∀ q : Int32, en q = some (.returned (some (.int q)), W))
theorem wwo_reaches_31 {x : jCx} {en : (Int32) → Option (Outcome × jW)} {W : jW} {a0 : Int32} {a1 : Int64} (h : hwo_reaches x en a0 a1 W) : jJ x 3 31 [(0, vI a0), (1, vL a1)] [] W (some (fwo_reaches_31 a0 a1)) en := by
  have h0 := h
  obtain ⟨hx, hm, hr, he⟩ := h0
  unfold fwo_reaches_31
  refine j_runA hx 1 (tb := [(31, .iconst 0)]) (jtb_ok (by decide +kernel)) (pc' := 32) (lv' := [(0, vI a0), (1, vL a1)]) (st' := [vI (kI 0)]) rfl ?_
  exact j_iret hx hm (by decide +kernel) jz0n (he _)
theorem wwo_reaches {x : jCx} {en : (Int32) → Option (Outcome × jW)} {W : jW} {a0 : Int32} {a1 : Int64} (h : hwo_reaches x en a0 a1 W) : jJ x 3 0 [(0, vI a0), (1, vL a1)] [] W (some (fwo_reaches a0 a1)) en := by
  have h0 := h
  obtain ⟨hx, hm, hr, he⟩ := h0
  unfold fwo_reaches
  refine j_runA hx 1 (tb := [(0, .lload_n 1)]) (jtb_ok (by decide +kernel)) (pc' := 1) (lv' := [(0, vI a0), (1, vL a1)]) (st' := [vL a1]) rfl ?_
  refine j_ldc2 hx (v := (kJ 2)) (jkd2 q1823 (by decide +kernel)) (by decide +kernel) ?_
  refine j_runA hx 1 (tb := [(4, .iload_n 0)]) (jtb_ok (by decide +kernel)) (pc' := 5) (lv' := [(0, vI a0), (1, vL a1)]) (st' := [vI a0, vL (kJ 2), vL a1]) rfl ?_
  refine j_TI (j_callS (av := [vI a0]) (st := [vL (kJ 2), vL a1]) hx hr (Or.inl q1088) q1089 q247 md_fwo_bitsOf np_fwo_bitsOf (cwo_bitsOf a0 W) (by decide) (Nat.le_of_ble_eq_true rfl) (by decide +kernel)) ?_
  refine j_runA hx 2 (tb := [(8, .lshl), (9, .lneg)]) (jtb_ok (by decide +kernel)) (pc' := 10) (lv' := [(0, vI a0), (1, vL a1)]) (st' := [vL (-(lxl (kJ 2) (fwo_bitsOf a0))), vL a1]) rfl ?_
  refine j_tot (j_lcmp_lt hx (off := 20) (tgt := 31) (by decide +kernel) (by decide +kernel) (by decide) (fun _ => ?_) (fun _ => ?_))
  · exact wwo_reaches_31 h
  refine j_runA hx 1 (tb := [(14, .lload_n 1)]) (jtb_ok (by decide +kernel)) (pc' := 15) (lv' := [(0, vI a0), (1, vL a1)]) (st' := [vL a1]) rfl ?_
  refine j_ldc2 hx (v := (kJ 2)) (jkd2 q1823 (by decide +kernel)) (by decide +kernel) ?_
  refine j_runA hx 1 (tb := [(18, .iload_n 0)]) (jtb_ok (by decide +kernel)) (pc' := 19) (lv' := [(0, vI a0), (1, vL a1)]) (st' := [vI a0, vL (kJ 2), vL a1]) rfl ?_
  refine j_TI (j_callS (av := [vI a0]) (st := [vL (kJ 2), vL a1]) hx hr (Or.inl q1088) q1089 q247 md_fwo_bitsOf np_fwo_bitsOf (cwo_bitsOf a0 W) (by decide) (Nat.le_of_ble_eq_true rfl) (by decide +kernel)) ?_
  refine j_runA hx 1 (tb := [(22, .lshl)]) (jtb_ok (by decide +kernel)) (pc' := 23) (lv' := [(0, vI a0), (1, vL a1)]) (st' := [vL (lxl (kJ 2) (fwo_bitsOf a0)), vL a1]) rfl ?_
  refine j_tot (j_lcmp_ge hx (off := 7) (tgt := 31) (by decide +kernel) (by decide +kernel) (by decide) (fun _ => ?_) (fun _ => ?_))
  · exact wwo_reaches_31 h
  refine j_runA hx 1 (tb := [(27, .iconst 1)]) (jtb_ok (by decide +kernel)) (pc' := 28) (lv' := [(0, vI a0), (1, vL a1)]) (st' := [vI (kI 1)]) rfl ?_
  refine j_goto hx (off := 4) (by decide +kernel) (tgt := 32) (by decide) ?_
  exact j_iret hx hm (by decide +kernel) jz1n (he _)
theorem cwo_reaches (a0 : Int32) (a1 : Int64) (W : jW) : jM yX12_reaches cX12_reaches 3 (Option.some Jvm.ClassFile.FieldType.boolean) [] 1 16 [vI a0, vL a1] W (some (.returned (some (.int (fwo_reaches a0 a1))), W)) := 
  jM.of (mm := some (fwo_reaches a0 a1)) (en := fun q => some (.returned (some (.int q)), W)) (Nat.le_of_ble_eq_true rfl) (fun x hx hm hr => wwo_reaches ⟨hx, hm, hr, fun _ => rfl⟩)
def hwr_reaches (x : jCx) (en : (Int32) → Option (Outcome × jW)) (t : Nat) (a1 : Int32) (W : jW) : Prop :=
  jOK x RX14 cX14_reaches 2 ∧
  jMt x "reaches" (Option.some Jvm.ClassFile.FieldType.boolean) [] ∧
  jRm x 2 30 ∧
  (∀ q : Int32, en q = some (.returned (some (.int q)), W))
theorem wwr_reaches_61 {x : jCx} {en : (Int32) → Option (Outcome × jW)} {W : jW} {t : Nat} {a1 : Int32} (h : hwr_reaches x en t a1 W) : jJ x 2 61 [(0, vR t), (1, vI a1)] [] W (fwr_reaches_61 t a1 W) en := by
  have h0 := h
  obtain ⟨hx, hm, hr, he⟩ := h0
  unfold fwr_reaches_61
  refine j_runA hx 1 (tb := [(61, .iconst 1)]) (jtb_ok (by decide +kernel)) (pc' := 62) (lv' := [(0, vR t), (1, vI a1)]) (st' := [vI (kI 1)]) rfl ?_
  refine j_goto hx (off := 4) (by decide +kernel) (tgt := 66) (by decide) ?_
  exact j_iret hx hm (by decide +kernel) jz1n (he _)
theorem wwr_reaches {x : jCx} {en : (Int32) → Option (Outcome × jW)} {W : jW} {t : Nat} {a1 : Int32} (h : hwr_reaches x en t a1 W) : jJ x 2 0 [(0, vR t), (1, vI a1)] [] W (fwr_reaches t a1 W) en := by
  have h0 := h
  obtain ⟨hx, hm, hr, he⟩ := h0
  unfold fwr_reaches
  refine j_runA hx 1 (tb := [(0, .aload_n 0)]) (jtb_ok (by decide +kernel)) (pc' := 1) (lv' := [(0, vR t), (1, vI a1)]) (st' := [vR t]) rfl ?_
  refine j_gd (fun h1 => ?_)
  refine j_getR hx flX14_30 kl900 h1 (by decide) (by decide +kernel) ?_
  refine j_gd (fun h2 => ?_)
  refine j_getR hx flX14_68 kl214 h2 (by decide) (by decide +kernel) ?_
  refine j_runA hx 1 (tb := [(7, .iload_n 1)]) (jtb_ok (by decide +kernel)) (pc' := 8) (lv' := [(0, vR t), (1, vI a1)]) (st' := [vI a1, vR (jR W 214 (jR W 900 t))]) rfl ?_
  refine j_gd (fun h3 => ?_)
  refine j_iald hx (f := 214) (o := (jR W 900 t)) kd214 rfl (by decide +kernel) h3 ?_
  refine j_runA hx 1 (tb := [(9, .iconst 3)]) (jtb_ok (by decide +kernel)) (pc' := 10) (lv' := [(0, vR t), (1, vI a1)]) (st' := [vI (kI 3), vI (jA W 214 (jR W 900 t) (ix a1))]) rfl ?_
  refine j_icmp_ne hx (off := 51) (tgt := 61) (by decide +kernel) (by decide) (fun _ => ?_) (fun _ => ?_)
  · exact wwr_reaches_61 h
  refine j_runA hx 1 (tb := [(13, .aload_n 0)]) (jtb_ok (by decide +kernel)) (pc' := 14) (lv' := [(0, vR t), (1, vI a1)]) (st' := [vR t]) rfl ?_
  refine j_getR hx flX14_18 kl907 h1 (by decide) (by decide +kernel) ?_
  refine j_runA hx 1 (tb := [(17, .iload_n 1)]) (jtb_ok (by decide +kernel)) (pc' := 18) (lv' := [(0, vR t), (1, vI a1)]) (st' := [vI a1, vR (jR W 907 t)]) rfl ?_
  refine j_gd (fun h4 => ?_)
  refine j_zald hx (f := 907) (o := t) kd907 rfl (by decide +kernel) h4 ?_
  refine j_if_ne hx (off := 42) (tgt := 61) (by decide +kernel) (by decide) (fun _ => ?_) (fun _ => ?_)
  · exact wwr_reaches_61 h
  refine j_runA hx 1 (tb := [(22, .aload_n 0)]) (jtb_ok (by decide +kernel)) (pc' := 23) (lv' := [(0, vR t), (1, vI a1)]) (st' := [vR t]) rfl ?_
  refine j_getR hx flX14_30 kl900 h1 (by decide) (by decide +kernel) ?_
  refine j_getR hx flX14_90 kl205 h2 (by decide) (by decide +kernel) ?_
  refine j_runA hx 1 (tb := [(29, .aload_n 0)]) (jtb_ok (by decide +kernel)) (pc' := 30) (lv' := [(0, vR t), (1, vI a1)]) (st' := [vR t, vR (jR W 205 (jR W 900 t))]) rfl ?_
  refine j_getR hx flX14_30 kl900 h1 (by decide) (by decide +kernel) ?_
  refine j_runA hx 1 (tb := [(33, .iload_n 1)]) (jtb_ok (by decide +kernel)) (pc' := 34) (lv' := [(0, vR t), (1, vI a1)]) (st' := [vI a1, vR (jR W 900 t), vR (jR W 205 (jR W 900 t))]) rfl ?_
  refine j_OI (j_callV (av := [vI a1]) (st := [vR (jR W 205 (jR W 900 t))]) hx hr (Or.inl q1811) q1129 q1130 rfl md_fpg_lastWord np_fpg_lastWord (cpg_lastWord (jR W 900 t) a1 W) (by decide) (Nat.le_of_ble_eq_true rfl) h2 (by decide) (by decide +kernel)) (fun q5 _ => ?_)
  refine j_gd (fun h6 => ?_)
  refine j_iald hx (f := 205) (o := (jR W 900 t)) kd205 rfl (by decide +kernel) h6 ?_
  refine j_runA hx 1 (tb := [(38, .aload_n 0)]) (jtb_ok (by decide +kernel)) (pc' := 39) (lv' := [(0, vR t), (1, vI a1)]) (st' := [vR t, vI (jA W 205 (jR W 900 t) (ix q5))]) rfl ?_
  refine j_getR hx flX14_9 kl905 h1 (by decide) (by decide +kernel) ?_
  refine j_runA hx 2 (tb := [(42, .aload_n 0), (43, .iload_n 1)]) (jtb_ok (by decide +kernel)) (pc' := 44) (lv' := [(0, vR t), (1, vI a1)]) (st' := [vI a1, vR t, vR (jR W 905 t), vI (jA W 205 (jR W 900 t) (ix q5))]) rfl ?_
  refine j_OI (j_callV (av := [vI a1]) (st := [vR (jR W 905 t), vI (jA W 205 (jR W 900 t) (ix q5))]) hx hr (Or.inl q1812) q1814 qs58 rfl md_fwr_goalOf np_fwr_goalOf (cwr_goalOf t a1 W) (by decide) (Nat.le_of_ble_eq_true rfl) h1 (by decide) (by decide +kernel)) (fun q7 _ => ?_)
  refine j_gd (fun h8 => ?_)
  refine j_iald hx (f := 905) (o := t) kd905 rfl (by decide +kernel) h8 ?_
  refine j_runA hx 2 (tb := [(48, .aload_n 0), (49, .iload_n 1)]) (jtb_ok (by decide +kernel)) (pc' := 50) (lv' := [(0, vR t), (1, vI a1)]) (st' := [vI a1, vR t, vI (jA W 905 t (ix q7)), vI (jA W 205 (jR W 900 t) (ix q5))]) rfl ?_
  refine j_OI (j_callV (av := [vI a1]) (st := [vI (jA W 905 t (ix q7)), vI (jA W 205 (jR W 900 t) (ix q5))]) hx hr (Or.inl q1816) q1818 qs59 rfl md_fwr_endAt np_fwr_endAt (cwr_endAt t a1 W) (by decide) (Nat.le_of_ble_eq_true rfl) h1 (by decide) (by decide +kernel)) (fun q9 _ => ?_)
  refine j_runA hx 2 (tb := [(53, .isub), (54, .i2l)]) (jtb_ok (by decide +kernel)) (pc' := 55) (lv' := [(0, vR t), (1, vI a1)]) (st' := [vL (((jA W 905 t (ix q7)) - q9).toInt64), vI (jA W 205 (jR W 900 t) (ix q5))]) rfl ?_
  refine j_TI (j_callS (av := [vI (jA W 205 (jR W 900 t) (ix q5)), vL (((jA W 905 t (ix q7)) - q9).toInt64)]) (st := []) hx hr (Or.inl q1820) q1821 q247 md_fwo_reaches np_fwo_reaches (cwo_reaches (jA W 205 (jR W 900 t) (ix q5)) (((jA W 905 t (ix q7)) - q9).toInt64) W) (by decide) (Nat.le_of_ble_eq_true rfl) (by decide +kernel)) ?_
  refine j_if_eq hx (off := 7) (tgt := 65) (by decide +kernel) (by decide) (fun _ => ?_) (fun _ => ?_)
  · refine j_runA hx 1 (tb := [(65, .iconst 0)]) (jtb_ok (by decide +kernel)) (pc' := 66) (lv' := [(0, vR t), (1, vI a1)]) (st' := [vI (kI 0)]) rfl ?_
    exact j_iret hx hm (by decide +kernel) jz0n (he _)
  exact wwr_reaches_61 h
theorem cwr_reaches (t : Nat) (a1 : Int32) (W : jW) : jM yX14_reaches cX14_reaches 2 (Option.some Jvm.ClassFile.FieldType.boolean) [] 2 30 [vR t, vI a1] W ((fwr_reaches t a1 W).bind (fun q => some (.returned (some (.int q)), W))) := 
  jM.of (Nat.le_of_ble_eq_true rfl) (fun x hx hm hr => wwr_reaches ⟨hx, hm, hr, fun _ => rfl⟩)
def hwr_addressOf (x : jCx) (en : (Int64) → Option (Outcome × jW)) (t : Nat) (a1 : Int32) (W : jW) : Prop :=
  jOK x RX14 cX14_addressOf 2 ∧
  jMt x "addressOf" (Option.some Jvm.ClassFile.FieldType.long) [] ∧
  jRm x 2 26 ∧
  (∀ q : Int64, en q = some (.returned (some (.long q)), W))
theorem wwr_addressOf {x : jCx} {en : (Int64) → Option (Outcome × jW)} {W : jW} {t : Nat} {a1 : Int32} (h : hwr_addressOf x en t a1 W) : jJ x 2 0 [(0, vR t), (1, vI a1)] [] W (fwr_addressOf t a1 W) en := by
  have h0 := h
  obtain ⟨hx, hm, hr, he⟩ := h0
  unfold fwr_addressOf
  refine j_runA hx 1 (tb := [(0, .aload_n 0)]) (jtb_ok (by decide +kernel)) (pc' := 1) (lv' := [(0, vR t), (1, vI a1)]) (st' := [vR t]) rfl ?_
  refine j_gd (fun h1 => ?_)
  refine j_getR hx flX14_30 kl900 h1 (by decide) (by decide +kernel) ?_
  refine j_runA hx 1 (tb := [(4, .iconst 0)]) (jtb_ok (by decide +kernel)) (pc' := 5) (lv' := [(0, vR t), (1, vI a1)]) (st' := [vI (kI 0), vR (jR W 900 t)]) rfl ?_
  refine j_gd (fun h2 => ?_)
  refine j_OL (j_callV (av := [vI (kI 0)]) (st := []) hx hr (Or.inl q1788) q1609 q1610 rfl md_fpg_addressOf np_fpg_addressOf (cpg_addressOf (jR W 900 t) (kI 0) W) (by decide) (Nat.le_of_ble_eq_true rfl) h2 (by decide) (by decide +kernel)) (fun q3 _ => ?_)
  refine j_runA hx 1 (tb := [(8, .aload_n 0)]) (jtb_ok (by decide +kernel)) (pc' := 9) (lv' := [(0, vR t), (1, vI a1)]) (st' := [vR t, vL q3]) rfl ?_
  refine j_getR hx flX14_9 kl905 h1 (by decide) (by decide +kernel) ?_
  refine j_runA hx 1 (tb := [(12, .iload_n 1)]) (jtb_ok (by decide +kernel)) (pc' := 13) (lv' := [(0, vR t), (1, vI a1)]) (st' := [vI a1, vR (jR W 905 t), vL q3]) rfl ?_
  refine j_gd (fun h4 => ?_)
  refine j_iald hx (f := 905) (o := t) kd905 rfl (by decide +kernel) h4 ?_
  refine j_runA hx 2 (tb := [(14, .i2l), (15, .ladd)]) (jtb_ok (by decide +kernel)) (pc' := 16) (lv' := [(0, vR t), (1, vI a1)]) (st' := [vL (q3 + ((jA W 905 t (ix a1)).toInt64))]) rfl ?_
  exact j_lret hx hm (by decide +kernel) (he _)
theorem cwr_addressOf (t : Nat) (a1 : Int32) (W : jW) : jM yX14_addressOf cX14_addressOf 2 (Option.some Jvm.ClassFile.FieldType.long) [] 2 26 [vR t, vI a1] W ((fwr_addressOf t a1 W).bind (fun q => some (.returned (some (.long q)), W))) := 
  jM.of (Nat.le_of_ble_eq_true rfl) (fun x hx hm hr => wwr_addressOf ⟨hx, hm, hr, fun _ => rfl⟩)
def hwr_movedWord (x : jCx) (en : (Int64) → Option (Outcome × jW)) (t : Nat) (a1 : Int32) (W : jW) : Prop :=
  jOK x RX14 cX14_movedWord 2 ∧
  jMt x "movedWord" (Option.some Jvm.ClassFile.FieldType.long) [] ∧
  jRm x 3 39 ∧
  (∀ q : Int64, en q = some (.returned (some (.long q)), W))
theorem wwr_movedWord {x : jCx} {en : (Int64) → Option (Outcome × jW)} {W : jW} {t : Nat} {a1 : Int32} (h : hwr_movedWord x en t a1 W) : jJ x 2 0 [(0, vR t), (1, vI a1)] [] W (fwr_movedWord t a1 W) en := by
  have h0 := h
  obtain ⟨hx, hm, hr, he⟩ := h0
  unfold fwr_movedWord
  refine j_runA hx 2 (tb := [(0, .aload_n 0), (1, .aload_n 0)]) (jtb_ok (by decide +kernel)) (pc' := 2) (lv' := [(0, vR t), (1, vI a1)]) (st' := [vR t, vR t]) rfl ?_
  refine j_gd (fun h1 => ?_)
  refine j_getR hx flX14_30 kl900 h1 (by decide) (by decide +kernel) ?_
  refine j_gd (fun h2 => ?_)
  refine j_getR hx flX14_123 kl206 h2 (by decide) (by decide +kernel) ?_
  refine j_runA hx 1 (tb := [(8, .iload_n 1)]) (jtb_ok (by decide +kernel)) (pc' := 9) (lv' := [(0, vR t), (1, vI a1)]) (st' := [vI a1, vR (jR W 206 (jR W 900 t)), vR t]) rfl ?_
  refine j_gd (fun h3 => ?_)
  refine j_iald hx (f := 206) (o := (jR W 900 t)) kd206 rfl (by decide +kernel) h3 ?_
  refine j_OL (j_callV (av := [vI (jA W 206 (jR W 900 t) (ix a1))]) (st := []) hx hr (Or.inl q1842) q1843 q1844 rfl md_fwr_addressOf np_fwr_addressOf (cwr_addressOf t (jA W 206 (jR W 900 t) (ix a1)) W) (by decide) (Nat.le_of_ble_eq_true rfl) h1 (by decide) (by decide +kernel)) (fun q4 _ => ?_)
  refine j_ldc2 hx (v := (kJ 4)) (jkd2 q1846 (by decide +kernel)) (by decide +kernel) ?_
  refine j_runA hx 2 (tb := [(16, .iload_n 1), (17, .aload_n 0)]) (jtb_ok (by decide +kernel)) (pc' := 18) (lv' := [(0, vR t), (1, vI a1)]) (st' := [vR t, vI a1, vL (kJ 4), vL q4]) rfl ?_
  refine j_getR hx flX14_30 kl900 h1 (by decide) (by decide +kernel) ?_
  refine j_getR hx flX14_129 kl213 h2 (by decide) (by decide +kernel) ?_
  refine j_gd (fun h5 => ?_)
  refine j_getR hx flX14_133 kl600 h5 (by decide) (by decide +kernel) ?_
  refine j_runA hx 1 (tb := [(27, .aload_n 0)]) (jtb_ok (by decide +kernel)) (pc' := 28) (lv' := [(0, vR t), (1, vI a1)]) (st' := [vR t, vR (jR W 600 (jR W 213 (jR W 900 t))), vI a1, vL (kJ 4), vL q4]) rfl ?_
  refine j_getR hx flX14_30 kl900 h1 (by decide) (by decide +kernel) ?_
  refine j_getR hx flX14_123 kl206 h2 (by decide) (by decide +kernel) ?_
  refine j_runA hx 1 (tb := [(34, .iload_n 1)]) (jtb_ok (by decide +kernel)) (pc' := 35) (lv' := [(0, vR t), (1, vI a1)]) (st' := [vI a1, vR (jR W 206 (jR W 900 t)), vR (jR W 600 (jR W 213 (jR W 900 t))), vI a1, vL (kJ 4), vL q4]) rfl ?_
  refine j_gd (fun h6 => ?_)
  refine j_iald hx (f := 206) (o := (jR W 900 t)) kd206 rfl (by decide +kernel) h6 ?_
  refine j_gd (fun h7 => ?_)
  refine j_iald hx (f := 600) (o := (jR W 213 (jR W 900 t))) kd600 rfl (by decide +kernel) h7 ?_
  refine j_runA hx 4 (tb := [(37, .isub), (38, .i2l), (39, .lmul), (40, .ladd)]) (jtb_ok (by decide +kernel)) (pc' := 41) (lv' := [(0, vR t), (1, vI a1)]) (st' := [vL (q4 + ((kJ 4) * ((a1 - (jA W 600 (jR W 213 (jR W 900 t)) (ix (jA W 206 (jR W 900 t) (ix a1))))).toInt64)))]) rfl ?_
  exact j_lret hx hm (by decide +kernel) (he _)
theorem cwr_movedWord (t : Nat) (a1 : Int32) (W : jW) : jM yX14_movedWord cX14_movedWord 2 (Option.some Jvm.ClassFile.FieldType.long) [] 3 39 [vR t, vI a1] W ((fwr_movedWord t a1 W).bind (fun q => some (.returned (some (.long q)), W))) := 
  jM.of (Nat.le_of_ble_eq_true rfl) (fun x hx hm hr => wwr_movedWord ⟨hx, hm, hr, fun _ => rfl⟩)
def hwo_paging (x : jCx) (en : (Int32) → Option (Outcome × jW)) (a0 : Int32) (a1 : Int64) (a3 : Int64) (W : jW) : Prop :=
  jOK x RX12 cX12_paging 6 ∧
  jMt x "paging" (Option.some Jvm.ClassFile.FieldType.int) [] ∧
  jRm x 1 15 ∧
  (∀ q : Int32, en q = some (.returned (some (.int q)), W))
theorem wwo_paging {x : jCx} {en : (Int32) → Option (Outcome × jW)} {W : jW} {a0 : Int32} {a1 : Int64} {a3 : Int64} (h : hwo_paging x en a0 a1 a3 W) : jJ x 6 0 [(0, vI a0), (1, vL a1), (3, vL a3)] [] W (some (fwo_paging a0 a1 a3)) en := by
  have h0 := h
  obtain ⟨hx, hm, hr, he⟩ := h0
  unfold fwo_paging
  refine j_runA hx 1 (tb := [(0, .lload_n 3)]) (jtb_ok (by decide +kernel)) (pc' := 1) (lv' := [(0, vI a0), (1, vL a1), (3, vL a3)]) (st' := [vL a3]) rfl ?_
  refine j_TL (j_callS (av := [vL a3]) (st := []) hx hr (Or.inl q1851) q1067 q247 md_fwo_pageOf np_fwo_pageOf (cwo_pageOf a3 W) (by decide) (Nat.le_of_ble_eq_true rfl) (by decide +kernel)) ?_
  refine j_runA hx 1 (tb := [(4, .lload_n 1)]) (jtb_ok (by decide +kernel)) (pc' := 5) (lv' := [(0, vI a0), (1, vL a1), (3, vL a3)]) (st' := [vL a1, vL (fwo_pageOf a3)]) rfl ?_
  refine j_TL (j_callS (av := [vL a1]) (st := [vL (fwo_pageOf a3)]) hx hr (Or.inl q1851) q1067 q247 md_fwo_pageOf np_fwo_pageOf (cwo_pageOf a1 W) (by decide) (Nat.le_of_ble_eq_true rfl) (by decide +kernel)) ?_
  refine j_runA hx 5 (tb := [(8, .lsub), (9, .bipush 12), (11, .lshr), (12, .l2i), (13, .istore 5)]) (jtb_ok (by decide +kernel)) (pc' := 15) (lv' := [(5, vI ((lxr ((fwo_pageOf a3) - (fwo_pageOf a1)) (kI 12)).toInt32)), (0, vI a0), (1, vL a1), (3, vL a3)]) (st' := []) rfl ?_
  refine j_letT (v := (lxr ((fwo_pageOf a3) - (fwo_pageOf a1)) (kI 12)).toInt32) (lv := fun v1 => [(5, vI v1), (0, vI a0), (1, vL a1), (3, vL a3)]) (st := fun _ => []) (fun v1 => ?_)
  refine j_runA hx 1 (tb := [(15, .iload_n 0)]) (jtb_ok (by decide +kernel)) (pc' := 16) (lv' := [(5, vI v1), (0, vI a0), (1, vL a1), (3, vL a3)]) (st' := [vI a0]) rfl ?_
  refine j_ldc hx (v := (kI (-1627389921))) (jkc q1852 (by decide +kernel)) (by decide +kernel) ?_
  refine j_runA hx 10 (tb := [(18, .iand), (19, .iload 5), (21, .iconst 3), (22, .iand), (23, .bipush 29), (25, .ishl), (26, .ior), (27, .iload 5), (29, .iconst 2), (30, .ishr)]) (jtb_ok (by decide +kernel)) (pc' := 31) (lv' := [(5, vI v1), (0, vI a0), (1, vL a1), (3, vL a3)]) (st' := [vI (ixr v1 (kI 2)), vI ((a0 &&& (kI (-1627389921))) ||| (ixl (v1 &&& (kI 3)) (kI 29)))]) rfl ?_
  refine j_ldc hx (v := (kI 524287)) (jkc q1073 (by decide +kernel)) (by decide +kernel) ?_
  refine j_runA hx 4 (tb := [(33, .iand), (34, .iconst 5), (35, .ishl), (36, .ior)]) (jtb_ok (by decide +kernel)) (pc' := 37) (lv' := [(5, vI v1), (0, vI a0), (1, vL a1), (3, vL a3)]) (st' := [vI (((a0 &&& (kI (-1627389921))) ||| (ixl (v1 &&& (kI 3)) (kI 29))) ||| (ixl ((ixr v1 (kI 2)) &&& (kI 524287)) (kI 5)))]) rfl ?_
  exact j_iret hx hm (by decide +kernel) rfl (he _)
theorem cwo_paging (a0 : Int32) (a1 : Int64) (a3 : Int64) (W : jW) : jM yX12_paging cX12_paging 6 (Option.some Jvm.ClassFile.FieldType.int) [] 1 15 [vI a0, vL a1, vL a3] W (some (.returned (some (.int (fwo_paging a0 a1 a3))), W)) := 
  jM.of (mm := some (fwo_paging a0 a1 a3)) (en := fun q => some (.returned (some (.int q)), W)) (Nat.le_of_ble_eq_true rfl) (fun x hx hm hr => wwo_paging ⟨hx, hm, hr, fun _ => rfl⟩)
def hwo_adding (x : jCx) (en : (Int32) → Option (Outcome × jW)) (a0 : Int32) (a1 : Int64) (W : jW) : Prop :=
  jOK x RX12 cX12_adding 3 ∧
  jMt x "adding" (Option.some Jvm.ClassFile.FieldType.int) [] ∧
  jRm x 0 0 ∧
  (∀ q : Int32, en q = some (.returned (some (.int q)), W))
theorem wwo_adding {x : jCx} {en : (Int32) → Option (Outcome × jW)} {W : jW} {a0 : Int32} {a1 : Int64} (h : hwo_adding x en a0 a1 W) : jJ x 3 0 [(0, vI a0), (1, vL a1)] [] W (some (fwo_adding a0 a1)) en := by
  have h0 := h
  obtain ⟨hx, hm, hr, he⟩ := h0
  unfold fwo_adding
  refine j_runA hx 1 (tb := [(0, .iload_n 0)]) (jtb_ok (by decide +kernel)) (pc' := 1) (lv' := [(0, vI a0), (1, vL a1)]) (st' := [vI a0]) rfl ?_
  refine j_ldc hx (v := (kI (-4193281))) (jkc q1856 (by decide +kernel)) (by decide +kernel) ?_
  refine j_runA hx 2 (tb := [(3, .iand), (4, .lload_n 1)]) (jtb_ok (by decide +kernel)) (pc' := 5) (lv' := [(0, vI a0), (1, vL a1)]) (st' := [vL a1, vI (a0 &&& (kI (-4193281)))]) rfl ?_
  refine j_ldc2 hx (v := (kJ 4095)) (jkd2 q1857 (by decide +kernel)) (by decide +kernel) ?_
  refine j_runA hx 5 (tb := [(8, .land), (9, .l2i), (10, .bipush 10), (12, .ishl), (13, .ior)]) (jtb_ok (by decide +kernel)) (pc' := 14) (lv' := [(0, vI a0), (1, vL a1)]) (st' := [vI ((a0 &&& (kI (-4193281))) ||| (ixl ((a1 &&& (kJ 4095)).toInt32) (kI 10)))]) rfl ?_
  exact j_iret hx hm (by decide +kernel) rfl (he _)
theorem cwo_adding (a0 : Int32) (a1 : Int64) (W : jW) : jM yX12_adding cX12_adding 3 (Option.some Jvm.ClassFile.FieldType.int) [] 0 0 [vI a0, vL a1] W (some (.returned (some (.int (fwo_adding a0 a1))), W)) := 
  jM.of (mm := some (fwo_adding a0 a1)) (en := fun q => some (.returned (some (.int q)), W)) (Nat.le_of_ble_eq_true rfl) (fun x hx hm hr => wwo_adding ⟨hx, hm, hr, fun _ => rfl⟩)
