/-! ===== walks: fmo_edge fmo_way fmo_calls fmo_same fmo_hotWords fmo_callerOf ===== -/
set_option maxRecDepth 100000
def hmo_edge (x : jCx) (en : (fmo_edge_S ⊕ (Int32 × jW)) → Option (Outcome × jW)) (t : Nat) (a1 : Int64) (a3 : Int64) (a5 : Int32) : Prop :=
  jOK x RX8 cX8_edge 12 ∧
  jMt x "edge" (Option.some Jvm.ClassFile.FieldType.int) [] ∧
  jRm x 4 61 ∧
  (∀ q : Int32 × jW, en (.inr q) = some (.returned (some (.int q.1)), q.2)) ∧
  (∀ (l8 : Int32) (l9 : Int32) (l10 : Int32) (l11 : Int32) (W : jW), jJ x 12 139 [(0, vR t), (1, vL a1), (3, vL a3), (5, vI a5), (8, vI l8), (9, vI l9), (10, vI l10), (11, vI l11)] [] W (some (.inl (l8, l9, l10, l11, W))) en)
theorem wmo_edge_24 {x : jCx} {en : (fmo_edge_S ⊕ (Int32 × jW)) → Option (Outcome × jW)} {t : Nat} {a1 : Int64} {a3 : Int64} {a5 : Int32} (h : hmo_edge x en t a1 a3 a5) (W : jW) : jJ x 12 24 [(0, vR t), (1, vL a1), (3, vL a3), (5, vI a5)] [] W (fmo_edge_24 t a1 a3 a5 W) en := by
  have h0 := h
  obtain ⟨hx, hm, hr, he, k139⟩ := h0
  unfold fmo_edge_24
  refine j_runA hx 1 (tb := [(24, .iconst (-1))]) (jtb_ok (by decide +kernel)) (pc' := 25) (lv' := [(0, vR t), (1, vL a1), (3, vL a3), (5, vI a5)]) (st' := [vI (kI (-1))]) rfl ?_
  exact j_iret hx hm (by decide +kernel) rfl (he _)
theorem wmo_edge_61 {x : jCx} {en : (fmo_edge_S ⊕ (Int32 × jW)) → Option (Outcome × jW)} {t : Nat} {a1 : Int64} {a3 : Int64} {a5 : Int32} (h : hmo_edge x en t a1 a3 a5) (W : jW) : jJ x 12 61 [(0, vR t), (1, vL a1), (3, vL a3), (5, vI a5)] [] W (fmo_edge_61 t a1 a3 a5 W) en := by
  have h0 := h
  obtain ⟨hx, hm, hr, he, k139⟩ := h0
  unfold fmo_edge_61
  refine j_runA hx 1 (tb := [(61, .bipush (-2))]) (jtb_ok (by decide +kernel)) (pc' := 63) (lv' := [(0, vR t), (1, vL a1), (3, vL a3), (5, vI a5)]) (st' := [vI (kI (-2))]) rfl ?_
  exact j_iret hx hm (by decide +kernel) rfl (he _)
theorem wmo_edge_86 {x : jCx} {en : (fmo_edge_S ⊕ (Int32 × jW)) → Option (Outcome × jW)} {t : Nat} {a1 : Int64} {a3 : Int64} {a5 : Int32} (h : hmo_edge x en t a1 a3 a5) (W : jW) : jJ x 12 86 [(0, vR t), (1, vL a1), (3, vL a3), (5, vI a5)] [] W (fmo_edge_86 t a1 a3 a5 W) en := by
  have h0 := h
  obtain ⟨hx, hm, hr, he, k139⟩ := h0
  unfold fmo_edge_86
  refine j_runA hx 1 (tb := [(86, .bipush (-3))]) (jtb_ok (by decide +kernel)) (pc' := 88) (lv' := [(0, vR t), (1, vL a1), (3, vL a3), (5, vI a5)]) (st' := [vI (kI (-3))]) rfl ?_
  exact j_iret hx hm (by decide +kernel) rfl (he _)
theorem wmo_edge_172 {x : jCx} {en : (fmo_edge_S ⊕ (Int32 × jW)) → Option (Outcome × jW)} {t : Nat} {a1 : Int64} {a3 : Int64} {a5 : Int32} (h : hmo_edge x en t a1 a3 a5) (l8 : Int32) (l9 : Int32) (l10 : Int32) (l11 : Int32) (W : jW) : jJ x 12 172 [(0, vR t), (1, vL a1), (3, vL a3), (5, vI a5), (8, vI l8), (9, vI l9), (10, vI l10), (11, vI l11)] [] W (fmo_edge_172 t a1 a3 a5 l8 l9 l10 l11 W) en := by
  have h0 := h
  obtain ⟨hx, hm, hr, he, k139⟩ := h0
  unfold fmo_edge_172
  refine j_runA hx 1 (tb := [(172, .iinc 11 1)]) (jtb_ok (by decide +kernel)) (pc' := 175) (lv' := [(11, vI (l11 + (kI 1))), (0, vR t), (1, vL a1), (3, vL a3), (5, vI a5), (8, vI l8), (9, vI l9), (10, vI l10)]) (st' := []) rfl ?_
  refine j_let (v := (l11 + (kI 1))) (lv := fun v20 => [(11, vI v20), (0, vR t), (1, vL a1), (3, vL a3), (5, vI a5), (8, vI l8), (9, vI l9), (10, vI l10)]) (st := fun _ => []) (fun v20 => ?_)
  refine j_goto hx (off := -36) (by decide +kernel) (tgt := 139) (by decide) ?_
  refine j_lv (lv' := [(0, vR t), (1, vL a1), (3, vL a3), (5, vI a5), (8, vI l8), (9, vI l9), (10, vI l10), (11, vI v20)]) ⟨rfl, rfl, rfl, rfl, rfl, rfl, rfl, rfl, trivial⟩ ?_
  exact k139 l8 l9 l10 v20 W
theorem wmo_edge_256 {x : jCx} {en : (fmo_edge_S ⊕ (Int32 × jW)) → Option (Outcome × jW)} {t : Nat} {a1 : Int64} {a3 : Int64} {a5 : Int32} (h : hmo_edge x en t a1 a3 a5) (l11 : Int32) (W : jW) : jJ x 12 256 [(0, vR t), (1, vL a1), (3, vL a3), (5, vI a5), (11, vI l11)] [] W (fmo_edge_256 t a1 a3 a5 l11 W) en := by
  have h0 := h
  obtain ⟨hx, hm, hr, he, k139⟩ := h0
  unfold fmo_edge_256
  refine j_runA hx 1 (tb := [(256, .aload_n 0)]) (jtb_ok (by decide +kernel)) (pc' := 257) (lv' := [(0, vR t), (1, vL a1), (3, vL a3), (5, vI a5), (11, vI l11)]) (st' := [vR t]) rfl ?_
  refine j_gd (fun h55 => ?_)
  refine j_getR hx flX8_86 kl1333 h55 (by decide) (by decide +kernel) ?_
  refine j_runA hx 2 (tb := [(260, .iload 11), (262, .dup2)]) (jtb_ok (by decide +kernel)) (pc' := 263) (lv' := [(0, vR t), (1, vL a1), (3, vL a3), (5, vI a5), (11, vI l11)]) (st' := [vI l11, vR (jR W 1333 t), vI l11, vR (jR W 1333 t)]) rfl ?_
  refine j_gd (fun h56 => ?_)
  refine j_lald hx (f := 1333) (o := t) kd1333 rfl (by decide +kernel) h56 ?_
  refine j_runA hx 3 (tb := [(264, .iload 5), (266, .i2l), (267, .ladd)]) (jtb_ok (by decide +kernel)) (pc' := 268) (lv' := [(0, vR t), (1, vL a1), (3, vL a3), (5, vI a5), (11, vI l11)]) (st' := [vL ((jB W 1333 t (ix l11)) + a5.toInt64), vI l11, vR (jR W 1333 t)]) rfl ?_
  refine j_gd (fun h57 => ?_)
  refine j_last hx (f := 1333) (o := t) kd1333 rfl (by decide +kernel) h57 ?_
  refine j_ltw rfl (fun W58 hc59 => ?_)
  have h60 : jC W58 t = 13 := (congrFun hc59 _).trans h55
  refine j_runA hx 1 (tb := [(269, .iconst 0)]) (jtb_ok (by decide +kernel)) (pc' := 270) (lv' := [(0, vR t), (1, vL a1), (3, vL a3), (5, vI a5), (11, vI l11)]) (st' := [vI (kI 0)]) rfl ?_
  exact j_iret hx hm (by decide +kernel) rfl (he _)
theorem wmo_edge_237 {x : jCx} {en : (fmo_edge_S ⊕ (Int32 × jW)) → Option (Outcome × jW)} {t : Nat} {a1 : Int64} {a3 : Int64} {a5 : Int32} (h : hmo_edge x en t a1 a3 a5) (l11 : Int32) (s0 : Int32) (s1 : Int32) (s2 : Nat) (W : jW) : jJ x 12 237 [(0, vR t), (1, vL a1), (3, vL a3), (5, vI a5), (11, vI l11)] [vI s0, vI s1, vR s2] W (fmo_edge_237 t a1 a3 a5 l11 s0 s1 s2 W) en := by
  have h0 := h
  obtain ⟨hx, hm, hr, he, k139⟩ := h0
  unfold fmo_edge_237
  refine j_gd (fun h39 => ?_)
  refine j_gd (fun h40 => ?_)
  refine j_zast hx (f := 1332) (o := t) kd1332 h39 (by decide +kernel) h40 ?_
  refine j_ltw rfl (fun W41 hc42 => ?_)
  refine j_runA hx 1 (tb := [(238, .aload_n 0)]) (jtb_ok (by decide +kernel)) (pc' := 239) (lv' := [(0, vR t), (1, vL a1), (3, vL a3), (5, vI a5), (11, vI l11)]) (st' := [vR t]) rfl ?_
  refine j_gd (fun h44 => ?_)
  refine j_getR hx flX8_86 kl1333 h44 (by decide) (by decide +kernel) ?_
  refine j_runA hx 2 (tb := [(242, .iload 11), (244, .lconst 0)]) (jtb_ok (by decide +kernel)) (pc' := 245) (lv' := [(0, vR t), (1, vL a1), (3, vL a3), (5, vI a5), (11, vI l11)]) (st' := [vL (kJ 0), vI l11, vR (jR W41 1333 t)]) rfl ?_
  refine j_gd (fun h45 => ?_)
  refine j_last hx (f := 1333) (o := t) kd1333 rfl (by decide +kernel) h45 ?_
  refine j_ltw rfl (fun W46 hc47 => ?_)
  have h48 : jC W46 t = 13 := (congrFun hc47 _).trans h44
  refine j_runA hx 2 (tb := [(246, .aload_n 0), (247, .dup)]) (jtb_ok (by decide +kernel)) (pc' := 248) (lv' := [(0, vR t), (1, vL a1), (3, vL a3), (5, vI a5), (11, vI l11)]) (st' := [vR t, vR t]) rfl ?_
  refine j_getI hx flX8_272 kd1329 h48 (by decide) (by decide +kernel) ?_
  refine j_runA hx 2 (tb := [(251, .iconst 1), (252, .iadd)]) (jtb_ok (by decide +kernel)) (pc' := 253) (lv' := [(0, vR t), (1, vL a1), (3, vL a3), (5, vI a5), (11, vI l11)]) (st' := [vI ((jI W46 1329 t) + (kI 1)), vR t]) rfl ?_
  refine j_putI hx fwX8_272 wf1329 kd1329 h48 (by decide) (by decide +kernel) (ni1329 _) (fi1329 _) ?_
  refine j_ltw rfl (fun W50 hc51 => ?_)
  have h52 : jC W50 t = 13 := (congrFun hc51 _).trans h48
  exact wmo_edge_256 h l11 W50
theorem wmo_edge_203 {x : jCx} {en : (fmo_edge_S ⊕ (Int32 × jW)) → Option (Outcome × jW)} {t : Nat} {a1 : Int64} {a3 : Int64} {a5 : Int32} (h : hmo_edge x en t a1 a3 a5) (l8 : Int32) (l9 : Int32) (l10 : Int32) (l11 : Int32) (W : jW) : jJ x 12 203 [(0, vR t), (1, vL a1), (3, vL a3), (5, vI a5), (8, vI l8), (9, vI l9), (10, vI l10), (11, vI l11)] [] W (fmo_edge_203 t a1 a3 a5 l8 l9 l10 l11 W) en := by
  have h0 := h
  obtain ⟨hx, hm, hr, he, k139⟩ := h0
  unfold fmo_edge_203
  refine j_runA hx 1 (tb := [(203, .aload_n 0)]) (jtb_ok (by decide +kernel)) (pc' := 204) (lv' := [(0, vR t), (1, vL a1), (3, vL a3), (5, vI a5), (8, vI l8), (9, vI l9), (10, vI l10), (11, vI l11)]) (st' := [vR t]) rfl ?_
  refine j_gd (fun h27 => ?_)
  refine j_getR hx flX8_77 kl1330 h27 (by decide) (by decide +kernel) ?_
  refine j_runA hx 2 (tb := [(207, .iload 11), (209, .iload 8)]) (jtb_ok (by decide +kernel)) (pc' := 211) (lv' := [(0, vR t), (1, vL a1), (3, vL a3), (5, vI a5), (8, vI l8), (9, vI l9), (10, vI l10), (11, vI l11)]) (st' := [vI l8, vI l11, vR (jR W 1330 t)]) rfl ?_
  refine j_gd (fun h28 => ?_)
  refine j_iast hx (f := 1330) (o := t) kd1330 rfl (by decide +kernel) h28 ?_
  refine j_ltw rfl (fun W29 hc30 => ?_)
  have h31 : jC W29 t = 13 := (congrFun hc30 _).trans h27
  refine j_runA hx 1 (tb := [(212, .aload_n 0)]) (jtb_ok (by decide +kernel)) (pc' := 213) (lv' := [(0, vR t), (1, vL a1), (3, vL a3), (5, vI a5), (8, vI l8), (9, vI l9), (10, vI l10), (11, vI l11)]) (st' := [vR t]) rfl ?_
  refine j_getR hx flX8_80 kl1331 h31 (by decide) (by decide +kernel) ?_
  refine j_runA hx 2 (tb := [(216, .iload 11), (218, .iload 9)]) (jtb_ok (by decide +kernel)) (pc' := 220) (lv' := [(0, vR t), (1, vL a1), (3, vL a3), (5, vI a5), (8, vI l8), (9, vI l9), (10, vI l10), (11, vI l11)]) (st' := [vI l9, vI l11, vR (jR W29 1331 t)]) rfl ?_
  refine j_gd (fun h33 => ?_)
  refine j_iast hx (f := 1331) (o := t) kd1331 rfl (by decide +kernel) h33 ?_
  refine j_ltw rfl (fun W34 hc35 => ?_)
  have h36 : jC W34 t = 13 := (congrFun hc35 _).trans h31
  refine j_runA hx 1 (tb := [(221, .aload_n 0)]) (jtb_ok (by decide +kernel)) (pc' := 222) (lv' := [(0, vR t), (1, vL a1), (3, vL a3), (5, vI a5), (8, vI l8), (9, vI l9), (10, vI l10), (11, vI l11)]) (st' := [vR t]) rfl ?_
  refine j_getR hx flX8_83 kl1332 h36 (by decide) (by decide +kernel) ?_
  refine j_runA hx 2 (tb := [(225, .iload 11), (227, .iload 10)]) (jtb_ok (by decide +kernel)) (pc' := 229) (lv' := [(0, vR t), (1, vL a1), (3, vL a3), (5, vI a5), (8, vI l8), (9, vI l9), (10, vI l10), (11, vI l11)]) (st' := [vI l10, vI l11, vR (jR W34 1332 t)]) rfl ?_
  refine j_if_ne hx (off := 7) (tgt := 236) (by decide +kernel) (by decide) (fun _ => ?_) (fun _ => ?_)
  · refine j_runA hx 1 (tb := [(236, .iconst 0)]) (jtb_ok (by decide +kernel)) (pc' := 237) (lv' := [(0, vR t), (1, vL a1), (3, vL a3), (5, vI a5), (8, vI l8), (9, vI l9), (10, vI l10), (11, vI l11)]) (st' := [vI (kI 0), vI l11, vR (jR W34 1332 t)]) rfl ?_
    refine j_lv (lv' := [(0, vR t), (1, vL a1), (3, vL a3), (5, vI a5), (11, vI l11)]) ⟨rfl, rfl, rfl, rfl, rfl, trivial⟩ ?_
    exact wmo_edge_237 h l11 (kI 0) l11 (jR W34 1332 t) W34
  refine j_runA hx 1 (tb := [(232, .iconst 1)]) (jtb_ok (by decide +kernel)) (pc' := 233) (lv' := [(0, vR t), (1, vL a1), (3, vL a3), (5, vI a5), (8, vI l8), (9, vI l9), (10, vI l10), (11, vI l11)]) (st' := [vI (kI 1), vI l11, vR (jR W34 1332 t)]) rfl ?_
  refine j_goto hx (off := 4) (by decide +kernel) (tgt := 237) (by decide) ?_
  refine j_lv (lv' := [(0, vR t), (1, vL a1), (3, vL a3), (5, vI a5), (11, vI l11)]) ⟨rfl, rfl, rfl, rfl, rfl, trivial⟩ ?_
  exact wmo_edge_237 h l11 (kI 1) l11 (jR W34 1332 t) W34
theorem wmo_edge_178 {x : jCx} {en : (fmo_edge_S ⊕ (Int32 × jW)) → Option (Outcome × jW)} {t : Nat} {a1 : Int64} {a3 : Int64} {a5 : Int32} (h : hmo_edge x en t a1 a3 a5) (l8 : Int32) (l9 : Int32) (l10 : Int32) (l11 : Int32) (W : jW) : jJ x 12 178 [(0, vR t), (1, vL a1), (3, vL a3), (5, vI a5), (8, vI l8), (9, vI l9), (10, vI l10), (11, vI l11)] [] W (fmo_edge_178 t a1 a3 a5 l8 l9 l10 l11 W) en := by
  have h0 := h
  obtain ⟨hx, hm, hr, he, k139⟩ := h0
  unfold fmo_edge_178
  refine j_runA hx 2 (tb := [(178, .iload 11), (180, .aload_n 0)]) (jtb_ok (by decide +kernel)) (pc' := 181) (lv' := [(0, vR t), (1, vL a1), (3, vL a3), (5, vI a5), (8, vI l8), (9, vI l9), (10, vI l10), (11, vI l11)]) (st' := [vR t, vI l11]) rfl ?_
  refine j_gd (fun h22 => ?_)
  refine j_getI hx flX8_272 kd1329 h22 (by decide) (by decide +kernel) ?_
  refine j_icmp_ne hx (off := 72) (tgt := 256) (by decide +kernel) (by decide) (fun _ => ?_) (fun _ => ?_)
  · refine j_lv (lv' := [(0, vR t), (1, vL a1), (3, vL a3), (5, vI a5), (11, vI l11)]) ⟨rfl, rfl, rfl, rfl, rfl, trivial⟩ ?_
    exact wmo_edge_256 h l11 W
  refine j_runA hx 1 (tb := [(187, .aload_n 0)]) (jtb_ok (by decide +kernel)) (pc' := 188) (lv' := [(0, vR t), (1, vL a1), (3, vL a3), (5, vI a5), (8, vI l8), (9, vI l9), (10, vI l10), (11, vI l11)]) (st' := [vR t]) rfl ?_
  refine j_getI hx flX8_272 kd1329 h22 (by decide) (by decide +kernel) ?_
  refine j_runA hx 1 (tb := [(191, .aload_n 0)]) (jtb_ok (by decide +kernel)) (pc' := 192) (lv' := [(0, vR t), (1, vL a1), (3, vL a3), (5, vI a5), (8, vI l8), (9, vI l9), (10, vI l10), (11, vI l11)]) (st' := [vR t, vI (jI W 1329 t)]) rfl ?_
  refine j_getR hx flX8_77 kl1330 h22 (by decide) (by decide +kernel) ?_
  refine j_gd (fun h23 => ?_)
  refine j_alen hx (f := 1330) (o := t) kg1330 kh1330 rfl (by decide +kernel) h23 ?_
  refine j_icmp_ne hx (off := 7) (tgt := 203) (by decide +kernel) (by decide) (fun _ => ?_) (fun _ => ?_)
  · exact wmo_edge_203 h l8 l9 l10 l11 W
  refine j_runA hx 1 (tb := [(199, .aload_n 0)]) (jtb_ok (by decide +kernel)) (pc' := 200) (lv' := [(0, vR t), (1, vL a1), (3, vL a3), (5, vI a5), (8, vI l8), (9, vI l9), (10, vI l10), (11, vI l11)]) (st' := [vR t]) rfl ?_
  refine j_WV (j_callV (av := []) (st := []) hx hr (Or.inl q3122) q3124 qs156 rfl md_fmo_more np_fmo_more (cmo_more t W) (by decide) (Nat.le_of_ble_eq_true rfl) h22 (by decide) (by decide +kernel)) (fun q24 _ => ?_)
  exact wmo_edge_203 h l8 l9 l10 l11 q24
theorem wmo_edge_139 {x : jCx} {en : (fmo_edge_S ⊕ (Int32 × jW)) → Option (Outcome × jW)} {t : Nat} {a1 : Int64} {a3 : Int64} {a5 : Int32} (h : hmo_edge x en t a1 a3 a5) (l8 : Int32) (l9 : Int32) (l10 : Int32) (l11 : Int32) (W : jW) : jJ x 12 139 [(0, vR t), (1, vL a1), (3, vL a3), (5, vI a5), (8, vI l8), (9, vI l9), (10, vI l10), (11, vI l11)] [] W (fmo_edge_139 t a1 a3 a5 l8 l9 l10 l11 W) en := by
  have h0 := h
  obtain ⟨hx, hm, hr, he, k139⟩ := h0
  unfold fmo_edge_139
  refine j_runA hx 2 (tb := [(139, .iload 11), (141, .aload_n 0)]) (jtb_ok (by decide +kernel)) (pc' := 142) (lv' := [(0, vR t), (1, vL a1), (3, vL a3), (5, vI a5), (8, vI l8), (9, vI l9), (10, vI l10), (11, vI l11)]) (st' := [vR t, vI l11]) rfl ?_
  refine j_gd (fun h16 => ?_)
  refine j_getI hx flX8_272 kd1329 h16 (by decide) (by decide +kernel) ?_
  refine j_icmp_ge hx (off := 33) (tgt := 178) (by decide +kernel) (by decide) (fun _ => ?_) (fun _ => ?_)
  · exact wmo_edge_178 h l8 l9 l10 l11 W
  refine j_runA hx 1 (tb := [(148, .aload_n 0)]) (jtb_ok (by decide +kernel)) (pc' := 149) (lv' := [(0, vR t), (1, vL a1), (3, vL a3), (5, vI a5), (8, vI l8), (9, vI l9), (10, vI l10), (11, vI l11)]) (st' := [vR t]) rfl ?_
  refine j_getR hx flX8_77 kl1330 h16 (by decide) (by decide +kernel) ?_
  refine j_runA hx 1 (tb := [(152, .iload 11)]) (jtb_ok (by decide +kernel)) (pc' := 154) (lv' := [(0, vR t), (1, vL a1), (3, vL a3), (5, vI a5), (8, vI l8), (9, vI l9), (10, vI l10), (11, vI l11)]) (st' := [vI l11, vR (jR W 1330 t)]) rfl ?_
  refine j_gd (fun h17 => ?_)
  refine j_iald hx (f := 1330) (o := t) kd1330 rfl (by decide +kernel) h17 ?_
  refine j_runA hx 1 (tb := [(155, .iload 8)]) (jtb_ok (by decide +kernel)) (pc' := 157) (lv' := [(0, vR t), (1, vL a1), (3, vL a3), (5, vI a5), (8, vI l8), (9, vI l9), (10, vI l10), (11, vI l11)]) (st' := [vI l8, vI (jA W 1330 t (ix l11))]) rfl ?_
  refine j_icmp_ne hx (off := 15) (tgt := 172) (by decide +kernel) (by decide) (fun _ => ?_) (fun _ => ?_)
  · exact wmo_edge_172 h l8 l9 l10 l11 W
  refine j_runA hx 1 (tb := [(160, .aload_n 0)]) (jtb_ok (by decide +kernel)) (pc' := 161) (lv' := [(0, vR t), (1, vL a1), (3, vL a3), (5, vI a5), (8, vI l8), (9, vI l9), (10, vI l10), (11, vI l11)]) (st' := [vR t]) rfl ?_
  refine j_getR hx flX8_80 kl1331 h16 (by decide) (by decide +kernel) ?_
  refine j_runA hx 1 (tb := [(164, .iload 11)]) (jtb_ok (by decide +kernel)) (pc' := 166) (lv' := [(0, vR t), (1, vL a1), (3, vL a3), (5, vI a5), (8, vI l8), (9, vI l9), (10, vI l10), (11, vI l11)]) (st' := [vI l11, vR (jR W 1331 t)]) rfl ?_
  refine j_gd (fun h18 => ?_)
  refine j_iald hx (f := 1331) (o := t) kd1331 rfl (by decide +kernel) h18 ?_
  refine j_runA hx 1 (tb := [(167, .iload 9)]) (jtb_ok (by decide +kernel)) (pc' := 169) (lv' := [(0, vR t), (1, vL a1), (3, vL a3), (5, vI a5), (8, vI l8), (9, vI l9), (10, vI l10), (11, vI l11)]) (st' := [vI l9, vI (jA W 1331 t (ix l11))]) rfl ?_
  refine j_icmp_eq hx (off := 9) (tgt := 178) (by decide +kernel) (by decide) (fun _ => ?_) (fun _ => ?_)
  · exact wmo_edge_178 h l8 l9 l10 l11 W
  exact wmo_edge_172 h l8 l9 l10 l11 W
theorem wmo_edge_136 {x : jCx} {en : (fmo_edge_S ⊕ (Int32 × jW)) → Option (Outcome × jW)} {t : Nat} {a1 : Int64} {a3 : Int64} {a5 : Int32} (h : hmo_edge x en t a1 a3 a5) (l8 : Int32) (l9 : Int32) (l10 : Int32) (W : jW) : jJ x 12 136 [(0, vR t), (1, vL a1), (3, vL a3), (5, vI a5), (8, vI l8), (9, vI l9), (10, vI l10)] [] W (fmo_edge_136 t a1 a3 a5 l8 l9 l10 W) en := by
  have h0 := h
  obtain ⟨hx, hm, hr, he, k139⟩ := h0
  unfold fmo_edge_136
  refine j_runA hx 2 (tb := [(136, .iconst 0), (137, .istore 11)]) (jtb_ok (by decide +kernel)) (pc' := 139) (lv' := [(11, vI (kI 0)), (0, vR t), (1, vL a1), (3, vL a3), (5, vI a5), (8, vI l8), (9, vI l9), (10, vI l10)]) (st' := []) rfl ?_
  refine j_lv (lv' := [(0, vR t), (1, vL a1), (3, vL a3), (5, vI a5), (8, vI l8), (9, vI l9), (10, vI l10), (11, vI (kI 0))]) ⟨rfl, rfl, rfl, rfl, rfl, rfl, rfl, rfl, trivial⟩ ?_
  exact k139 l8 l9 l10 (kI 0) W
theorem wmo_edge {x : jCx} {en : (fmo_edge_S ⊕ (Int32 × jW)) → Option (Outcome × jW)} {t : Nat} {a1 : Int64} {a3 : Int64} {a5 : Int32} (h : hmo_edge x en t a1 a3 a5) (W : jW) : jJ x 12 0 [(0, vR t), (1, vL a1), (3, vL a3), (5, vI a5)] [] W (fmo_edge_0 t a1 a3 a5 W) en := by
  have h0 := h
  obtain ⟨hx, hm, hr, he, k139⟩ := h0
  unfold fmo_edge_0
  refine j_runA hx 1 (tb := [(0, .aload_n 0)]) (jtb_ok (by decide +kernel)) (pc' := 1) (lv' := [(0, vR t), (1, vL a1), (3, vL a3), (5, vI a5)]) (st' := [vR t]) rfl ?_
  refine j_gd (fun h1 => ?_)
  refine j_getI hx flX8_265 kd1307 h1 (by decide) (by decide +kernel) ?_
  refine j_if_ne hx (off := 6) (tgt := 10) (by decide +kernel) (by decide) (fun _ => ?_) (fun _ => ?_)
  · refine j_runA hx 2 (tb := [(10, .iload 5), (12, .iconst 1)]) (jtb_ok (by decide +kernel)) (pc' := 13) (lv' := [(0, vR t), (1, vL a1), (3, vL a3), (5, vI a5)]) (st' := [vI (kI 1), vI a5]) rfl ?_
    refine j_icmp_lt hx (off := 11) (tgt := 24) (by decide +kernel) (by decide) (fun _ => ?_) (fun _ => ?_)
    · exact wmo_edge_24 h W
    refine j_runA hx 1 (tb := [(16, .iload 5)]) (jtb_ok (by decide +kernel)) (pc' := 18) (lv' := [(0, vR t), (1, vL a1), (3, vL a3), (5, vI a5)]) (st' := [vI a5]) rfl ?_
    refine j_ldcw hx (v := (kI 1000000000)) (jkc q3105 (by decide +kernel)) (by decide +kernel) ?_
    refine j_icmp_le hx (off := 5) (tgt := 26) (by decide +kernel) (by decide) (fun _ => ?_) (fun _ => ?_)
    · refine j_runA hx 2 (tb := [(26, .aload_n 0), (27, .lload_n 1)]) (jtb_ok (by decide +kernel)) (pc' := 28) (lv' := [(0, vR t), (1, vL a1), (3, vL a3), (5, vI a5)]) (st' := [vL a1, vR t]) rfl ?_
      refine j_OI (j_callV (av := [vL a1]) (st := []) hx hr (Or.inl q3106) q3108 qs152 rfl md_fmo_wordAt np_fmo_wordAt (cmo_wordAt t a1 W) (by decide) (Nat.le_of_ble_eq_true rfl) h1 (by decide) (by decide +kernel)) (fun q2 _ => ?_)
      refine j_runA hx 3 (tb := [(31, .istore 6), (33, .aload_n 0), (34, .lload_n 3)]) (jtb_ok (by decide +kernel)) (pc' := 35) (lv' := [(6, vI q2), (0, vR t), (1, vL a1), (3, vL a3), (5, vI a5)]) (st' := [vL a3, vR t]) rfl ?_
      refine j_OI (j_callV (av := [vL a3]) (st := []) hx hr (Or.inl q3106) q3108 qs152 rfl md_fmo_wordAt np_fmo_wordAt (cmo_wordAt t a3 W) (by decide) (Nat.le_of_ble_eq_true rfl) h1 (by decide) (by decide +kernel)) (fun q3 _ => ?_)
      refine j_runA hx 2 (tb := [(38, .istore 7), (40, .iload 6)]) (jtb_ok (by decide +kernel)) (pc' := 42) (lv' := [(7, vI q3), (6, vI q2), (0, vR t), (1, vL a1), (3, vL a3), (5, vI a5)]) (st' := [vI q2]) rfl ?_
      refine j_if_lt hx (off := 19) (tgt := 61) (by decide +kernel) (by decide) (fun _ => ?_) (fun _ => ?_)
      · refine j_lv (lv' := [(0, vR t), (1, vL a1), (3, vL a3), (5, vI a5)]) ⟨rfl, rfl, rfl, rfl, trivial⟩ ?_
        exact wmo_edge_61 h W
      refine j_runA hx 2 (tb := [(45, .aload_n 0), (46, .aload_n 0)]) (jtb_ok (by decide +kernel)) (pc' := 47) (lv' := [(7, vI q3), (6, vI q2), (0, vR t), (1, vL a1), (3, vL a3), (5, vI a5)]) (st' := [vR t, vR t]) rfl ?_
      refine j_getR hx flX8_43 kl1317 h1 (by decide) (by decide +kernel) ?_
      refine j_runA hx 1 (tb := [(50, .iload 6)]) (jtb_ok (by decide +kernel)) (pc' := 52) (lv' := [(7, vI q3), (6, vI q2), (0, vR t), (1, vL a1), (3, vL a3), (5, vI a5)]) (st' := [vI q2, vR (jR W 1317 t), vR t]) rfl ?_
      refine j_gd (fun h4 => ?_)
      refine j_iald hx (f := 1317) (o := t) kd1317 rfl (by decide +kernel) h4 ?_
      refine j_OI (j_callV (av := [vI (jA W 1317 t (ix q2))]) (st := []) hx hr (Or.inl q3063) q3065 qs147 rfl md_fmo_last np_fmo_last (cmo_last t (jA W 1317 t (ix q2)) W) (by decide) (Nat.le_of_ble_eq_true rfl) h1 (by decide) (by decide +kernel)) (fun q5 _ => ?_)
      refine j_runA hx 1 (tb := [(56, .iload 6)]) (jtb_ok (by decide +kernel)) (pc' := 58) (lv' := [(7, vI q3), (6, vI q2), (0, vR t), (1, vL a1), (3, vL a3), (5, vI a5)]) (st' := [vI q2, vI q5]) rfl ?_
      refine j_icmp_eq hx (off := 6) (tgt := 64) (by decide +kernel) (by decide) (fun _ => ?_) (fun _ => ?_)
      · refine j_runA hx 1 (tb := [(64, .iload 7)]) (jtb_ok (by decide +kernel)) (pc' := 66) (lv' := [(7, vI q3), (6, vI q2), (0, vR t), (1, vL a1), (3, vL a3), (5, vI a5)]) (st' := [vI q3]) rfl ?_
        refine j_if_lt hx (off := 20) (tgt := 86) (by decide +kernel) (by decide) (fun _ => ?_) (fun _ => ?_)
        · refine j_lv (lv' := [(0, vR t), (1, vL a1), (3, vL a3), (5, vI a5)]) ⟨rfl, rfl, rfl, rfl, trivial⟩ ?_
          exact wmo_edge_86 h W
        refine j_runA hx 1 (tb := [(69, .aload_n 0)]) (jtb_ok (by decide +kernel)) (pc' := 70) (lv' := [(7, vI q3), (6, vI q2), (0, vR t), (1, vL a1), (3, vL a3), (5, vI a5)]) (st' := [vR t]) rfl ?_
        refine j_getR hx flX8_59 kl1322 h1 (by decide) (by decide +kernel) ?_
        refine j_runA hx 1 (tb := [(73, .aload_n 0)]) (jtb_ok (by decide +kernel)) (pc' := 74) (lv' := [(7, vI q3), (6, vI q2), (0, vR t), (1, vL a1), (3, vL a3), (5, vI a5)]) (st' := [vR t, vR (jR W 1322 t)]) rfl ?_
        refine j_getR hx flX8_43 kl1317 h1 (by decide) (by decide +kernel) ?_
        refine j_runA hx 1 (tb := [(77, .iload 7)]) (jtb_ok (by decide +kernel)) (pc' := 79) (lv' := [(7, vI q3), (6, vI q2), (0, vR t), (1, vL a1), (3, vL a3), (5, vI a5)]) (st' := [vI q3, vR (jR W 1317 t), vR (jR W 1322 t)]) rfl ?_
        refine j_gd (fun h6 => ?_)
        refine j_iald hx (f := 1317) (o := t) kd1317 rfl (by decide +kernel) h6 ?_
        refine j_gd (fun h7 => ?_)
        refine j_iald hx (f := 1322) (o := t) kd1322 rfl (by decide +kernel) h7 ?_
        refine j_runA hx 1 (tb := [(81, .iload 7)]) (jtb_ok (by decide +kernel)) (pc' := 83) (lv' := [(7, vI q3), (6, vI q2), (0, vR t), (1, vL a1), (3, vL a3), (5, vI a5)]) (st' := [vI q3, vI (jA W 1322 t (ix (jA W 1317 t (ix q3))))]) rfl ?_
        refine j_icmp_eq hx (off := 6) (tgt := 89) (by decide +kernel) (by decide) (fun _ => ?_) (fun _ => ?_)
        · refine j_runA hx 1 (tb := [(89, .aload_n 0)]) (jtb_ok (by decide +kernel)) (pc' := 90) (lv' := [(7, vI q3), (6, vI q2), (0, vR t), (1, vL a1), (3, vL a3), (5, vI a5)]) (st' := [vR t]) rfl ?_
          refine j_getR hx flX8_43 kl1317 h1 (by decide) (by decide +kernel) ?_
          refine j_runA hx 1 (tb := [(93, .iload 6)]) (jtb_ok (by decide +kernel)) (pc' := 95) (lv' := [(7, vI q3), (6, vI q2), (0, vR t), (1, vL a1), (3, vL a3), (5, vI a5)]) (st' := [vI q2, vR (jR W 1317 t)]) rfl ?_
          refine j_gd (fun h8 => ?_)
          refine j_iald hx (f := 1317) (o := t) kd1317 rfl (by decide +kernel) h8 ?_
          refine j_runA hx 1 (tb := [(96, .istore 8)]) (jtb_ok (by decide +kernel)) (pc' := 98) (lv' := [(8, vI (jA W 1317 t (ix q2))), (7, vI q3), (6, vI q2), (0, vR t), (1, vL a1), (3, vL a3), (5, vI a5)]) (st' := []) rfl ?_
          refine j_let (v := (jA W 1317 t (ix q2))) (lv := fun v9 => [(8, vI v9), (7, vI q3), (6, vI q2), (0, vR t), (1, vL a1), (3, vL a3), (5, vI a5)]) (st := fun _ => []) (fun v9 => ?_)
          refine j_runA hx 1 (tb := [(98, .aload_n 0)]) (jtb_ok (by decide +kernel)) (pc' := 99) (lv' := [(8, vI v9), (7, vI q3), (6, vI q2), (0, vR t), (1, vL a1), (3, vL a3), (5, vI a5)]) (st' := [vR t]) rfl ?_
          refine j_getR hx flX8_43 kl1317 h1 (by decide) (by decide +kernel) ?_
          refine j_runA hx 1 (tb := [(102, .iload 7)]) (jtb_ok (by decide +kernel)) (pc' := 104) (lv' := [(8, vI v9), (7, vI q3), (6, vI q2), (0, vR t), (1, vL a1), (3, vL a3), (5, vI a5)]) (st' := [vI q3, vR (jR W 1317 t)]) rfl ?_
          refine j_gd (fun h10 => ?_)
          refine j_iald hx (f := 1317) (o := t) kd1317 rfl (by decide +kernel) h10 ?_
          refine j_runA hx 1 (tb := [(105, .istore 9)]) (jtb_ok (by decide +kernel)) (pc' := 107) (lv' := [(9, vI (jA W 1317 t (ix q3))), (8, vI v9), (7, vI q3), (6, vI q2), (0, vR t), (1, vL a1), (3, vL a3), (5, vI a5)]) (st' := []) rfl ?_
          refine j_let (v := (jA W 1317 t (ix q3))) (lv := fun v11 => [(9, vI v11), (8, vI v9), (7, vI q3), (6, vI q2), (0, vR t), (1, vL a1), (3, vL a3), (5, vI a5)]) (st := fun _ => []) (fun v11 => ?_)
          refine j_runA hx 3 (tb := [(107, .aload_n 0), (108, .iload 8), (110, .iload 9)]) (jtb_ok (by decide +kernel)) (pc' := 112) (lv' := [(9, vI v11), (8, vI v9), (7, vI q3), (6, vI q2), (0, vR t), (1, vL a1), (3, vL a3), (5, vI a5)]) (st' := [vI v11, vI v9, vR t]) rfl ?_
          refine j_OI (j_callV (av := [vI v9, vI v11]) (st := []) hx hr (Or.inl q3110) q3112 qs153 rfl md_fmo_isWay np_fmo_isWay (cmo_isWay t v9 v11 W) (by decide) (Nat.le_of_ble_eq_true rfl) h1 (by decide) (by decide +kernel)) (fun q12 _ => ?_)
          refine j_runA hx 2 (tb := [(115, .istore 10), (117, .iload 10)]) (jtb_ok (by decide +kernel)) (pc' := 119) (lv' := [(10, vI q12), (9, vI v11), (8, vI v9), (7, vI q3), (6, vI q2), (0, vR t), (1, vL a1), (3, vL a3), (5, vI a5)]) (st' := [vI q12]) rfl ?_
          refine j_if_ne hx (off := 17) (tgt := 136) (by decide +kernel) (by decide) (fun _ => ?_) (fun _ => ?_)
          · refine j_lv (lv' := [(0, vR t), (1, vL a1), (3, vL a3), (5, vI a5), (8, vI v9), (9, vI v11), (10, vI q12)]) ⟨rfl, rfl, rfl, rfl, rfl, rfl, rfl, trivial⟩ ?_
            exact wmo_edge_136 h v9 v11 q12 W
          refine j_runA hx 3 (tb := [(122, .aload_n 0), (123, .iload 8), (125, .iload 9)]) (jtb_ok (by decide +kernel)) (pc' := 127) (lv' := [(10, vI q12), (9, vI v11), (8, vI v9), (7, vI q3), (6, vI q2), (0, vR t), (1, vL a1), (3, vL a3), (5, vI a5)]) (st' := [vI v11, vI v9, vR t]) rfl ?_
          refine j_OI (j_callV (av := [vI v9, vI v11]) (st := []) hx hr (Or.inl q3114) q3116 qs154 rfl md_fmo_isCallOf np_fmo_isCallOf (cmo_isCallOf t v9 v11 W) (by decide) (Nat.le_of_ble_eq_true rfl) h1 (by decide) (by decide +kernel)) (fun q13 _ => ?_)
          refine j_if_ne hx (off := 6) (tgt := 136) (by decide +kernel) (by decide) (fun _ => ?_) (fun _ => ?_)
          · refine j_lv (lv' := [(0, vR t), (1, vL a1), (3, vL a3), (5, vI a5), (8, vI v9), (9, vI v11), (10, vI q12)]) ⟨rfl, rfl, rfl, rfl, rfl, rfl, rfl, trivial⟩ ?_
            exact wmo_edge_136 h v9 v11 q12 W
          refine j_runA hx 1 (tb := [(133, .bipush (-4))]) (jtb_ok (by decide +kernel)) (pc' := 135) (lv' := [(10, vI q12), (9, vI v11), (8, vI v9), (7, vI q3), (6, vI q2), (0, vR t), (1, vL a1), (3, vL a3), (5, vI a5)]) (st' := [vI (kI (-4))]) rfl ?_
          exact j_iret hx hm (by decide +kernel) rfl (he _)
        refine j_lv (lv' := [(0, vR t), (1, vL a1), (3, vL a3), (5, vI a5)]) ⟨rfl, rfl, rfl, rfl, trivial⟩ ?_
        exact wmo_edge_86 h W
      refine j_lv (lv' := [(0, vR t), (1, vL a1), (3, vL a3), (5, vI a5)]) ⟨rfl, rfl, rfl, rfl, trivial⟩ ?_
      exact wmo_edge_61 h W
    exact wmo_edge_24 h W
  refine j_runA hx 1 (tb := [(7, .bipush (-14))]) (jtb_ok (by decide +kernel)) (pc' := 9) (lv' := [(0, vR t), (1, vL a1), (3, vL a3), (5, vI a5)]) (st' := [vI (kI (-14))]) rfl ?_
  exact j_iret hx hm (by decide +kernel) rfl (he _)
theorem cmo_edge (t : Nat) (a1 : Int64) (a3 : Int64) (a5 : Int32) (W : jW) : jM yX8_edge cX8_edge 12 (Option.some Jvm.ClassFile.FieldType.int) [] 4 61 [vR t, vL a1, vL a3, vI a5] W ((fmo_edge t a1 a3 a5 W).bind (fun q => some (.returned (some (.int q.1)), q.2))) := by
  refine jM.of (Nat.le_of_ble_eq_true rfl) (fun x hx hm hr => ?_)
  refine j_begin (P := (fun s => (139, [(0, vR t), (1, vL a1), (3, vL a3), (5, vI a5), (8, vI s.1), (9, vI s.2.1), (10, vI s.2.2.1), (11, vI s.2.2.2.1)], s.2.2.2.2))) (fun en he hk => ?_)
  have h : hmo_edge x en t a1 a3 a5 := ⟨hx, hm, hr, fun q => he _, fun l8 l9 l10 l11 W => hk (l8, l9, l10, l11, W)⟩
  exact ⟨fun s => wmo_edge_139 h s.1 s.2.1 s.2.2.1 s.2.2.2.1 s.2.2.2.2, wmo_edge h W⟩
def hmo_way (x : jCx) (en : (fmo_way_S ⊕ (Int64)) → Option (Outcome × jW)) (t : Nat) (a1 : Int32) (a2 : Int32) (W : jW) : Prop :=
  jOK x RX8 cX8_way 4 ∧
  jMt x "way" (Option.some Jvm.ClassFile.FieldType.long) [] ∧
  jRm x 0 0 ∧
  (∀ q : Int64, en (.inr q) = some (.returned (some (.long q)), W)) ∧
  (∀ (l3 : Int32), jJ x 4 2 [(0, vR t), (1, vI a1), (2, vI a2), (3, vI l3)] [] W (some (.inl l3)) en)
theorem wmo_way_53 {x : jCx} {en : (fmo_way_S ⊕ (Int64)) → Option (Outcome × jW)} {W : jW} {t : Nat} {a1 : Int32} {a2 : Int32} (h : hmo_way x en t a1 a2 W) (l3 : Int32) : jJ x 4 53 [(0, vR t), (1, vI a1), (2, vI a2), (3, vI l3)] [] W (fmo_way_53 t a1 a2 l3 W) en := by
  have h0 := h
  obtain ⟨hx, hm, hr, he, k2⟩ := h0
  unfold fmo_way_53
  refine j_runA hx 1 (tb := [(53, .iinc 3 1)]) (jtb_ok (by decide +kernel)) (pc' := 56) (lv' := [(3, vI (l3 + (kI 1))), (0, vR t), (1, vI a1), (2, vI a2)]) (st' := []) rfl ?_
  refine j_let (v := (l3 + (kI 1))) (lv := fun v8 => [(3, vI v8), (0, vR t), (1, vI a1), (2, vI a2)]) (st := fun _ => []) (fun v8 => ?_)
  refine j_goto hx (off := -54) (by decide +kernel) (tgt := 2) (by decide) ?_
  refine j_lv (lv' := [(0, vR t), (1, vI a1), (2, vI a2), (3, vI v8)]) ⟨rfl, rfl, rfl, rfl, trivial⟩ ?_
  exact k2 v8
theorem wmo_way_59 {x : jCx} {en : (fmo_way_S ⊕ (Int64)) → Option (Outcome × jW)} {W : jW} {t : Nat} {a1 : Int32} {a2 : Int32} (h : hmo_way x en t a1 a2 W) : jJ x 4 59 [(0, vR t), (1, vI a1), (2, vI a2)] [] W (fmo_way_59 t a1 a2 W) en := by
  have h0 := h
  obtain ⟨hx, hm, hr, he, k2⟩ := h0
  unfold fmo_way_59
  refine j_runA hx 1 (tb := [(59, .lconst 0)]) (jtb_ok (by decide +kernel)) (pc' := 60) (lv' := [(0, vR t), (1, vI a1), (2, vI a2)]) (st' := [vL (kJ 0)]) rfl ?_
  exact j_lret hx hm (by decide +kernel) (he _)
theorem wmo_way_2 {x : jCx} {en : (fmo_way_S ⊕ (Int64)) → Option (Outcome × jW)} {W : jW} {t : Nat} {a1 : Int32} {a2 : Int32} (h : hmo_way x en t a1 a2 W) (l3 : Int32) : jJ x 4 2 [(0, vR t), (1, vI a1), (2, vI a2), (3, vI l3)] [] W (fmo_way_2 t a1 a2 l3 W) en := by
  have h0 := h
  obtain ⟨hx, hm, hr, he, k2⟩ := h0
  unfold fmo_way_2
  refine j_runA hx 2 (tb := [(2, .iload_n 3), (3, .aload_n 0)]) (jtb_ok (by decide +kernel)) (pc' := 4) (lv' := [(0, vR t), (1, vI a1), (2, vI a2), (3, vI l3)]) (st' := [vR t, vI l3]) rfl ?_
  refine j_gd (fun h2 => ?_)
  refine j_getI hx flX8_272 kd1329 h2 (by decide) (by decide +kernel) ?_
  refine j_icmp_ge hx (off := 52) (tgt := 59) (by decide +kernel) (by decide) (fun _ => ?_) (fun _ => ?_)
  · refine j_lv (lv' := [(0, vR t), (1, vI a1), (2, vI a2)]) ⟨rfl, rfl, rfl, trivial⟩ ?_
    exact wmo_way_59 h
  refine j_runA hx 1 (tb := [(10, .aload_n 0)]) (jtb_ok (by decide +kernel)) (pc' := 11) (lv' := [(0, vR t), (1, vI a1), (2, vI a2), (3, vI l3)]) (st' := [vR t]) rfl ?_
  refine j_getI hx flX8_265 kd1307 h2 (by decide) (by decide +kernel) ?_
  refine j_if_eq hx (off := 45) (tgt := 59) (by decide +kernel) (by decide) (fun _ => ?_) (fun _ => ?_)
  · refine j_lv (lv' := [(0, vR t), (1, vI a1), (2, vI a2)]) ⟨rfl, rfl, rfl, trivial⟩ ?_
    exact wmo_way_59 h
  refine j_runA hx 1 (tb := [(17, .aload_n 0)]) (jtb_ok (by decide +kernel)) (pc' := 18) (lv' := [(0, vR t), (1, vI a1), (2, vI a2), (3, vI l3)]) (st' := [vR t]) rfl ?_
  refine j_getR hx flX8_83 kl1332 h2 (by decide) (by decide +kernel) ?_
  refine j_runA hx 1 (tb := [(21, .iload_n 3)]) (jtb_ok (by decide +kernel)) (pc' := 22) (lv' := [(0, vR t), (1, vI a1), (2, vI a2), (3, vI l3)]) (st' := [vI l3, vR (jR W 1332 t)]) rfl ?_
  refine j_gd (fun h3 => ?_)
  refine j_zald hx (f := 1332) (o := t) kd1332 rfl (by decide +kernel) h3 ?_
  refine j_if_ne hx (off := 30) (tgt := 53) (by decide +kernel) (by decide) (fun _ => ?_) (fun _ => ?_)
  · exact wmo_way_53 h l3
  refine j_runA hx 1 (tb := [(26, .aload_n 0)]) (jtb_ok (by decide +kernel)) (pc' := 27) (lv' := [(0, vR t), (1, vI a1), (2, vI a2), (3, vI l3)]) (st' := [vR t]) rfl ?_
  refine j_getR hx flX8_77 kl1330 h2 (by decide) (by decide +kernel) ?_
  refine j_runA hx 1 (tb := [(30, .iload_n 3)]) (jtb_ok (by decide +kernel)) (pc' := 31) (lv' := [(0, vR t), (1, vI a1), (2, vI a2), (3, vI l3)]) (st' := [vI l3, vR (jR W 1330 t)]) rfl ?_
  refine j_gd (fun h4 => ?_)
  refine j_iald hx (f := 1330) (o := t) kd1330 rfl (by decide +kernel) h4 ?_
  refine j_runA hx 1 (tb := [(32, .iload_n 1)]) (jtb_ok (by decide +kernel)) (pc' := 33) (lv' := [(0, vR t), (1, vI a1), (2, vI a2), (3, vI l3)]) (st' := [vI a1, vI (jA W 1330 t (ix l3))]) rfl ?_
  refine j_icmp_ne hx (off := 20) (tgt := 53) (by decide +kernel) (by decide) (fun _ => ?_) (fun _ => ?_)
  · exact wmo_way_53 h l3
  refine j_runA hx 1 (tb := [(36, .aload_n 0)]) (jtb_ok (by decide +kernel)) (pc' := 37) (lv' := [(0, vR t), (1, vI a1), (2, vI a2), (3, vI l3)]) (st' := [vR t]) rfl ?_
  refine j_getR hx flX8_80 kl1331 h2 (by decide) (by decide +kernel) ?_
  refine j_runA hx 1 (tb := [(40, .iload_n 3)]) (jtb_ok (by decide +kernel)) (pc' := 41) (lv' := [(0, vR t), (1, vI a1), (2, vI a2), (3, vI l3)]) (st' := [vI l3, vR (jR W 1331 t)]) rfl ?_
  refine j_gd (fun h5 => ?_)
  refine j_iald hx (f := 1331) (o := t) kd1331 rfl (by decide +kernel) h5 ?_
  refine j_runA hx 1 (tb := [(42, .iload_n 2)]) (jtb_ok (by decide +kernel)) (pc' := 43) (lv' := [(0, vR t), (1, vI a1), (2, vI a2), (3, vI l3)]) (st' := [vI a2, vI (jA W 1331 t (ix l3))]) rfl ?_
  refine j_icmp_ne hx (off := 10) (tgt := 53) (by decide +kernel) (by decide) (fun _ => ?_) (fun _ => ?_)
  · exact wmo_way_53 h l3
  refine j_runA hx 1 (tb := [(46, .aload_n 0)]) (jtb_ok (by decide +kernel)) (pc' := 47) (lv' := [(0, vR t), (1, vI a1), (2, vI a2), (3, vI l3)]) (st' := [vR t]) rfl ?_
  refine j_getR hx flX8_86 kl1333 h2 (by decide) (by decide +kernel) ?_
  refine j_runA hx 1 (tb := [(50, .iload_n 3)]) (jtb_ok (by decide +kernel)) (pc' := 51) (lv' := [(0, vR t), (1, vI a1), (2, vI a2), (3, vI l3)]) (st' := [vI l3, vR (jR W 1333 t)]) rfl ?_
  refine j_gd (fun h6 => ?_)
  refine j_lald hx (f := 1333) (o := t) kd1333 rfl (by decide +kernel) h6 ?_
  exact j_lret hx hm (by decide +kernel) (he _)
theorem wmo_way {x : jCx} {en : (fmo_way_S ⊕ (Int64)) → Option (Outcome × jW)} {W : jW} {t : Nat} {a1 : Int32} {a2 : Int32} (h : hmo_way x en t a1 a2 W) : jJ x 4 0 [(0, vR t), (1, vI a1), (2, vI a2)] [] W (fmo_way_0 t a1 a2 W) en := by
  have h0 := h
  obtain ⟨hx, hm, hr, he, k2⟩ := h0
  unfold fmo_way_0
  refine j_runA hx 2 (tb := [(0, .iconst 0), (1, .istore_n 3)]) (jtb_ok (by decide +kernel)) (pc' := 2) (lv' := [(3, vI (kI 0)), (0, vR t), (1, vI a1), (2, vI a2)]) (st' := []) rfl ?_
  refine j_lv (lv' := [(0, vR t), (1, vI a1), (2, vI a2), (3, vI (kI 0))]) ⟨rfl, rfl, rfl, rfl, trivial⟩ ?_
  exact k2 (kI 0)
theorem cmo_way (t : Nat) (a1 : Int32) (a2 : Int32) (W : jW) : jM yX8_way cX8_way 4 (Option.some Jvm.ClassFile.FieldType.long) [] 0 0 [vR t, vI a1, vI a2] W ((fmo_way t a1 a2 W).bind (fun q => some (.returned (some (.long q)), W))) := by
  refine jM.of (Nat.le_of_ble_eq_true rfl) (fun x hx hm hr => ?_)
  refine j_begin (P := (fun s => (2, [(0, vR t), (1, vI a1), (2, vI a2), (3, vI s)], W))) (fun en he hk => ?_)
  have h : hmo_way x en t a1 a2 W := ⟨hx, hm, hr, fun q => he _, fun l3 => hk l3⟩
  exact ⟨fun s => wmo_way_2 h s, wmo_way h⟩
def hmo_calls (x : jCx) (en : (fmo_calls_S ⊕ (Int64)) → Option (Outcome × jW)) (t : Nat) (a1 : Int32) (a2 : Int32) (W : jW) : Prop :=
  jOK x RX8 cX8_calls 6 ∧
  jMt x "calls" (Option.some Jvm.ClassFile.FieldType.long) [] ∧
  jRm x 0 0 ∧
  (∀ q : Int64, en (.inr q) = some (.returned (some (.long q)), W)) ∧
  (∀ (l3 : Int64) (l5 : Int32), jJ x 6 5 [(0, vR t), (1, vI a1), (2, vI a2), (3, vL l3), (5, vI l5)] [] W (some (.inl (l3, l5))) en)
theorem wmo_calls_73 {x : jCx} {en : (fmo_calls_S ⊕ (Int64)) → Option (Outcome × jW)} {W : jW} {t : Nat} {a1 : Int32} {a2 : Int32} (h : hmo_calls x en t a1 a2 W) (l3 : Int64) (l5 : Int32) : jJ x 6 73 [(0, vR t), (1, vI a1), (2, vI a2), (3, vL l3), (5, vI l5)] [] W (fmo_calls_73 t a1 a2 l3 l5 W) en := by
  have h0 := h
  obtain ⟨hx, hm, hr, he, k5⟩ := h0
  unfold fmo_calls_73
  refine j_runA hx 1 (tb := [(73, .iinc 5 1)]) (jtb_ok (by decide +kernel)) (pc' := 76) (lv' := [(5, vI (l5 + (kI 1))), (0, vR t), (1, vI a1), (2, vI a2), (3, vL l3)]) (st' := []) rfl ?_
  refine j_let (v := (l5 + (kI 1))) (lv := fun v11 => [(5, vI v11), (0, vR t), (1, vI a1), (2, vI a2), (3, vL l3)]) (st := fun _ => []) (fun v11 => ?_)
  refine j_goto hx (off := -71) (by decide +kernel) (tgt := 5) (by decide) ?_
  refine j_lv (lv' := [(0, vR t), (1, vI a1), (2, vI a2), (3, vL l3), (5, vI v11)]) ⟨rfl, rfl, rfl, rfl, rfl, trivial⟩ ?_
  exact k5 l3 v11
theorem wmo_calls_79 {x : jCx} {en : (fmo_calls_S ⊕ (Int64)) → Option (Outcome × jW)} {W : jW} {t : Nat} {a1 : Int32} {a2 : Int32} (h : hmo_calls x en t a1 a2 W) (l3 : Int64) : jJ x 6 79 [(0, vR t), (1, vI a1), (2, vI a2), (3, vL l3)] [] W (fmo_calls_79 t a1 a2 l3 W) en := by
  have h0 := h
  obtain ⟨hx, hm, hr, he, k5⟩ := h0
  unfold fmo_calls_79
  refine j_runA hx 1 (tb := [(79, .lload_n 3)]) (jtb_ok (by decide +kernel)) (pc' := 80) (lv' := [(0, vR t), (1, vI a1), (2, vI a2), (3, vL l3)]) (st' := [vL l3]) rfl ?_
  exact j_lret hx hm (by decide +kernel) (he _)
theorem wmo_calls_5 {x : jCx} {en : (fmo_calls_S ⊕ (Int64)) → Option (Outcome × jW)} {W : jW} {t : Nat} {a1 : Int32} {a2 : Int32} (h : hmo_calls x en t a1 a2 W) (l3 : Int64) (l5 : Int32) : jJ x 6 5 [(0, vR t), (1, vI a1), (2, vI a2), (3, vL l3), (5, vI l5)] [] W (fmo_calls_5 t a1 a2 l3 l5 W) en := by
  have h0 := h
  obtain ⟨hx, hm, hr, he, k5⟩ := h0
  unfold fmo_calls_5
  refine j_runA hx 2 (tb := [(5, .iload 5), (7, .aload_n 0)]) (jtb_ok (by decide +kernel)) (pc' := 8) (lv' := [(0, vR t), (1, vI a1), (2, vI a2), (3, vL l3), (5, vI l5)]) (st' := [vR t, vI l5]) rfl ?_
  refine j_gd (fun h2 => ?_)
  refine j_getI hx flX8_272 kd1329 h2 (by decide) (by decide +kernel) ?_
  refine j_icmp_ge hx (off := 68) (tgt := 79) (by decide +kernel) (by decide) (fun _ => ?_) (fun _ => ?_)
  · refine j_lv (lv' := [(0, vR t), (1, vI a1), (2, vI a2), (3, vL l3)]) ⟨rfl, rfl, rfl, rfl, trivial⟩ ?_
    exact wmo_calls_79 h l3
  refine j_runA hx 1 (tb := [(14, .aload_n 0)]) (jtb_ok (by decide +kernel)) (pc' := 15) (lv' := [(0, vR t), (1, vI a1), (2, vI a2), (3, vL l3), (5, vI l5)]) (st' := [vR t]) rfl ?_
  refine j_getI hx flX8_265 kd1307 h2 (by decide) (by decide +kernel) ?_
  refine j_if_eq hx (off := 61) (tgt := 79) (by decide +kernel) (by decide) (fun _ => ?_) (fun _ => ?_)
  · refine j_lv (lv' := [(0, vR t), (1, vI a1), (2, vI a2), (3, vL l3)]) ⟨rfl, rfl, rfl, rfl, trivial⟩ ?_
    exact wmo_calls_79 h l3
  refine j_runA hx 1 (tb := [(21, .aload_n 0)]) (jtb_ok (by decide +kernel)) (pc' := 22) (lv' := [(0, vR t), (1, vI a1), (2, vI a2), (3, vL l3), (5, vI l5)]) (st' := [vR t]) rfl ?_
  refine j_getR hx flX8_83 kl1332 h2 (by decide) (by decide +kernel) ?_
  refine j_runA hx 1 (tb := [(25, .iload 5)]) (jtb_ok (by decide +kernel)) (pc' := 27) (lv' := [(0, vR t), (1, vI a1), (2, vI a2), (3, vL l3), (5, vI l5)]) (st' := [vI l5, vR (jR W 1332 t)]) rfl ?_
  refine j_gd (fun h3 => ?_)
  refine j_zald hx (f := 1332) (o := t) kd1332 rfl (by decide +kernel) h3 ?_
  refine j_if_eq hx (off := 45) (tgt := 73) (by decide +kernel) (by decide) (fun _ => ?_) (fun _ => ?_)
  · exact wmo_calls_73 h l3 l5
  refine j_runA hx 1 (tb := [(31, .aload_n 0)]) (jtb_ok (by decide +kernel)) (pc' := 32) (lv' := [(0, vR t), (1, vI a1), (2, vI a2), (3, vL l3), (5, vI l5)]) (st' := [vR t]) rfl ?_
  refine j_getR hx flX8_65 kl1324 h2 (by decide) (by decide +kernel) ?_
  refine j_runA hx 1 (tb := [(35, .aload_n 0)]) (jtb_ok (by decide +kernel)) (pc' := 36) (lv' := [(0, vR t), (1, vI a1), (2, vI a2), (3, vL l3), (5, vI l5)]) (st' := [vR t, vR (jR W 1324 t)]) rfl ?_
  refine j_getR hx flX8_77 kl1330 h2 (by decide) (by decide +kernel) ?_
  refine j_runA hx 1 (tb := [(39, .iload 5)]) (jtb_ok (by decide +kernel)) (pc' := 41) (lv' := [(0, vR t), (1, vI a1), (2, vI a2), (3, vL l3), (5, vI l5)]) (st' := [vI l5, vR (jR W 1330 t), vR (jR W 1324 t)]) rfl ?_
  refine j_gd (fun h4 => ?_)
  refine j_iald hx (f := 1330) (o := t) kd1330 rfl (by decide +kernel) h4 ?_
  refine j_gd (fun h5 => ?_)
  refine j_iald hx (f := 1324) (o := t) kd1324 rfl (by decide +kernel) h5 ?_
  refine j_runA hx 1 (tb := [(43, .iload_n 1)]) (jtb_ok (by decide +kernel)) (pc' := 44) (lv' := [(0, vR t), (1, vI a1), (2, vI a2), (3, vL l3), (5, vI l5)]) (st' := [vI a1, vI (jA W 1324 t (ix (jA W 1330 t (ix l5))))]) rfl ?_
  refine j_icmp_ne hx (off := 29) (tgt := 73) (by decide +kernel) (by decide) (fun _ => ?_) (fun _ => ?_)
  · exact wmo_calls_73 h l3 l5
  refine j_runA hx 1 (tb := [(47, .aload_n 0)]) (jtb_ok (by decide +kernel)) (pc' := 48) (lv' := [(0, vR t), (1, vI a1), (2, vI a2), (3, vL l3), (5, vI l5)]) (st' := [vR t]) rfl ?_
  refine j_getR hx flX8_65 kl1324 h2 (by decide) (by decide +kernel) ?_
  refine j_runA hx 1 (tb := [(51, .aload_n 0)]) (jtb_ok (by decide +kernel)) (pc' := 52) (lv' := [(0, vR t), (1, vI a1), (2, vI a2), (3, vL l3), (5, vI l5)]) (st' := [vR t, vR (jR W 1324 t)]) rfl ?_
  refine j_getR hx flX8_80 kl1331 h2 (by decide) (by decide +kernel) ?_
  refine j_runA hx 1 (tb := [(55, .iload 5)]) (jtb_ok (by decide +kernel)) (pc' := 57) (lv' := [(0, vR t), (1, vI a1), (2, vI a2), (3, vL l3), (5, vI l5)]) (st' := [vI l5, vR (jR W 1331 t), vR (jR W 1324 t)]) rfl ?_
  refine j_gd (fun h6 => ?_)
  refine j_iald hx (f := 1331) (o := t) kd1331 rfl (by decide +kernel) h6 ?_
  refine j_gd (fun h7 => ?_)
  refine j_iald hx (f := 1324) (o := t) kd1324 rfl (by decide +kernel) h7 ?_
  refine j_runA hx 1 (tb := [(59, .iload_n 2)]) (jtb_ok (by decide +kernel)) (pc' := 60) (lv' := [(0, vR t), (1, vI a1), (2, vI a2), (3, vL l3), (5, vI l5)]) (st' := [vI a2, vI (jA W 1324 t (ix (jA W 1331 t (ix l5))))]) rfl ?_
  refine j_icmp_ne hx (off := 13) (tgt := 73) (by decide +kernel) (by decide) (fun _ => ?_) (fun _ => ?_)
  · exact wmo_calls_73 h l3 l5
  refine j_runA hx 2 (tb := [(63, .lload_n 3), (64, .aload_n 0)]) (jtb_ok (by decide +kernel)) (pc' := 65) (lv' := [(0, vR t), (1, vI a1), (2, vI a2), (3, vL l3), (5, vI l5)]) (st' := [vR t, vL l3]) rfl ?_
  refine j_getR hx flX8_86 kl1333 h2 (by decide) (by decide +kernel) ?_
  refine j_runA hx 1 (tb := [(68, .iload 5)]) (jtb_ok (by decide +kernel)) (pc' := 70) (lv' := [(0, vR t), (1, vI a1), (2, vI a2), (3, vL l3), (5, vI l5)]) (st' := [vI l5, vR (jR W 1333 t), vL l3]) rfl ?_
  refine j_gd (fun h8 => ?_)
  refine j_lald hx (f := 1333) (o := t) kd1333 rfl (by decide +kernel) h8 ?_
  refine j_runA hx 2 (tb := [(71, .ladd), (72, .lstore_n 3)]) (jtb_ok (by decide +kernel)) (pc' := 73) (lv' := [(3, vL (l3 + (jB W 1333 t (ix l5)))), (0, vR t), (1, vI a1), (2, vI a2), (5, vI l5)]) (st' := []) rfl ?_
  refine j_let (v := (l3 + (jB W 1333 t (ix l5)))) (lv := fun v9 => [(3, vL v9), (0, vR t), (1, vI a1), (2, vI a2), (5, vI l5)]) (st := fun _ => []) (fun v9 => ?_)
  refine j_lv (lv' := [(0, vR t), (1, vI a1), (2, vI a2), (3, vL v9), (5, vI l5)]) ⟨rfl, rfl, rfl, rfl, rfl, trivial⟩ ?_
  exact wmo_calls_73 h v9 l5
theorem wmo_calls {x : jCx} {en : (fmo_calls_S ⊕ (Int64)) → Option (Outcome × jW)} {W : jW} {t : Nat} {a1 : Int32} {a2 : Int32} (h : hmo_calls x en t a1 a2 W) : jJ x 6 0 [(0, vR t), (1, vI a1), (2, vI a2)] [] W (fmo_calls_0 t a1 a2 W) en := by
  have h0 := h
  obtain ⟨hx, hm, hr, he, k5⟩ := h0
  unfold fmo_calls_0
  refine j_runA hx 4 (tb := [(0, .lconst 0), (1, .lstore_n 3), (2, .iconst 0), (3, .istore 5)]) (jtb_ok (by decide +kernel)) (pc' := 5) (lv' := [(5, vI (kI 0)), (3, vL (kJ 0)), (0, vR t), (1, vI a1), (2, vI a2)]) (st' := []) rfl ?_
  refine j_lv (lv' := [(0, vR t), (1, vI a1), (2, vI a2), (3, vL (kJ 0)), (5, vI (kI 0))]) ⟨rfl, rfl, rfl, rfl, rfl, trivial⟩ ?_
  exact k5 (kJ 0) (kI 0)
theorem cmo_calls (t : Nat) (a1 : Int32) (a2 : Int32) (W : jW) : jM yX8_calls cX8_calls 6 (Option.some Jvm.ClassFile.FieldType.long) [] 0 0 [vR t, vI a1, vI a2] W ((fmo_calls t a1 a2 W).bind (fun q => some (.returned (some (.long q)), W))) := by
  refine jM.of (Nat.le_of_ble_eq_true rfl) (fun x hx hm hr => ?_)
  refine j_begin (P := (fun s => (5, [(0, vR t), (1, vI a1), (2, vI a2), (3, vL s.1), (5, vI s.2)], W))) (fun en he hk => ?_)
  have h : hmo_calls x en t a1 a2 W := ⟨hx, hm, hr, fun q => he _, fun l3 l5 => hk (l3, l5)⟩
  exact ⟨fun s => wmo_calls_5 h s.1 s.2, wmo_calls h⟩
def hmo_same (x : jCx) (en : (fmo_same_S ⊕ (Int32 × jW)) → Option (Outcome × jW)) (t : Nat) : Prop :=
  jOK x RX8 cX8_same 3 ∧
  jMt x "same" (Option.some Jvm.ClassFile.FieldType.boolean) [] ∧
  jRm x 7 109 ∧
  (∀ q : Int32 × jW, en (.inr q) = some (.returned (some (.int q.1)), q.2)) ∧
  (∀ (l1 : Int32) (W : jW), jJ x 3 11 [(0, vR t), (1, vI l1)] [] W (some (.inl (.inl (l1, W)))) en) ∧
  (∀ (l1 : Int32) (W : jW), jJ x 3 81 [(0, vR t), (1, vI l1)] [] W (some (.inl (.inr (.inl (l1, W))))) en) ∧
  (∀ (l1 : Int32) (l2 : Int32) (W : jW), jJ x 3 91 [(0, vR t), (1, vI l1), (2, vI l2)] [] W (some (.inl (.inr (.inr (l1, l2, W))))) en)
theorem wmo_same_91 {x : jCx} {en : (fmo_same_S ⊕ (Int32 × jW)) → Option (Outcome × jW)} {t : Nat} (h : hmo_same x en t) (l1 : Int32) (l2 : Int32) (W : jW) : jJ x 3 91 [(0, vR t), (1, vI l1), (2, vI l2)] [] W (fmo_same_91 t l1 l2 W) en := by
  have h0 := h
  obtain ⟨hx, hm, hr, he, k11, k81, k91⟩ := h0
  unfold fmo_same_91
  refine j_runA hx 2 (tb := [(91, .iload_n 2), (92, .aload_n 0)]) (jtb_ok (by decide +kernel)) (pc' := 93) (lv' := [(0, vR t), (1, vI l1), (2, vI l2)]) (st' := [vR t, vI l2]) rfl ?_
  refine j_gd (fun h30 => ?_)
  refine j_getR hx flX8_147 kl1351 h30 (by decide) (by decide +kernel) ?_
  refine j_runA hx 1 (tb := [(96, .iload_n 1)]) (jtb_ok (by decide +kernel)) (pc' := 97) (lv' := [(0, vR t), (1, vI l1), (2, vI l2)]) (st' := [vI l1, vR (jR W 1351 t), vI l2]) rfl ?_
  refine j_gd (fun h31 => ?_)
  refine j_OI (j_callV (av := [vI l1]) (st := [vI l2]) hx hr (Or.inl q3163) q3153 q3154 rfl md_fwn_length np_fwn_length (cwn_length (jR W 1351 t) l1 W) (by decide) (Nat.le_of_ble_eq_true rfl) h31 (by decide) (by decide +kernel)) (fun q32 _ => ?_)
  refine j_icmp_ge hx (off := 39) (tgt := 139) (by decide +kernel) (by decide) (fun _ => ?_) (fun _ => ?_)
  · refine j_runA hx 1 (tb := [(139, .iinc 1 1)]) (jtb_ok (by decide +kernel)) (pc' := 142) (lv' := [(1, vI (l1 + (kI 1))), (0, vR t), (2, vI l2)]) (st' := []) rfl ?_
    refine j_let (v := (l1 + (kI 1))) (lv := fun v33 => [(1, vI v33), (0, vR t), (2, vI l2)]) (st := fun _ => []) (fun v33 => ?_)
    refine j_goto hx (off := -61) (by decide +kernel) (tgt := 81) (by decide) ?_
    refine j_lv (lv' := [(0, vR t), (1, vI v33)]) ⟨rfl, rfl, trivial⟩ ?_
    exact k81 v33 W
  refine j_runA hx 1 (tb := [(103, .aload_n 0)]) (jtb_ok (by decide +kernel)) (pc' := 104) (lv' := [(0, vR t), (1, vI l1), (2, vI l2)]) (st' := [vR t]) rfl ?_
  refine j_getR hx flX8_147 kl1351 h30 (by decide) (by decide +kernel) ?_
  refine j_runA hx 2 (tb := [(107, .iload_n 1), (108, .iload_n 2)]) (jtb_ok (by decide +kernel)) (pc' := 109) (lv' := [(0, vR t), (1, vI l1), (2, vI l2)]) (st' := [vI l2, vI l1, vR (jR W 1351 t)]) rfl ?_
  refine j_WI (j_callV (av := [vI l1, vI l2]) (st := []) hx hr (Or.inl q3164) q3165 q3166 rfl md_fwn_whole np_fwn_whole (cwn_whole (jR W 1351 t) l1 l2 W) (by decide) (Nat.le_of_ble_eq_true rfl) h31 (by decide) (by decide +kernel)) (fun q34 _ => ?_)
  refine j_runA hx 1 (tb := [(112, .aload_n 0)]) (jtb_ok (by decide +kernel)) (pc' := 113) (lv' := [(0, vR t), (1, vI l1), (2, vI l2)]) (st' := [vR t, vI q34.1]) rfl ?_
  refine j_gd (fun h36 => ?_)
  refine j_getR hx flX8_36 kl1315 h36 (by decide) (by decide +kernel) ?_
  refine j_runA hx 1 (tb := [(116, .aload_n 0)]) (jtb_ok (by decide +kernel)) (pc' := 117) (lv' := [(0, vR t), (1, vI l1), (2, vI l2)]) (st' := [vR t, vR (jR q34.2 1315 t), vI q34.1]) rfl ?_
  refine j_getR hx flX8_147 kl1351 h36 (by decide) (by decide +kernel) ?_
  refine j_gd (fun h37 => ?_)
  refine j_getR hx flX8_499 kl1503 h37 (by decide) (by decide +kernel) ?_
  refine j_runA hx 1 (tb := [(123, .iload_n 1)]) (jtb_ok (by decide +kernel)) (pc' := 124) (lv' := [(0, vR t), (1, vI l1), (2, vI l2)]) (st' := [vI l1, vR (jR q34.2 1503 (jR q34.2 1351 t)), vR (jR q34.2 1315 t), vI q34.1]) rfl ?_
  refine j_gd (fun h38 => ?_)
  refine j_iald hx (f := 1503) (o := (jR q34.2 1351 t)) kd1503 rfl (by decide +kernel) h38 ?_
  refine j_runA hx 2 (tb := [(125, .iload_n 2), (126, .iadd)]) (jtb_ok (by decide +kernel)) (pc' := 127) (lv' := [(0, vR t), (1, vI l1), (2, vI l2)]) (st' := [vI ((jA q34.2 1503 (jR q34.2 1351 t) (ix l1)) + l2), vR (jR q34.2 1315 t), vI q34.1]) rfl ?_
  refine j_gd (fun h39 => ?_)
  refine j_iald hx (f := 1315) (o := t) kd1315 rfl (by decide +kernel) h39 ?_
  refine j_icmp_eq hx (off := 5) (tgt := 133) (by decide +kernel) (by decide) (fun _ => ?_) (fun _ => ?_)
  · refine j_runA hx 1 (tb := [(133, .iinc 2 1)]) (jtb_ok (by decide +kernel)) (pc' := 136) (lv' := [(2, vI (l2 + (kI 1))), (0, vR t), (1, vI l1)]) (st' := []) rfl ?_
    refine j_let (v := (l2 + (kI 1))) (lv := fun v40 => [(2, vI v40), (0, vR t), (1, vI l1)]) (st := fun _ => []) (fun v40 => ?_)
    refine j_goto hx (off := -45) (by decide +kernel) (tgt := 91) (by decide) ?_
    refine j_lv (lv' := [(0, vR t), (1, vI l1), (2, vI v40)]) ⟨rfl, rfl, rfl, trivial⟩ ?_
    exact k91 l1 v40 q34.2
  refine j_runA hx 1 (tb := [(131, .iconst 0)]) (jtb_ok (by decide +kernel)) (pc' := 132) (lv' := [(0, vR t), (1, vI l1), (2, vI l2)]) (st' := [vI (kI 0)]) rfl ?_
  exact j_iret hx hm (by decide +kernel) jz0n (he _)
theorem wmo_same_81 {x : jCx} {en : (fmo_same_S ⊕ (Int32 × jW)) → Option (Outcome × jW)} {t : Nat} (h : hmo_same x en t) (l1 : Int32) (W : jW) : jJ x 3 81 [(0, vR t), (1, vI l1)] [] W (fmo_same_81 t l1 W) en := by
  have h0 := h
  obtain ⟨hx, hm, hr, he, k11, k81, k91⟩ := h0
  unfold fmo_same_81
  refine j_runA hx 2 (tb := [(81, .iload_n 1), (82, .aload_n 0)]) (jtb_ok (by decide +kernel)) (pc' := 83) (lv' := [(0, vR t), (1, vI l1)]) (st' := [vR t, vI l1]) rfl ?_
  refine j_gd (fun h28 => ?_)
  refine j_getI hx flX8_399 kd1312 h28 (by decide) (by decide +kernel) ?_
  refine j_icmp_ge hx (off := 59) (tgt := 145) (by decide +kernel) (by decide) (fun _ => ?_) (fun _ => ?_)
  · refine j_runA hx 1 (tb := [(145, .iconst 1)]) (jtb_ok (by decide +kernel)) (pc' := 146) (lv' := [(0, vR t), (1, vI l1)]) (st' := [vI (kI 1)]) rfl ?_
    exact j_iret hx hm (by decide +kernel) jz1n (he _)
  refine j_runA hx 2 (tb := [(89, .iconst 0), (90, .istore_n 2)]) (jtb_ok (by decide +kernel)) (pc' := 91) (lv' := [(2, vI (kI 0)), (0, vR t), (1, vI l1)]) (st' := []) rfl ?_
  refine j_lv (lv' := [(0, vR t), (1, vI l1), (2, vI (kI 0))]) ⟨rfl, rfl, rfl, trivial⟩ ?_
  exact k91 l1 (kI 0) W
theorem wmo_same_11 {x : jCx} {en : (fmo_same_S ⊕ (Int32 × jW)) → Option (Outcome × jW)} {t : Nat} (h : hmo_same x en t) (l1 : Int32) (W : jW) : jJ x 3 11 [(0, vR t), (1, vI l1)] [] W (fmo_same_11 t l1 W) en := by
  have h0 := h
  obtain ⟨hx, hm, hr, he, k11, k81, k91⟩ := h0
  unfold fmo_same_11
  refine j_runA hx 2 (tb := [(11, .iload_n 1), (12, .aload_n 0)]) (jtb_ok (by decide +kernel)) (pc' := 13) (lv' := [(0, vR t), (1, vI l1)]) (st' := [vR t, vI l1]) rfl ?_
  refine j_gd (fun h3 => ?_)
  refine j_getI hx flX8_399 kd1312 h3 (by decide) (by decide +kernel) ?_
  refine j_icmp_ge hx (off := 19) (tgt := 35) (by decide +kernel) (by decide) (fun _ => ?_) (fun _ => ?_)
  · refine j_runA hx 1 (tb := [(35, .aload_n 0)]) (jtb_ok (by decide +kernel)) (pc' := 36) (lv' := [(0, vR t), (1, vI l1)]) (st' := [vR t]) rfl ?_
    refine j_getR hx flX8_147 kl1351 h3 (by decide) (by decide +kernel) ?_
    refine j_runA hx 1 (tb := [(39, .aload_n 0)]) (jtb_ok (by decide +kernel)) (pc' := 40) (lv' := [(0, vR t), (1, vI l1)]) (st' := [vR t, vR (jR W 1351 t)]) rfl ?_
    refine j_getI hx flX8_399 kd1312 h3 (by decide) (by decide +kernel) ?_
    refine j_gd (fun h4 => ?_)
    refine j_putI hx fwX8_481 wf1502 kd1502 h4 (by decide) (by decide +kernel) (ni1502 _) (fi1502 _) ?_
    refine j_ltw rfl (fun W5 hc6 => ?_)
    have h7 : jC W5 t = 13 := (congrFun hc6 _).trans h3
    have h8 : jC W5 (jR W 1351 t) = 15 := (congrFun hc6 _).trans h4
    refine j_runA hx 1 (tb := [(46, .aload_n 0)]) (jtb_ok (by decide +kernel)) (pc' := 47) (lv' := [(0, vR t), (1, vI l1)]) (st' := [vR t]) rfl ?_
    refine j_getR hx flX8_147 kl1351 h7 (by decide) (by decide +kernel) ?_
    refine j_gd (fun h10 => ?_)
    refine j_WV (j_callV (av := []) (st := []) hx hr (Or.inl q3138) q3139 q3140 rfl md_fwn_shape np_fwn_shape (cwn_shape (jR W5 1351 t) W5) (by decide) (Nat.le_of_ble_eq_true rfl) h10 (by decide) (by decide +kernel)) (fun q11 _ => ?_)
    refine j_runA hx 1 (tb := [(53, .aload_n 0)]) (jtb_ok (by decide +kernel)) (pc' := 54) (lv' := [(0, vR t), (1, vI l1)]) (st' := [vR t]) rfl ?_
    refine j_gd (fun h13 => ?_)
    refine j_getR hx flX8_147 kl1351 h13 (by decide) (by decide +kernel) ?_
    refine j_ldc2 hx (v := (kJ 4)) (jkd2 q2931 (by decide +kernel)) (by decide +kernel) ?_
    refine j_gd (fun h14 => ?_)
    refine j_WV (j_callV (av := [vL (kJ 4)]) (st := []) hx hr (Or.inl q3143) q3144 q3145 rfl md_fwn_settle np_fwn_settle (cwn_settle (jR q11 1351 t) (kJ 4) q11) (by decide) (Nat.le_of_ble_eq_true rfl) h14 (by decide) (by decide +kernel)) (fun q15 _ => ?_)
    refine j_runA hx 1 (tb := [(63, .aload_n 0)]) (jtb_ok (by decide +kernel)) (pc' := 64) (lv' := [(0, vR t), (1, vI l1)]) (st' := [vR t]) rfl ?_
    refine j_gd (fun h17 => ?_)
    refine j_getR hx flX8_147 kl1351 h17 (by decide) (by decide +kernel) ?_
    refine j_gd (fun h18 => ?_)
    refine j_getI hx flX8_491 kd1508 h18 (by decide) (by decide +kernel) ?_
    refine j_runA hx 1 (tb := [(70, .aload_n 0)]) (jtb_ok (by decide +kernel)) (pc' := 71) (lv' := [(0, vR t), (1, vI l1)]) (st' := [vR t, vI (jI q15 1508 (jR q15 1351 t))]) rfl ?_
    refine j_getI hx flX8_316 kd1310 h17 (by decide) (by decide +kernel) ?_
    refine j_icmp_eq hx (off := 5) (tgt := 79) (by decide +kernel) (by decide) (fun _ => ?_) (fun _ => ?_)
    · refine j_runA hx 2 (tb := [(79, .iconst 0), (80, .istore_n 1)]) (jtb_ok (by decide +kernel)) (pc' := 81) (lv' := [(1, vI (kI 0)), (0, vR t)]) (st' := []) rfl ?_
      refine j_lv (lv' := [(0, vR t), (1, vI (kI 0))]) ⟨rfl, rfl, trivial⟩ ?_
      exact k81 (kI 0) q15
    refine j_runA hx 1 (tb := [(77, .iconst 0)]) (jtb_ok (by decide +kernel)) (pc' := 78) (lv' := [(0, vR t), (1, vI l1)]) (st' := [vI (kI 0)]) rfl ?_
    exact j_iret hx hm (by decide +kernel) jz0n (he _)
  refine j_runA hx 1 (tb := [(19, .aload_n 0)]) (jtb_ok (by decide +kernel)) (pc' := 20) (lv' := [(0, vR t), (1, vI l1)]) (st' := [vR t]) rfl ?_
  refine j_getR hx flX8_147 kl1351 h3 (by decide) (by decide +kernel) ?_
  refine j_gd (fun h19 => ?_)
  refine j_getR hx flX8_478 kl1501 h19 (by decide) (by decide +kernel) ?_
  refine j_runA hx 2 (tb := [(26, .iload_n 1), (27, .iload_n 1)]) (jtb_ok (by decide +kernel)) (pc' := 28) (lv' := [(0, vR t), (1, vI l1)]) (st' := [vI l1, vI l1, vR (jR W 1501 (jR W 1351 t))]) rfl ?_
  refine j_gd (fun h20 => ?_)
  refine j_iast hx (f := 1501) (o := (jR W 1351 t)) kd1501 rfl (by decide +kernel) h20 ?_
  refine j_ltw rfl (fun W21 hc22 => ?_)
  have h23 : jC W21 t = 13 := (congrFun hc22 _).trans h3
  have h24 : jC W21 (jR W 1351 t) = 15 := (congrFun hc22 _).trans h19
  refine j_runA hx 1 (tb := [(29, .iinc 1 1)]) (jtb_ok (by decide +kernel)) (pc' := 32) (lv' := [(1, vI (l1 + (kI 1))), (0, vR t)]) (st' := []) rfl ?_
  refine j_let (v := (l1 + (kI 1))) (lv := fun v26 => [(1, vI v26), (0, vR t)]) (st := fun _ => []) (fun v26 => ?_)
  refine j_goto hx (off := -21) (by decide +kernel) (tgt := 11) (by decide) ?_
  refine j_lv (lv' := [(0, vR t), (1, vI v26)]) ⟨rfl, rfl, trivial⟩ ?_
  exact k11 v26 W21
theorem wmo_same {x : jCx} {en : (fmo_same_S ⊕ (Int32 × jW)) → Option (Outcome × jW)} {t : Nat} (h : hmo_same x en t) (W : jW) : jJ x 3 0 [(0, vR t)] [] W (fmo_same_0 t W) en := by
  have h0 := h
  obtain ⟨hx, hm, hr, he, k11, k81, k91⟩ := h0
  unfold fmo_same_0
  refine j_runA hx 1 (tb := [(0, .aload_n 0)]) (jtb_ok (by decide +kernel)) (pc' := 1) (lv' := [(0, vR t)]) (st' := [vR t]) rfl ?_
  refine j_gd (fun h1 => ?_)
  refine j_getI hx flX8_265 kd1307 h1 (by decide) (by decide +kernel) ?_
  refine j_if_ne hx (off := 5) (tgt := 9) (by decide +kernel) (by decide) (fun _ => ?_) (fun _ => ?_)
  · refine j_runA hx 2 (tb := [(9, .iconst 0), (10, .istore_n 1)]) (jtb_ok (by decide +kernel)) (pc' := 11) (lv' := [(1, vI (kI 0)), (0, vR t)]) (st' := []) rfl ?_
    refine j_lv (lv' := [(0, vR t), (1, vI (kI 0))]) ⟨rfl, rfl, trivial⟩ ?_
    exact k11 (kI 0) W
  refine j_runA hx 1 (tb := [(7, .iconst 0)]) (jtb_ok (by decide +kernel)) (pc' := 8) (lv' := [(0, vR t)]) (st' := [vI (kI 0)]) rfl ?_
  exact j_iret hx hm (by decide +kernel) jz0n (he _)
theorem cmo_same (t : Nat) (W : jW) : jM yX8_same cX8_same 3 (Option.some Jvm.ClassFile.FieldType.boolean) [] 7 109 [vR t] W ((fmo_same t W).bind (fun q => some (.returned (some (.int q.1)), q.2))) := by
  refine jM.of (Nat.le_of_ble_eq_true rfl) (fun x hx hm hr => ?_)
  refine j_begin (P := (Sum.elim (fun s => (11, [(0, vR t), (1, vI s.1)], s.2)) (Sum.elim (fun s => (81, [(0, vR t), (1, vI s.1)], s.2)) (fun s => (91, [(0, vR t), (1, vI s.1), (2, vI s.2.1)], s.2.2))))) (fun en he hk => ?_)
  have h : hmo_same x en t := ⟨hx, hm, hr, fun q => he _, fun l1 W => hk (.inl (l1, W)), fun l1 W => hk (.inr (.inl (l1, W))), fun l1 l2 W => hk (.inr (.inr (l1, l2, W)))⟩
  refine ⟨fun s => ?_, wmo_same h W⟩
  rcases s with s | s | s
  · exact wmo_same_11 h s.1 s.2
  · exact wmo_same_81 h s.1 s.2
  · exact wmo_same_91 h s.1 s.2.1 s.2.2
def hmo_hotWords (x : jCx) (en : (fmo_hotWords_S ⊕ (Int32)) → Option (Outcome × jW)) (t : Nat) (a1 : Int32) (W : jW) : Prop :=
  jOK x RX8 cX8_hotWords 4 ∧
  jMt x "hotWords" (Option.some Jvm.ClassFile.FieldType.int) [] ∧
  jRm x 0 0 ∧
  (∀ q : Int32, en (.inr q) = some (.returned (some (.int q)), W)) ∧
  (∀ (l2 : Int32) (l3 : Int32), jJ x 4 9 [(0, vR t), (1, vI a1), (2, vI l2), (3, vI l3)] [] W (some (.inl (l2, l3))) en)
theorem wmo_hotWords_45 {x : jCx} {en : (fmo_hotWords_S ⊕ (Int32)) → Option (Outcome × jW)} {W : jW} {t : Nat} {a1 : Int32} (h : hmo_hotWords x en t a1 W) (l2 : Int32) (l3 : Int32) : jJ x 4 45 [(0, vR t), (1, vI a1), (2, vI l2), (3, vI l3)] [] W (fmo_hotWords_45 t a1 l2 l3 W) en := by
  have h0 := h
  obtain ⟨hx, hm, hr, he, k9⟩ := h0
  unfold fmo_hotWords_45
  refine j_runA hx 1 (tb := [(45, .iinc 3 1)]) (jtb_ok (by decide +kernel)) (pc' := 48) (lv' := [(3, vI (l3 + (kI 1))), (0, vR t), (1, vI a1), (2, vI l2)]) (st' := []) rfl ?_
  refine j_let (v := (l3 + (kI 1))) (lv := fun v11 => [(3, vI v11), (0, vR t), (1, vI a1), (2, vI l2)]) (st := fun _ => []) (fun v11 => ?_)
  refine j_goto hx (off := -39) (by decide +kernel) (tgt := 9) (by decide) ?_
  refine j_lv (lv' := [(0, vR t), (1, vI a1), (2, vI l2), (3, vI v11)]) ⟨rfl, rfl, rfl, rfl, trivial⟩ ?_
  exact k9 l2 v11
theorem wmo_hotWords_51 {x : jCx} {en : (fmo_hotWords_S ⊕ (Int32)) → Option (Outcome × jW)} {W : jW} {t : Nat} {a1 : Int32} (h : hmo_hotWords x en t a1 W) (l2 : Int32) : jJ x 4 51 [(0, vR t), (1, vI a1), (2, vI l2)] [] W (fmo_hotWords_51 t a1 l2 W) en := by
  have h0 := h
  obtain ⟨hx, hm, hr, he, k9⟩ := h0
  unfold fmo_hotWords_51
  refine j_runA hx 1 (tb := [(51, .iload_n 2)]) (jtb_ok (by decide +kernel)) (pc' := 52) (lv' := [(0, vR t), (1, vI a1), (2, vI l2)]) (st' := [vI l2]) rfl ?_
  exact j_iret hx hm (by decide +kernel) rfl (he _)
theorem wmo_hotWords_9 {x : jCx} {en : (fmo_hotWords_S ⊕ (Int32)) → Option (Outcome × jW)} {W : jW} {t : Nat} {a1 : Int32} (h : hmo_hotWords x en t a1 W) (l2 : Int32) (l3 : Int32) : jJ x 4 9 [(0, vR t), (1, vI a1), (2, vI l2), (3, vI l3)] [] W (fmo_hotWords_9 t a1 l2 l3 W) en := by
  have h0 := h
  obtain ⟨hx, hm, hr, he, k9⟩ := h0
  unfold fmo_hotWords_9
  refine j_runA hx 2 (tb := [(9, .iload_n 3), (10, .aload_n 0)]) (jtb_ok (by decide +kernel)) (pc' := 11) (lv' := [(0, vR t), (1, vI a1), (2, vI l2), (3, vI l3)]) (st' := [vR t, vI l3]) rfl ?_
  refine j_gd (fun h5 => ?_)
  refine j_getI hx flX8_399 kd1312 h5 (by decide) (by decide +kernel) ?_
  refine j_icmp_ge hx (off := 37) (tgt := 51) (by decide +kernel) (by decide) (fun _ => ?_) (fun _ => ?_)
  · refine j_lv (lv' := [(0, vR t), (1, vI a1), (2, vI l2)]) ⟨rfl, rfl, rfl, trivial⟩ ?_
    exact wmo_hotWords_51 h l2
  refine j_runA hx 1 (tb := [(17, .aload_n 0)]) (jtb_ok (by decide +kernel)) (pc' := 18) (lv' := [(0, vR t), (1, vI a1), (2, vI l2), (3, vI l3)]) (st' := [vR t]) rfl ?_
  refine j_getR hx flX8_65 kl1324 h5 (by decide) (by decide +kernel) ?_
  refine j_runA hx 1 (tb := [(21, .iload_n 3)]) (jtb_ok (by decide +kernel)) (pc' := 22) (lv' := [(0, vR t), (1, vI a1), (2, vI l2), (3, vI l3)]) (st' := [vI l3, vR (jR W 1324 t)]) rfl ?_
  refine j_gd (fun h6 => ?_)
  refine j_iald hx (f := 1324) (o := t) kd1324 rfl (by decide +kernel) h6 ?_
  refine j_runA hx 1 (tb := [(23, .iload_n 1)]) (jtb_ok (by decide +kernel)) (pc' := 24) (lv' := [(0, vR t), (1, vI a1), (2, vI l2), (3, vI l3)]) (st' := [vI a1, vI (jA W 1324 t (ix l3))]) rfl ?_
  refine j_icmp_ne hx (off := 27) (tgt := 51) (by decide +kernel) (by decide) (fun _ => ?_) (fun _ => ?_)
  · refine j_lv (lv' := [(0, vR t), (1, vI a1), (2, vI l2)]) ⟨rfl, rfl, rfl, trivial⟩ ?_
    exact wmo_hotWords_51 h l2
  refine j_runA hx 1 (tb := [(27, .aload_n 0)]) (jtb_ok (by decide +kernel)) (pc' := 28) (lv' := [(0, vR t), (1, vI a1), (2, vI l2), (3, vI l3)]) (st' := [vR t]) rfl ?_
  refine j_getR hx flX8_90 kl1334 h5 (by decide) (by decide +kernel) ?_
  refine j_runA hx 1 (tb := [(31, .iload_n 3)]) (jtb_ok (by decide +kernel)) (pc' := 32) (lv' := [(0, vR t), (1, vI a1), (2, vI l2), (3, vI l3)]) (st' := [vI l3, vR (jR W 1334 t)]) rfl ?_
  refine j_gd (fun h7 => ?_)
  refine j_zald hx (f := 1334) (o := t) kd1334 rfl (by decide +kernel) h7 ?_
  refine j_if_eq hx (off := 12) (tgt := 45) (by decide +kernel) (by decide) (fun _ => ?_) (fun _ => ?_)
  · exact wmo_hotWords_45 h l2 l3
  refine j_runA hx 2 (tb := [(36, .iload_n 2), (37, .aload_n 0)]) (jtb_ok (by decide +kernel)) (pc' := 38) (lv' := [(0, vR t), (1, vI a1), (2, vI l2), (3, vI l3)]) (st' := [vR t, vI l2]) rfl ?_
  refine j_getR hx flX8_62 kl1323 h5 (by decide) (by decide +kernel) ?_
  refine j_runA hx 1 (tb := [(41, .iload_n 3)]) (jtb_ok (by decide +kernel)) (pc' := 42) (lv' := [(0, vR t), (1, vI a1), (2, vI l2), (3, vI l3)]) (st' := [vI l3, vR (jR W 1323 t), vI l2]) rfl ?_
  refine j_gd (fun h8 => ?_)
  refine j_iald hx (f := 1323) (o := t) kd1323 rfl (by decide +kernel) h8 ?_
  refine j_runA hx 2 (tb := [(43, .iadd), (44, .istore_n 2)]) (jtb_ok (by decide +kernel)) (pc' := 45) (lv' := [(2, vI (l2 + (jA W 1323 t (ix l3)))), (0, vR t), (1, vI a1), (3, vI l3)]) (st' := []) rfl ?_
  refine j_let (v := (l2 + (jA W 1323 t (ix l3)))) (lv := fun v9 => [(2, vI v9), (0, vR t), (1, vI a1), (3, vI l3)]) (st := fun _ => []) (fun v9 => ?_)
  refine j_lv (lv' := [(0, vR t), (1, vI a1), (2, vI v9), (3, vI l3)]) ⟨rfl, rfl, rfl, rfl, trivial⟩ ?_
  exact wmo_hotWords_45 h v9 l3
theorem wmo_hotWords {x : jCx} {en : (fmo_hotWords_S ⊕ (Int32)) → Option (Outcome × jW)} {W : jW} {t : Nat} {a1 : Int32} (h : hmo_hotWords x en t a1 W) : jJ x 4 0 [(0, vR t), (1, vI a1)] [] W (fmo_hotWords_0 t a1 W) en := by
  have h0 := h
  obtain ⟨hx, hm, hr, he, k9⟩ := h0
  unfold fmo_hotWords_0
  refine j_runA hx 3 (tb := [(0, .iconst 0), (1, .istore_n 2), (2, .aload_n 0)]) (jtb_ok (by decide +kernel)) (pc' := 3) (lv' := [(2, vI (kI 0)), (0, vR t), (1, vI a1)]) (st' := [vR t]) rfl ?_
  refine j_gd (fun h1 => ?_)
  refine j_getR hx flX8_56 kl1321 h1 (by decide) (by decide +kernel) ?_
  refine j_runA hx 1 (tb := [(6, .iload_n 1)]) (jtb_ok (by decide +kernel)) (pc' := 7) (lv' := [(2, vI (kI 0)), (0, vR t), (1, vI a1)]) (st' := [vI a1, vR (jR W 1321 t)]) rfl ?_
  refine j_gd (fun h2 => ?_)
  refine j_iald hx (f := 1321) (o := t) kd1321 rfl (by decide +kernel) h2 ?_
  refine j_runA hx 1 (tb := [(8, .istore_n 3)]) (jtb_ok (by decide +kernel)) (pc' := 9) (lv' := [(3, vI (jA W 1321 t (ix a1))), (2, vI (kI 0)), (0, vR t), (1, vI a1)]) (st' := []) rfl ?_
  refine j_let (v := (jA W 1321 t (ix a1))) (lv := fun v3 => [(3, vI v3), (2, vI (kI 0)), (0, vR t), (1, vI a1)]) (st := fun _ => []) (fun v3 => ?_)
  refine j_lv (lv' := [(0, vR t), (1, vI a1), (2, vI (kI 0)), (3, vI v3)]) ⟨rfl, rfl, rfl, rfl, trivial⟩ ?_
  exact k9 (kI 0) v3
theorem cmo_hotWords (t : Nat) (a1 : Int32) (W : jW) : jM yX8_hotWords cX8_hotWords 4 (Option.some Jvm.ClassFile.FieldType.int) [] 0 0 [vR t, vI a1] W ((fmo_hotWords t a1 W).bind (fun q => some (.returned (some (.int q)), W))) := by
  refine jM.of (Nat.le_of_ble_eq_true rfl) (fun x hx hm hr => ?_)
  refine j_begin (P := (fun s => (9, [(0, vR t), (1, vI a1), (2, vI s.1), (3, vI s.2)], W))) (fun en he hk => ?_)
  have h : hmo_hotWords x en t a1 W := ⟨hx, hm, hr, fun q => he _, fun l2 l3 => hk (l2, l3)⟩
  exact ⟨fun s => wmo_hotWords_9 h s.1 s.2, wmo_hotWords h⟩
def hmo_callerOf (x : jCx) (en : (fmo_callerOf_S ⊕ (Int32 × jW)) → Option (Outcome × jW)) (t : Nat) (a1 : Int32) : Prop :=
  jOK x RX8 cX8_callerOf 4 ∧
  jMt x "callerOf" (Option.some Jvm.ClassFile.FieldType.int) [] ∧
  jRm x 0 0 ∧
  (∀ q : Int32 × jW, en (.inr q) = some (.returned (some (.int q.1)), q.2)) ∧
  (∀ (l2 : Int32) (W : jW), jJ x 4 2 [(0, vR t), (1, vI a1), (2, vI l2)] [] W (some (.inl (.inl (l2, W)))) en) ∧
  (∀ (l2 : Int32) (W : jW), jJ x 4 25 [(0, vR t), (1, vI a1), (2, vI l2)] [] W (some (.inl (.inr (.inl (l2, W))))) en) ∧
  (∀ (l2 : Int32) (l3 : Int32) (W : jW), jJ x 4 107 [(0, vR t), (1, vI a1), (2, vI l2), (3, vI l3)] [] W (some (.inl (.inr (.inr (l2, l3, W))))) en)
theorem wmo_callerOf_97 {x : jCx} {en : (fmo_callerOf_S ⊕ (Int32 × jW)) → Option (Outcome × jW)} {t : Nat} {a1 : Int32} (h : hmo_callerOf x en t a1) (l2 : Int32) (W : jW) : jJ x 4 97 [(0, vR t), (1, vI a1), (2, vI l2)] [] W (fmo_callerOf_97 t a1 l2 W) en := by
  have h0 := h
  obtain ⟨hx, hm, hr, he, k2, k25, k107⟩ := h0
  unfold fmo_callerOf_97
  refine j_runA hx 1 (tb := [(97, .iinc 2 1)]) (jtb_ok (by decide +kernel)) (pc' := 100) (lv' := [(2, vI (l2 + (kI 1))), (0, vR t), (1, vI a1)]) (st' := []) rfl ?_
  refine j_let (v := (l2 + (kI 1))) (lv := fun v26 => [(2, vI v26), (0, vR t), (1, vI a1)]) (st := fun _ => []) (fun v26 => ?_)
  refine j_goto hx (off := -75) (by decide +kernel) (tgt := 25) (by decide) ?_
  refine j_lv (lv' := [(0, vR t), (1, vI a1), (2, vI v26)]) ⟨rfl, rfl, rfl, trivial⟩ ?_
  exact k25 v26 W
theorem wmo_callerOf_148 {x : jCx} {en : (fmo_callerOf_S ⊕ (Int32 × jW)) → Option (Outcome × jW)} {t : Nat} {a1 : Int32} (h : hmo_callerOf x en t a1) (l2 : Int32) (l3 : Int32) (W : jW) : jJ x 4 148 [(0, vR t), (1, vI a1), (2, vI l2), (3, vI l3)] [] W (fmo_callerOf_148 t a1 l2 l3 W) en := by
  have h0 := h
  obtain ⟨hx, hm, hr, he, k2, k25, k107⟩ := h0
  unfold fmo_callerOf_148
  refine j_runA hx 1 (tb := [(148, .iinc 3 1)]) (jtb_ok (by decide +kernel)) (pc' := 151) (lv' := [(3, vI (l3 + (kI 1))), (0, vR t), (1, vI a1), (2, vI l2)]) (st' := []) rfl ?_
  refine j_let (v := (l3 + (kI 1))) (lv := fun v34 => [(3, vI v34), (0, vR t), (1, vI a1), (2, vI l2)]) (st := fun _ => []) (fun v34 => ?_)
  refine j_goto hx (off := -44) (by decide +kernel) (tgt := 107) (by decide) ?_
  refine j_lv (lv' := [(0, vR t), (1, vI a1), (2, vI l2), (3, vI v34)]) ⟨rfl, rfl, rfl, rfl, trivial⟩ ?_
  exact k107 l2 v34 W
theorem wmo_callerOf_146 {x : jCx} {en : (fmo_callerOf_S ⊕ (Int32 × jW)) → Option (Outcome × jW)} {t : Nat} {a1 : Int32} (h : hmo_callerOf x en t a1) (l3 : Int32) (W : jW) : jJ x 4 146 [(0, vR t), (1, vI a1), (3, vI l3)] [] W (fmo_callerOf_146 t a1 l3 W) en := by
  have h0 := h
  obtain ⟨hx, hm, hr, he, k2, k25, k107⟩ := h0
  unfold fmo_callerOf_146
  refine j_runA hx 2 (tb := [(146, .iload_n 3), (147, .istore_n 2)]) (jtb_ok (by decide +kernel)) (pc' := 148) (lv' := [(2, vI l3), (0, vR t), (1, vI a1), (3, vI l3)]) (st' := []) rfl ?_
  refine j_lv (lv' := [(0, vR t), (1, vI a1), (2, vI l3), (3, vI l3)]) ⟨rfl, rfl, rfl, rfl, trivial⟩ ?_
  exact wmo_callerOf_148 h l3 l3 W
theorem wmo_callerOf_107 {x : jCx} {en : (fmo_callerOf_S ⊕ (Int32 × jW)) → Option (Outcome × jW)} {t : Nat} {a1 : Int32} (h : hmo_callerOf x en t a1) (l2 : Int32) (l3 : Int32) (W : jW) : jJ x 4 107 [(0, vR t), (1, vI a1), (2, vI l2), (3, vI l3)] [] W (fmo_callerOf_107 t a1 l2 l3 W) en := by
  have h0 := h
  obtain ⟨hx, hm, hr, he, k2, k25, k107⟩ := h0
  unfold fmo_callerOf_107
  refine j_runA hx 2 (tb := [(107, .iload_n 3), (108, .aload_n 0)]) (jtb_ok (by decide +kernel)) (pc' := 109) (lv' := [(0, vR t), (1, vI a1), (2, vI l2), (3, vI l3)]) (st' := [vR t, vI l3]) rfl ?_
  refine j_gd (fun h28 => ?_)
  refine j_getI hx flX8_281 kd1311 h28 (by decide) (by decide +kernel) ?_
  refine j_icmp_ge hx (off := 42) (tgt := 154) (by decide +kernel) (by decide) (fun _ => ?_) (fun _ => ?_)
  · refine j_runA hx 1 (tb := [(154, .iload_n 2)]) (jtb_ok (by decide +kernel)) (pc' := 155) (lv' := [(0, vR t), (1, vI a1), (2, vI l2), (3, vI l3)]) (st' := [vI l2]) rfl ?_
    exact j_iret hx hm (by decide +kernel) rfl (he _)
  refine j_runA hx 1 (tb := [(115, .aload_n 0)]) (jtb_ok (by decide +kernel)) (pc' := 116) (lv' := [(0, vR t), (1, vI a1), (2, vI l2), (3, vI l3)]) (st' := [vR t]) rfl ?_
  refine j_getR hx flX8_135 kl1349 h28 (by decide) (by decide +kernel) ?_
  refine j_runA hx 1 (tb := [(119, .iload_n 3)]) (jtb_ok (by decide +kernel)) (pc' := 120) (lv' := [(0, vR t), (1, vI a1), (2, vI l2), (3, vI l3)]) (st' := [vI l3, vR (jR W 1349 t)]) rfl ?_
  refine j_gd (fun h29 => ?_)
  refine j_lald hx (f := 1349) (o := t) kd1349 rfl (by decide +kernel) h29 ?_
  refine j_runA hx 1 (tb := [(121, .lconst 0)]) (jtb_ok (by decide +kernel)) (pc' := 122) (lv' := [(0, vR t), (1, vI a1), (2, vI l2), (3, vI l3)]) (st' := [vL (kJ 0), vL (jB W 1349 t (ix l3))]) rfl ?_
  refine j_lcmp_le hx (off := 25) (tgt := 148) (by decide +kernel) (by decide +kernel) (by decide) (fun _ => ?_) (fun _ => ?_)
  · exact wmo_callerOf_148 h l2 l3 W
  refine j_runA hx 1 (tb := [(126, .iload_n 2)]) (jtb_ok (by decide +kernel)) (pc' := 127) (lv' := [(0, vR t), (1, vI a1), (2, vI l2), (3, vI l3)]) (st' := [vI l2]) rfl ?_
  refine j_if_lt hx (off := 19) (tgt := 146) (by decide +kernel) (by decide) (fun _ => ?_) (fun _ => ?_)
  · refine j_lv (lv' := [(0, vR t), (1, vI a1), (3, vI l3)]) ⟨rfl, rfl, rfl, trivial⟩ ?_
    exact wmo_callerOf_146 h l3 W
  refine j_runA hx 1 (tb := [(130, .aload_n 0)]) (jtb_ok (by decide +kernel)) (pc' := 131) (lv' := [(0, vR t), (1, vI a1), (2, vI l2), (3, vI l3)]) (st' := [vR t]) rfl ?_
  refine j_getR hx flX8_135 kl1349 h28 (by decide) (by decide +kernel) ?_
  refine j_runA hx 1 (tb := [(134, .iload_n 3)]) (jtb_ok (by decide +kernel)) (pc' := 135) (lv' := [(0, vR t), (1, vI a1), (2, vI l2), (3, vI l3)]) (st' := [vI l3, vR (jR W 1349 t)]) rfl ?_
  refine j_gd (fun h30 => ?_)
  refine j_lald hx (f := 1349) (o := t) kd1349 rfl (by decide +kernel) h30 ?_
  refine j_runA hx 1 (tb := [(136, .aload_n 0)]) (jtb_ok (by decide +kernel)) (pc' := 137) (lv' := [(0, vR t), (1, vI a1), (2, vI l2), (3, vI l3)]) (st' := [vR t, vL (jB W 1349 t (ix l3))]) rfl ?_
  refine j_getR hx flX8_135 kl1349 h28 (by decide) (by decide +kernel) ?_
  refine j_runA hx 1 (tb := [(140, .iload_n 2)]) (jtb_ok (by decide +kernel)) (pc' := 141) (lv' := [(0, vR t), (1, vI a1), (2, vI l2), (3, vI l3)]) (st' := [vI l2, vR (jR W 1349 t), vL (jB W 1349 t (ix l3))]) rfl ?_
  refine j_gd (fun h31 => ?_)
  refine j_lald hx (f := 1349) (o := t) kd1349 rfl (by decide +kernel) h31 ?_
  refine j_lcmp_le hx (off := 5) (tgt := 148) (by decide +kernel) (by decide +kernel) (by decide) (fun _ => ?_) (fun _ => ?_)
  · exact wmo_callerOf_148 h l2 l3 W
  refine j_lv (lv' := [(0, vR t), (1, vI a1), (3, vI l3)]) ⟨rfl, rfl, rfl, trivial⟩ ?_
  exact wmo_callerOf_146 h l3 W
theorem wmo_callerOf_25 {x : jCx} {en : (fmo_callerOf_S ⊕ (Int32 × jW)) → Option (Outcome × jW)} {t : Nat} {a1 : Int32} (h : hmo_callerOf x en t a1) (l2 : Int32) (W : jW) : jJ x 4 25 [(0, vR t), (1, vI a1), (2, vI l2)] [] W (fmo_callerOf_25 t a1 l2 W) en := by
  have h0 := h
  obtain ⟨hx, hm, hr, he, k2, k25, k107⟩ := h0
  unfold fmo_callerOf_25
  refine j_runA hx 2 (tb := [(25, .iload_n 2), (26, .aload_n 0)]) (jtb_ok (by decide +kernel)) (pc' := 27) (lv' := [(0, vR t), (1, vI a1), (2, vI l2)]) (st' := [vR t, vI l2]) rfl ?_
  refine j_gd (fun h10 => ?_)
  refine j_getI hx flX8_272 kd1329 h10 (by decide) (by decide +kernel) ?_
  refine j_icmp_ge hx (off := 73) (tgt := 103) (by decide +kernel) (by decide) (fun _ => ?_) (fun _ => ?_)
  · refine j_runA hx 4 (tb := [(103, .iconst (-1)), (104, .istore_n 2), (105, .iconst 0), (106, .istore_n 3)]) (jtb_ok (by decide +kernel)) (pc' := 107) (lv' := [(3, vI (kI 0)), (2, vI (kI (-1))), (0, vR t), (1, vI a1)]) (st' := []) rfl ?_
    refine j_lv (lv' := [(0, vR t), (1, vI a1), (2, vI (kI (-1))), (3, vI (kI 0))]) ⟨rfl, rfl, rfl, rfl, trivial⟩ ?_
    exact k107 (kI (-1)) (kI 0) W
  refine j_runA hx 1 (tb := [(33, .aload_n 0)]) (jtb_ok (by decide +kernel)) (pc' := 34) (lv' := [(0, vR t), (1, vI a1), (2, vI l2)]) (st' := [vR t]) rfl ?_
  refine j_getR hx flX8_83 kl1332 h10 (by decide) (by decide +kernel) ?_
  refine j_runA hx 1 (tb := [(37, .iload_n 2)]) (jtb_ok (by decide +kernel)) (pc' := 38) (lv' := [(0, vR t), (1, vI a1), (2, vI l2)]) (st' := [vI l2, vR (jR W 1332 t)]) rfl ?_
  refine j_gd (fun h11 => ?_)
  refine j_zald hx (f := 1332) (o := t) kd1332 rfl (by decide +kernel) h11 ?_
  refine j_if_eq hx (off := 58) (tgt := 97) (by decide +kernel) (by decide) (fun _ => ?_) (fun _ => ?_)
  · exact wmo_callerOf_97 h l2 W
  refine j_runA hx 1 (tb := [(42, .aload_n 0)]) (jtb_ok (by decide +kernel)) (pc' := 43) (lv' := [(0, vR t), (1, vI a1), (2, vI l2)]) (st' := [vR t]) rfl ?_
  refine j_getR hx flX8_65 kl1324 h10 (by decide) (by decide +kernel) ?_
  refine j_runA hx 1 (tb := [(46, .aload_n 0)]) (jtb_ok (by decide +kernel)) (pc' := 47) (lv' := [(0, vR t), (1, vI a1), (2, vI l2)]) (st' := [vR t, vR (jR W 1324 t)]) rfl ?_
  refine j_getR hx flX8_80 kl1331 h10 (by decide) (by decide +kernel) ?_
  refine j_runA hx 1 (tb := [(50, .iload_n 2)]) (jtb_ok (by decide +kernel)) (pc' := 51) (lv' := [(0, vR t), (1, vI a1), (2, vI l2)]) (st' := [vI l2, vR (jR W 1331 t), vR (jR W 1324 t)]) rfl ?_
  refine j_gd (fun h12 => ?_)
  refine j_iald hx (f := 1331) (o := t) kd1331 rfl (by decide +kernel) h12 ?_
  refine j_gd (fun h13 => ?_)
  refine j_iald hx (f := 1324) (o := t) kd1324 rfl (by decide +kernel) h13 ?_
  refine j_runA hx 1 (tb := [(53, .iload_n 1)]) (jtb_ok (by decide +kernel)) (pc' := 54) (lv' := [(0, vR t), (1, vI a1), (2, vI l2)]) (st' := [vI a1, vI (jA W 1324 t (ix (jA W 1331 t (ix l2))))]) rfl ?_
  refine j_icmp_ne hx (off := 43) (tgt := 97) (by decide +kernel) (by decide) (fun _ => ?_) (fun _ => ?_)
  · exact wmo_callerOf_97 h l2 W
  refine j_runA hx 1 (tb := [(57, .aload_n 0)]) (jtb_ok (by decide +kernel)) (pc' := 58) (lv' := [(0, vR t), (1, vI a1), (2, vI l2)]) (st' := [vR t]) rfl ?_
  refine j_getR hx flX8_65 kl1324 h10 (by decide) (by decide +kernel) ?_
  refine j_runA hx 1 (tb := [(61, .aload_n 0)]) (jtb_ok (by decide +kernel)) (pc' := 62) (lv' := [(0, vR t), (1, vI a1), (2, vI l2)]) (st' := [vR t, vR (jR W 1324 t)]) rfl ?_
  refine j_getR hx flX8_77 kl1330 h10 (by decide) (by decide +kernel) ?_
  refine j_runA hx 1 (tb := [(65, .iload_n 2)]) (jtb_ok (by decide +kernel)) (pc' := 66) (lv' := [(0, vR t), (1, vI a1), (2, vI l2)]) (st' := [vI l2, vR (jR W 1330 t), vR (jR W 1324 t)]) rfl ?_
  refine j_gd (fun h14 => ?_)
  refine j_iald hx (f := 1330) (o := t) kd1330 rfl (by decide +kernel) h14 ?_
  refine j_gd (fun h15 => ?_)
  refine j_iald hx (f := 1324) (o := t) kd1324 rfl (by decide +kernel) h15 ?_
  refine j_runA hx 1 (tb := [(68, .iload_n 1)]) (jtb_ok (by decide +kernel)) (pc' := 69) (lv' := [(0, vR t), (1, vI a1), (2, vI l2)]) (st' := [vI a1, vI (jA W 1324 t (ix (jA W 1330 t (ix l2))))]) rfl ?_
  refine j_icmp_eq hx (off := 28) (tgt := 97) (by decide +kernel) (by decide) (fun _ => ?_) (fun _ => ?_)
  · exact wmo_callerOf_97 h l2 W
  refine j_runA hx 1 (tb := [(72, .aload_n 0)]) (jtb_ok (by decide +kernel)) (pc' := 73) (lv' := [(0, vR t), (1, vI a1), (2, vI l2)]) (st' := [vR t]) rfl ?_
  refine j_getR hx flX8_135 kl1349 h10 (by decide) (by decide +kernel) ?_
  refine j_runA hx 1 (tb := [(76, .aload_n 0)]) (jtb_ok (by decide +kernel)) (pc' := 77) (lv' := [(0, vR t), (1, vI a1), (2, vI l2)]) (st' := [vR t, vR (jR W 1349 t)]) rfl ?_
  refine j_getR hx flX8_65 kl1324 h10 (by decide) (by decide +kernel) ?_
  refine j_runA hx 1 (tb := [(80, .aload_n 0)]) (jtb_ok (by decide +kernel)) (pc' := 81) (lv' := [(0, vR t), (1, vI a1), (2, vI l2)]) (st' := [vR t, vR (jR W 1324 t), vR (jR W 1349 t)]) rfl ?_
  refine j_getR hx flX8_77 kl1330 h10 (by decide) (by decide +kernel) ?_
  refine j_runA hx 1 (tb := [(84, .iload_n 2)]) (jtb_ok (by decide +kernel)) (pc' := 85) (lv' := [(0, vR t), (1, vI a1), (2, vI l2)]) (st' := [vI l2, vR (jR W 1330 t), vR (jR W 1324 t), vR (jR W 1349 t)]) rfl ?_
  refine j_gd (fun h16 => ?_)
  refine j_iald hx (f := 1330) (o := t) kd1330 rfl (by decide +kernel) h16 ?_
  refine j_gd (fun h17 => ?_)
  refine j_iald hx (f := 1324) (o := t) kd1324 rfl (by decide +kernel) h17 ?_
  refine j_runA hx 1 (tb := [(87, .dup2)]) (jtb_ok (by decide +kernel)) (pc' := 88) (lv' := [(0, vR t), (1, vI a1), (2, vI l2)]) (st' := [vI (jA W 1324 t (ix (jA W 1330 t (ix l2)))), vR (jR W 1349 t), vI (jA W 1324 t (ix (jA W 1330 t (ix l2)))), vR (jR W 1349 t)]) rfl ?_
  refine j_gd (fun h18 => ?_)
  refine j_lald hx (f := 1349) (o := t) kd1349 rfl (by decide +kernel) h18 ?_
  refine j_runA hx 1 (tb := [(89, .aload_n 0)]) (jtb_ok (by decide +kernel)) (pc' := 90) (lv' := [(0, vR t), (1, vI a1), (2, vI l2)]) (st' := [vR t, vL (jB W 1349 t (ix (jA W 1324 t (ix (jA W 1330 t (ix l2)))))), vI (jA W 1324 t (ix (jA W 1330 t (ix l2)))), vR (jR W 1349 t)]) rfl ?_
  refine j_getR hx flX8_86 kl1333 h10 (by decide) (by decide +kernel) ?_
  refine j_runA hx 1 (tb := [(93, .iload_n 2)]) (jtb_ok (by decide +kernel)) (pc' := 94) (lv' := [(0, vR t), (1, vI a1), (2, vI l2)]) (st' := [vI l2, vR (jR W 1333 t), vL (jB W 1349 t (ix (jA W 1324 t (ix (jA W 1330 t (ix l2)))))), vI (jA W 1324 t (ix (jA W 1330 t (ix l2)))), vR (jR W 1349 t)]) rfl ?_
  refine j_gd (fun h19 => ?_)
  refine j_lald hx (f := 1333) (o := t) kd1333 rfl (by decide +kernel) h19 ?_
  refine j_runA hx 1 (tb := [(95, .ladd)]) (jtb_ok (by decide +kernel)) (pc' := 96) (lv' := [(0, vR t), (1, vI a1), (2, vI l2)]) (st' := [vL ((jB W 1349 t (ix (jA W 1324 t (ix (jA W 1330 t (ix l2)))))) + (jB W 1333 t (ix l2))), vI (jA W 1324 t (ix (jA W 1330 t (ix l2)))), vR (jR W 1349 t)]) rfl ?_
  refine j_gd (fun h20 => ?_)
  refine j_last hx (f := 1349) (o := t) kd1349 rfl (by decide +kernel) h20 ?_
  refine j_ltw rfl (fun W21 hc22 => ?_)
  have h23 : jC W21 t = 13 := (congrFun hc22 _).trans h10
  exact wmo_callerOf_97 h l2 W21
theorem wmo_callerOf_2 {x : jCx} {en : (fmo_callerOf_S ⊕ (Int32 × jW)) → Option (Outcome × jW)} {t : Nat} {a1 : Int32} (h : hmo_callerOf x en t a1) (l2 : Int32) (W : jW) : jJ x 4 2 [(0, vR t), (1, vI a1), (2, vI l2)] [] W (fmo_callerOf_2 t a1 l2 W) en := by
  have h0 := h
  obtain ⟨hx, hm, hr, he, k2, k25, k107⟩ := h0
  unfold fmo_callerOf_2
  refine j_runA hx 2 (tb := [(2, .iload_n 2), (3, .aload_n 0)]) (jtb_ok (by decide +kernel)) (pc' := 4) (lv' := [(0, vR t), (1, vI a1), (2, vI l2)]) (st' := [vR t, vI l2]) rfl ?_
  refine j_gd (fun h2 => ?_)
  refine j_getI hx flX8_281 kd1311 h2 (by decide) (by decide +kernel) ?_
  refine j_icmp_ge hx (off := 16) (tgt := 23) (by decide +kernel) (by decide) (fun _ => ?_) (fun _ => ?_)
  · refine j_runA hx 2 (tb := [(23, .iconst 0), (24, .istore_n 2)]) (jtb_ok (by decide +kernel)) (pc' := 25) (lv' := [(2, vI (kI 0)), (0, vR t), (1, vI a1)]) (st' := []) rfl ?_
    refine j_lv (lv' := [(0, vR t), (1, vI a1), (2, vI (kI 0))]) ⟨rfl, rfl, rfl, trivial⟩ ?_
    exact k25 (kI 0) W
  refine j_runA hx 1 (tb := [(10, .aload_n 0)]) (jtb_ok (by decide +kernel)) (pc' := 11) (lv' := [(0, vR t), (1, vI a1), (2, vI l2)]) (st' := [vR t]) rfl ?_
  refine j_getR hx flX8_135 kl1349 h2 (by decide) (by decide +kernel) ?_
  refine j_runA hx 2 (tb := [(14, .iload_n 2), (15, .lconst 0)]) (jtb_ok (by decide +kernel)) (pc' := 16) (lv' := [(0, vR t), (1, vI a1), (2, vI l2)]) (st' := [vL (kJ 0), vI l2, vR (jR W 1349 t)]) rfl ?_
  refine j_gd (fun h3 => ?_)
  refine j_last hx (f := 1349) (o := t) kd1349 rfl (by decide +kernel) h3 ?_
  refine j_ltw rfl (fun W4 hc5 => ?_)
  have h6 : jC W4 t = 13 := (congrFun hc5 _).trans h2
  refine j_runA hx 1 (tb := [(17, .iinc 2 1)]) (jtb_ok (by decide +kernel)) (pc' := 20) (lv' := [(2, vI (l2 + (kI 1))), (0, vR t), (1, vI a1)]) (st' := []) rfl ?_
  refine j_let (v := (l2 + (kI 1))) (lv := fun v8 => [(2, vI v8), (0, vR t), (1, vI a1)]) (st := fun _ => []) (fun v8 => ?_)
  refine j_goto hx (off := -18) (by decide +kernel) (tgt := 2) (by decide) ?_
  refine j_lv (lv' := [(0, vR t), (1, vI a1), (2, vI v8)]) ⟨rfl, rfl, rfl, trivial⟩ ?_
  exact k2 v8 W4
theorem wmo_callerOf {x : jCx} {en : (fmo_callerOf_S ⊕ (Int32 × jW)) → Option (Outcome × jW)} {t : Nat} {a1 : Int32} (h : hmo_callerOf x en t a1) (W : jW) : jJ x 4 0 [(0, vR t), (1, vI a1)] [] W (fmo_callerOf_0 t a1 W) en := by
  have h0 := h
  obtain ⟨hx, hm, hr, he, k2, k25, k107⟩ := h0
  unfold fmo_callerOf_0
  refine j_runA hx 2 (tb := [(0, .iconst 0), (1, .istore_n 2)]) (jtb_ok (by decide +kernel)) (pc' := 2) (lv' := [(2, vI (kI 0)), (0, vR t), (1, vI a1)]) (st' := []) rfl ?_
  refine j_lv (lv' := [(0, vR t), (1, vI a1), (2, vI (kI 0))]) ⟨rfl, rfl, rfl, trivial⟩ ?_
  exact k2 (kI 0) W
theorem cmo_callerOf (t : Nat) (a1 : Int32) (W : jW) : jM yX8_callerOf cX8_callerOf 4 (Option.some Jvm.ClassFile.FieldType.int) [] 0 0 [vR t, vI a1] W ((fmo_callerOf t a1 W).bind (fun q => some (.returned (some (.int q.1)), q.2))) := by
  refine jM.of (Nat.le_of_ble_eq_true rfl) (fun x hx hm hr => ?_)
  refine j_begin (P := (Sum.elim (fun s => (2, [(0, vR t), (1, vI a1), (2, vI s.1)], s.2)) (Sum.elim (fun s => (25, [(0, vR t), (1, vI a1), (2, vI s.1)], s.2)) (fun s => (107, [(0, vR t), (1, vI a1), (2, vI s.1), (3, vI s.2.1)], s.2.2))))) (fun en he hk => ?_)
  have h : hmo_callerOf x en t a1 := ⟨hx, hm, hr, fun q => he _, fun l2 W => hk (.inl (l2, W)), fun l2 W => hk (.inr (.inl (l2, W))), fun l2 l3 W => hk (.inr (.inr (l2, l3, W)))⟩
  refine ⟨fun s => ?_, wmo_callerOf h W⟩
  rcases s with s | s | s
  · exact wmo_callerOf_2 h s.1 s.2
  · exact wmo_callerOf_25 h s.1 s.2
  · exact wmo_callerOf_107 h s.1 s.2.1 s.2.2
