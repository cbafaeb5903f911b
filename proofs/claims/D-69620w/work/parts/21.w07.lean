/-! ===== walks: fpg_tellBlocks fpg_take fpg_place fpg_rule fco_clear fog_init fwr_init fha_init fme_init fma_init fcl_forgetRuns ===== -/
set_option maxRecDepth 100000
def hpg_tellBlocks (x : jCx) (en : (fpg_tellBlocks_S ⊕ (jW)) → Option (Outcome × jW)) (t : Nat) : Prop :=
  jOK x RX1 cX1_tellBlocks 5 ∧
  jMt x "tellBlocks" (Option.none : Option Jvm.ClassFile.FieldType) [] ∧
  jRm x 9 123 ∧
  (∀ q : jW, en (.inr q) = some (.returned none, q)) ∧
  (∀ (l1 : Int32) (W : jW), jJ x 5 18 [(0, vR t), (1, vI l1)] [] W (some (.inl (.inl (l1, W)))) en) ∧
  (∀ (l1 : Int32) (W : jW), jJ x 5 77 [(0, vR t), (1, vI l1)] [] W (some (.inl (.inr (.inl (l1, W))))) en) ∧
  (∀ (l1 : Int32) (W : jW), jJ x 5 117 [(0, vR t), (1, vI l1)] [] W (some (.inl (.inr (.inr (.inl (l1, W)))))) en) ∧
  (∀ (l1 : Int32) (W : jW), jJ x 5 289 [(0, vR t), (1, vI l1)] [] W (some (.inl (.inr (.inr (.inr (.inl (l1, W))))))) en) ∧
  (∀ (l1 : Int32) (l2 : Int32) (W : jW), jJ x 5 337 [(0, vR t), (1, vI l1), (2, vI l2)] [] W (some (.inl (.inr (.inr (.inr (.inr (l1, l2, W))))))) en)
theorem wpg_tellBlocks_43 {x : jCx} {en : (fpg_tellBlocks_S ⊕ (jW)) → Option (Outcome × jW)} {t : Nat} (h : hpg_tellBlocks x en t) (l1 : Int32) (W : jW) : jJ x 5 43 [(0, vR t), (1, vI l1)] [] W (fpg_tellBlocks_43 t l1 W) en := by
  have h0 := h
  obtain ⟨hx, hm, hr, he, k18, k77, k117, k289, k337⟩ := h0
  unfold fpg_tellBlocks_43
  refine j_runA hx 1 (tb := [(43, .aload_n 0)]) (jtb_ok (by decide +kernel)) (pc' := 44) (lv' := [(0, vR t), (1, vI l1)]) (st' := [vR t]) rfl ?_
  refine j_gd (fun h28 => ?_)
  refine j_getR hx flX1_39 kl206 h28 (by decide) (by decide +kernel) ?_
  refine j_runA hx 2 (tb := [(47, .iload_n 1), (48, .aload_n 0)]) (jtb_ok (by decide +kernel)) (pc' := 49) (lv' := [(0, vR t), (1, vI l1)]) (st' := [vR t, vI l1, vR (jR W 206 t)]) rfl ?_
  refine j_getR hx flX1_65 kl213 h28 (by decide) (by decide +kernel) ?_
  refine j_gd (fun h29 => ?_)
  refine j_getI hx flX1_90 kd601 h29 (by decide) (by decide +kernel) ?_
  refine j_runA hx 2 (tb := [(55, .iconst 1), (56, .isub)]) (jtb_ok (by decide +kernel)) (pc' := 57) (lv' := [(0, vR t), (1, vI l1)]) (st' := [vI ((jI W 601 (jR W 213 t)) - (kI 1)), vI l1, vR (jR W 206 t)]) rfl ?_
  refine j_gd (fun h30 => ?_)
  refine j_iast hx (f := 206) (o := t) kd206 rfl (by decide +kernel) h30 ?_
  refine j_ltw rfl (fun W31 hc32 => ?_)
  have h33 : jC W31 t = 2 := (congrFun hc32 _).trans h28
  have h34 : jC W31 (jR W 213 t) = 6 := (congrFun hc32 _).trans h29
  refine j_runA hx 1 (tb := [(58, .iinc 1 1)]) (jtb_ok (by decide +kernel)) (pc' := 61) (lv' := [(1, vI (l1 + (kI 1))), (0, vR t)]) (st' := []) rfl ?_
  refine j_let (v := (l1 + (kI 1))) (lv := fun v36 => [(1, vI v36), (0, vR t)]) (st := fun _ => []) (fun v36 => ?_)
  refine j_goto hx (off := -43) (by decide +kernel) (tgt := 18) (by decide) ?_
  refine j_lv (lv' := [(0, vR t), (1, vI v36)]) ⟨rfl, rfl, trivial⟩ ?_
  exact k18 v36 W31
theorem wpg_tellBlocks_281 {x : jCx} {en : (fpg_tellBlocks_S ⊕ (jW)) → Option (Outcome × jW)} {t : Nat} (h : hpg_tellBlocks x en t) (l1 : Int32) (W : jW) : jJ x 5 281 [(0, vR t), (1, vI l1)] [] W (fpg_tellBlocks_281 t l1 W) en := by
  have h0 := h
  obtain ⟨hx, hm, hr, he, k18, k77, k117, k289, k337⟩ := h0
  unfold fpg_tellBlocks_281
  refine j_runA hx 1 (tb := [(281, .iinc 1 1)]) (jtb_ok (by decide +kernel)) (pc' := 284) (lv' := [(1, vI (l1 + (kI 1))), (0, vR t)]) (st' := []) rfl ?_
  refine j_let (v := (l1 + (kI 1))) (lv := fun v87 => [(1, vI v87), (0, vR t)]) (st := fun _ => []) (fun v87 => ?_)
  refine j_goto hx (off := -167) (by decide +kernel) (tgt := 117) (by decide) ?_
  refine j_lv (lv' := [(0, vR t), (1, vI v87)]) ⟨rfl, rfl, trivial⟩ ?_
  exact k117 v87 W
theorem wpg_tellBlocks_258 {x : jCx} {en : (fpg_tellBlocks_S ⊕ (jW)) → Option (Outcome × jW)} {t : Nat} (h : hpg_tellBlocks x en t) (l1 : Int32) (l2 : Int32) (l3 : Int32) (W : jW) : jJ x 5 258 [(0, vR t), (1, vI l1), (2, vI l2), (3, vI l3)] [] W (fpg_tellBlocks_258 t l1 l2 l3 W) en := by
  have h0 := h
  obtain ⟨hx, hm, hr, he, k18, k77, k117, k289, k337⟩ := h0
  unfold fpg_tellBlocks_258
  refine j_runA hx 1 (tb := [(258, .iload_n 3)]) (jtb_ok (by decide +kernel)) (pc' := 259) (lv' := [(0, vR t), (1, vI l1), (2, vI l2), (3, vI l3)]) (st' := [vI l3]) rfl ?_
  refine j_TI (j_callS (av := [vI l3]) (st := []) hx hr (Or.inl q1094) q1095 q247 md_fwo_goes np_fwo_goes (cwo_goes l3 W) (by decide) (Nat.le_of_ble_eq_true rfl) (by decide +kernel)) ?_
  refine j_if_eq hx (off := 19) (tgt := 281) (by decide +kernel) (by decide) (fun _ => ?_) (fun _ => ?_)
  · refine j_lv (lv' := [(0, vR t), (1, vI l1)]) ⟨rfl, rfl, trivial⟩ ?_
    exact wpg_tellBlocks_281 h l1 W
  refine j_runA hx 1 (tb := [(265, .aload_n 0)]) (jtb_ok (by decide +kernel)) (pc' := 266) (lv' := [(0, vR t), (1, vI l1), (2, vI l2), (3, vI l3)]) (st' := [vR t]) rfl ?_
  refine j_gd (fun h78 => ?_)
  refine j_getR hx flX1_71 kl215 h78 (by decide) (by decide +kernel) ?_
  refine j_runA hx 2 (tb := [(269, .iload_n 1), (270, .aload_n 0)]) (jtb_ok (by decide +kernel)) (pc' := 271) (lv' := [(0, vR t), (1, vI l1), (2, vI l2), (3, vI l3)]) (st' := [vR t, vI l1, vR (jR W 215 t)]) rfl ?_
  refine j_getR hx flX1_39 kl206 h78 (by decide) (by decide +kernel) ?_
  refine j_runA hx 2 (tb := [(274, .aload_n 0), (275, .iload_n 2)]) (jtb_ok (by decide +kernel)) (pc' := 276) (lv' := [(0, vR t), (1, vI l1), (2, vI l2), (3, vI l3)]) (st' := [vI l2, vR t, vR (jR W 206 t), vI l1, vR (jR W 215 t)]) rfl ?_
  refine j_OI (j_callV (av := [vI l2]) (st := [vR (jR W 206 t), vI l1, vR (jR W 215 t)]) hx hr (Or.inl q1104) q1105 q1106 rfl md_fpg_goal np_fpg_goal (cpg_goal t l2 W) (by decide) (Nat.le_of_ble_eq_true rfl) h78 (by decide) (by decide +kernel)) (fun q79 _ => ?_)
  refine j_gd (fun h80 => ?_)
  refine j_iald hx (f := 206) (o := t) kd206 rfl (by decide +kernel) h80 ?_
  refine j_gd (fun h81 => ?_)
  refine j_iast hx (f := 215) (o := t) kd215 rfl (by decide +kernel) h81 ?_
  refine j_ltw rfl (fun W82 hc83 => ?_)
  have h84 : jC W82 t = 2 := (congrFun hc83 _).trans h78
  refine j_lv (lv' := [(0, vR t), (1, vI l1)]) ⟨rfl, rfl, trivial⟩ ?_
  exact wpg_tellBlocks_281 h l1 W82
theorem wpg_tellBlocks_221 {x : jCx} {en : (fpg_tellBlocks_S ⊕ (jW)) → Option (Outcome × jW)} {t : Nat} (h : hpg_tellBlocks x en t) (l1 : Int32) (l2 : Int32) (l3 : Int32) (s0 : Int32) (s1 : Int32) (s2 : Nat) (W : jW) : jJ x 5 221 [(0, vR t), (1, vI l1), (2, vI l2), (3, vI l3)] [vI s0, vI s1, vR s2] W (fpg_tellBlocks_221 t l1 l2 l3 s0 s1 s2 W) en := by
  have h0 := h
  obtain ⟨hx, hm, hr, he, k18, k77, k117, k289, k337⟩ := h0
  unfold fpg_tellBlocks_221
  refine j_gd (fun h62 => ?_)
  refine j_gd (fun h63 => ?_)
  refine j_iast hx (f := 214) (o := t) kd214 h62 (by decide +kernel) h63 ?_
  refine j_ltw rfl (fun W64 hc65 => ?_)
  refine j_runA hx 1 (tb := [(222, .aload_n 0)]) (jtb_ok (by decide +kernel)) (pc' := 223) (lv' := [(0, vR t), (1, vI l1), (2, vI l2), (3, vI l3)]) (st' := [vR t]) rfl ?_
  refine j_gd (fun h67 => ?_)
  refine j_getR hx flX1_68 kl214 h67 (by decide) (by decide +kernel) ?_
  refine j_runA hx 1 (tb := [(226, .iload_n 1)]) (jtb_ok (by decide +kernel)) (pc' := 227) (lv' := [(0, vR t), (1, vI l1), (2, vI l2), (3, vI l3)]) (st' := [vI l1, vR (jR W64 214 t)]) rfl ?_
  refine j_gd (fun h68 => ?_)
  refine j_iald hx (f := 214) (o := t) kd214 rfl (by decide +kernel) h68 ?_
  refine j_runA hx 1 (tb := [(228, .iconst 1)]) (jtb_ok (by decide +kernel)) (pc' := 229) (lv' := [(0, vR t), (1, vI l1), (2, vI l2), (3, vI l3)]) (st' := [vI (kI 1), vI (jA W64 214 t (ix l1))]) rfl ?_
  refine j_icmp_ne hx (off := 29) (tgt := 258) (by decide +kernel) (by decide) (fun _ => ?_) (fun _ => ?_)
  · exact wpg_tellBlocks_258 h l1 l2 l3 W64
  refine j_runA hx 1 (tb := [(232, .aload_n 0)]) (jtb_ok (by decide +kernel)) (pc' := 233) (lv' := [(0, vR t), (1, vI l1), (2, vI l2), (3, vI l3)]) (st' := [vR t]) rfl ?_
  refine j_getR hx flX1_62 kl212 h67 (by decide) (by decide +kernel) ?_
  refine j_runA hx 2 (tb := [(236, .aload_n 0), (237, .iload_n 2)]) (jtb_ok (by decide +kernel)) (pc' := 238) (lv' := [(0, vR t), (1, vI l1), (2, vI l2), (3, vI l3)]) (st' := [vI l2, vR t, vR (jR W64 212 t)]) rfl ?_
  refine j_OI (j_callV (av := [vI l2]) (st := [vR (jR W64 212 t)]) hx hr (Or.inl q1104) q1105 q1106 rfl md_fpg_goal np_fpg_goal (cpg_goal t l2 W64) (by decide) (Nat.le_of_ble_eq_true rfl) h67 (by decide) (by decide +kernel)) (fun q69 _ => ?_)
  refine j_gd (fun h70 => ?_)
  refine j_iald hx (f := 212) (o := t) kd212 rfl (by decide +kernel) h70 ?_
  refine j_runA hx 1 (tb := [(242, .aload_n 0)]) (jtb_ok (by decide +kernel)) (pc' := 243) (lv' := [(0, vR t), (1, vI l1), (2, vI l2), (3, vI l3)]) (st' := [vR t, vI (jA W64 212 t (ix q69))]) rfl ?_
  refine j_getR hx flX1_62 kl212 h67 (by decide) (by decide +kernel) ?_
  refine j_runA hx 1 (tb := [(246, .iload_n 2)]) (jtb_ok (by decide +kernel)) (pc' := 247) (lv' := [(0, vR t), (1, vI l1), (2, vI l2), (3, vI l3)]) (st' := [vI l2, vR (jR W64 212 t), vI (jA W64 212 t (ix q69))]) rfl ?_
  refine j_gd (fun h71 => ?_)
  refine j_iald hx (f := 212) (o := t) kd212 rfl (by decide +kernel) h71 ?_
  refine j_icmp_eq hx (off := 10) (tgt := 258) (by decide +kernel) (by decide) (fun _ => ?_) (fun _ => ?_)
  · exact wpg_tellBlocks_258 h l1 l2 l3 W64
  refine j_runA hx 1 (tb := [(251, .aload_n 0)]) (jtb_ok (by decide +kernel)) (pc' := 252) (lv' := [(0, vR t), (1, vI l1), (2, vI l2), (3, vI l3)]) (st' := [vR t]) rfl ?_
  refine j_getR hx flX1_68 kl214 h67 (by decide) (by decide +kernel) ?_
  refine j_runA hx 2 (tb := [(255, .iload_n 1), (256, .iconst 2)]) (jtb_ok (by decide +kernel)) (pc' := 257) (lv' := [(0, vR t), (1, vI l1), (2, vI l2), (3, vI l3)]) (st' := [vI (kI 2), vI l1, vR (jR W64 214 t)]) rfl ?_
  refine j_gd (fun h72 => ?_)
  refine j_iast hx (f := 214) (o := t) kd214 rfl (by decide +kernel) h72 ?_
  refine j_ltw rfl (fun W73 hc74 => ?_)
  have h75 : jC W73 t = 2 := (congrFun hc74 _).trans h67
  exact wpg_tellBlocks_258 h l1 l2 l3 W73
theorem wpg_tellBlocks_405 {x : jCx} {en : (fpg_tellBlocks_S ⊕ (jW)) → Option (Outcome × jW)} {t : Nat} (h : hpg_tellBlocks x en t) (l1 : Int32) (W : jW) : jJ x 5 405 [(0, vR t), (1, vI l1)] [] W (fpg_tellBlocks_405 t l1 W) en := by
  have h0 := h
  obtain ⟨hx, hm, hr, he, k18, k77, k117, k289, k337⟩ := h0
  unfold fpg_tellBlocks_405
  refine j_runA hx 1 (tb := [(405, .iinc 1 1)]) (jtb_ok (by decide +kernel)) (pc' := 408) (lv' := [(1, vI (l1 + (kI 1))), (0, vR t)]) (st' := []) rfl ?_
  refine j_let (v := (l1 + (kI 1))) (lv := fun v112 => [(1, vI v112), (0, vR t)]) (st := fun _ => []) (fun v112 => ?_)
  refine j_goto hx (off := -119) (by decide +kernel) (tgt := 289) (by decide) ?_
  refine j_lv (lv' := [(0, vR t), (1, vI v112)]) ⟨rfl, rfl, trivial⟩ ?_
  exact k289 v112 W
theorem wpg_tellBlocks_399 {x : jCx} {en : (fpg_tellBlocks_S ⊕ (jW)) → Option (Outcome × jW)} {t : Nat} (h : hpg_tellBlocks x en t) (l1 : Int32) (l2 : Int32) (W : jW) : jJ x 5 399 [(0, vR t), (1, vI l1), (2, vI l2)] [] W (fpg_tellBlocks_399 t l1 l2 W) en := by
  have h0 := h
  obtain ⟨hx, hm, hr, he, k18, k77, k117, k289, k337⟩ := h0
  unfold fpg_tellBlocks_399
  refine j_runA hx 1 (tb := [(399, .iinc 2 1)]) (jtb_ok (by decide +kernel)) (pc' := 402) (lv' := [(2, vI (l2 + (kI 1))), (0, vR t), (1, vI l1)]) (st' := []) rfl ?_
  refine j_let (v := (l2 + (kI 1))) (lv := fun v110 => [(2, vI v110), (0, vR t), (1, vI l1)]) (st := fun _ => []) (fun v110 => ?_)
  refine j_goto hx (off := -65) (by decide +kernel) (tgt := 337) (by decide) ?_
  refine j_lv (lv' := [(0, vR t), (1, vI l1), (2, vI v110)]) ⟨rfl, rfl, rfl, trivial⟩ ?_
  exact k337 l1 v110 W
theorem wpg_tellBlocks_379 {x : jCx} {en : (fpg_tellBlocks_S ⊕ (jW)) → Option (Outcome × jW)} {t : Nat} (h : hpg_tellBlocks x en t) (l1 : Int32) (l2 : Int32) (s0 : Int32) (W : jW) : jJ x 5 379 [(0, vR t), (1, vI l1), (2, vI l2)] [vI s0] W (fpg_tellBlocks_379 t l1 l2 s0 W) en := by
  have h0 := h
  obtain ⟨hx, hm, hr, he, k18, k77, k117, k289, k337⟩ := h0
  unfold fpg_tellBlocks_379
  refine j_runA hx 2 (tb := [(379, .istore 4), (381, .iload 4)]) (jtb_ok (by decide +kernel)) (pc' := 383) (lv' := [(4, vI s0), (0, vR t), (1, vI l1), (2, vI l2)]) (st' := [vI s0]) rfl ?_
  refine j_if_lt hx (off := 16) (tgt := 399) (by decide +kernel) (by decide) (fun _ => ?_) (fun _ => ?_)
  · refine j_lv (lv' := [(0, vR t), (1, vI l1), (2, vI l2)]) ⟨rfl, rfl, rfl, trivial⟩ ?_
    exact wpg_tellBlocks_399 h l1 l2 W
  refine j_runA hx 1 (tb := [(386, .aload_n 0)]) (jtb_ok (by decide +kernel)) (pc' := 387) (lv' := [(4, vI s0), (0, vR t), (1, vI l1), (2, vI l2)]) (st' := [vR t]) rfl ?_
  refine j_gd (fun h102 => ?_)
  refine j_getR hx flX1_74 kl216 h102 (by decide) (by decide +kernel) ?_
  refine j_runA hx 1 (tb := [(390, .aload_n 0)]) (jtb_ok (by decide +kernel)) (pc' := 391) (lv' := [(4, vI s0), (0, vR t), (1, vI l1), (2, vI l2)]) (st' := [vR t, vR (jR W 216 t)]) rfl ?_
  refine j_getR hx flX1_39 kl206 h102 (by decide) (by decide +kernel) ?_
  refine j_runA hx 1 (tb := [(394, .iload 4)]) (jtb_ok (by decide +kernel)) (pc' := 396) (lv' := [(4, vI s0), (0, vR t), (1, vI l1), (2, vI l2)]) (st' := [vI s0, vR (jR W 206 t), vR (jR W 216 t)]) rfl ?_
  refine j_gd (fun h103 => ?_)
  refine j_iald hx (f := 206) (o := t) kd206 rfl (by decide +kernel) h103 ?_
  refine j_runA hx 1 (tb := [(397, .iconst 1)]) (jtb_ok (by decide +kernel)) (pc' := 398) (lv' := [(4, vI s0), (0, vR t), (1, vI l1), (2, vI l2)]) (st' := [vI (kI 1), vI (jA W 206 t (ix s0)), vR (jR W 216 t)]) rfl ?_
  refine j_gd (fun h104 => ?_)
  refine j_zast hx (f := 216) (o := t) kd216 rfl (by decide +kernel) h104 ?_
  refine j_ltw rfl (fun W105 hc106 => ?_)
  have h107 : jC W105 t = 2 := (congrFun hc106 _).trans h102
  refine j_lv (lv' := [(0, vR t), (1, vI l1), (2, vI l2)]) ⟨rfl, rfl, rfl, trivial⟩ ?_
  exact wpg_tellBlocks_399 h l1 l2 W105
theorem wpg_tellBlocks_337 {x : jCx} {en : (fpg_tellBlocks_S ⊕ (jW)) → Option (Outcome × jW)} {t : Nat} (h : hpg_tellBlocks x en t) (l1 : Int32) (l2 : Int32) (W : jW) : jJ x 5 337 [(0, vR t), (1, vI l1), (2, vI l2)] [] W (fpg_tellBlocks_337 t l1 l2 W) en := by
  have h0 := h
  obtain ⟨hx, hm, hr, he, k18, k77, k117, k289, k337⟩ := h0
  unfold fpg_tellBlocks_337
  refine j_runA hx 2 (tb := [(337, .iload_n 2), (338, .aload_n 0)]) (jtb_ok (by decide +kernel)) (pc' := 339) (lv' := [(0, vR t), (1, vI l1), (2, vI l2)]) (st' := [vR t, vI l2]) rfl ?_
  refine j_gd (fun h95 => ?_)
  refine j_getR hx flX1_21 kl201 h95 (by decide) (by decide +kernel) ?_
  refine j_runA hx 1 (tb := [(342, .iload_n 1)]) (jtb_ok (by decide +kernel)) (pc' := 343) (lv' := [(0, vR t), (1, vI l1), (2, vI l2)]) (st' := [vI l1, vR (jR W 201 t), vI l2]) rfl ?_
  refine j_gd (fun h96 => ?_)
  refine j_OI (j_callV (av := [vI l1]) (st := [vI l2]) hx hr (Or.inl q1053) q905 q906 rfl md_fsh_fixCount np_fsh_fixCount (csh_fixCount (jR W 201 t) l1 W) (by decide) (Nat.le_of_ble_eq_true rfl) h96 (by decide) (by decide +kernel)) (fun q97 _ => ?_)
  refine j_icmp_ge hx (off := 59) (tgt := 405) (by decide +kernel) (by decide) (fun _ => ?_) (fun _ => ?_)
  · refine j_lv (lv' := [(0, vR t), (1, vI l1)]) ⟨rfl, rfl, trivial⟩ ?_
    exact wpg_tellBlocks_405 h l1 W
  refine j_runA hx 1 (tb := [(349, .aload_n 0)]) (jtb_ok (by decide +kernel)) (pc' := 350) (lv' := [(0, vR t), (1, vI l1), (2, vI l2)]) (st' := [vR t]) rfl ?_
  refine j_getR hx flX1_21 kl201 h95 (by decide) (by decide +kernel) ?_
  refine j_runA hx 2 (tb := [(353, .iload_n 1), (354, .iload_n 2)]) (jtb_ok (by decide +kernel)) (pc' := 355) (lv' := [(0, vR t), (1, vI l1), (2, vI l2)]) (st' := [vI l2, vI l1, vR (jR W 201 t)]) rfl ?_
  refine j_OI (j_callV (av := [vI l1, vI l2]) (st := []) hx hr (Or.inl q1054) q909 q910 rfl md_fsh_fixAt np_fsh_fixAt (csh_fixAt (jR W 201 t) l1 l2 W) (by decide) (Nat.le_of_ble_eq_true rfl) h96 (by decide) (by decide +kernel)) (fun q98 _ => ?_)
  refine j_runA hx 2 (tb := [(358, .istore_n 3), (359, .aload_n 0)]) (jtb_ok (by decide +kernel)) (pc' := 360) (lv' := [(3, vI q98), (0, vR t), (1, vI l1), (2, vI l2)]) (st' := [vR t]) rfl ?_
  refine j_getR hx flX1_21 kl201 h95 (by decide) (by decide +kernel) ?_
  refine j_runA hx 1 (tb := [(363, .iload_n 3)]) (jtb_ok (by decide +kernel)) (pc' := 364) (lv' := [(3, vI q98), (0, vR t), (1, vI l1), (2, vI l2)]) (st' := [vI q98, vR (jR W 201 t)]) rfl ?_
  refine j_OI (j_callV (av := [vI q98]) (st := []) hx hr (Or.inl q1055) q913 q914 rfl md_fsh_fixType np_fsh_fixType (csh_fixType (jR W 201 t) q98 W) (by decide) (Nat.le_of_ble_eq_true rfl) h96 (by decide) (by decide +kernel)) (fun q99 _ => ?_)
  refine j_if_ne hx (off := 7) (tgt := 374) (by decide +kernel) (by decide) (fun _ => ?_) (fun _ => ?_)
  · refine j_runA hx 2 (tb := [(374, .aload_n 0), (375, .iload_n 3)]) (jtb_ok (by decide +kernel)) (pc' := 376) (lv' := [(3, vI q98), (0, vR t), (1, vI l1), (2, vI l2)]) (st' := [vI q98, vR t]) rfl ?_
    refine j_OI (j_callV (av := [vI q98]) (st := []) hx hr (Or.inl q1120) q1121 q1122 rfl md_fpg_targetWord np_fpg_targetWord (cpg_targetWord t q98 W) (by decide) (Nat.le_of_ble_eq_true rfl) h95 (by decide) (by decide +kernel)) (fun q100 _ => ?_)
    refine j_lv (lv' := [(0, vR t), (1, vI l1), (2, vI l2)]) ⟨rfl, rfl, rfl, trivial⟩ ?_
    exact wpg_tellBlocks_379 h l1 l2 q100 W
  refine j_runA hx 1 (tb := [(370, .iconst (-1))]) (jtb_ok (by decide +kernel)) (pc' := 371) (lv' := [(3, vI q98), (0, vR t), (1, vI l1), (2, vI l2)]) (st' := [vI (kI (-1))]) rfl ?_
  refine j_goto hx (off := 8) (by decide +kernel) (tgt := 379) (by decide) ?_
  refine j_lv (lv' := [(0, vR t), (1, vI l1), (2, vI l2)]) ⟨rfl, rfl, rfl, trivial⟩ ?_
  exact wpg_tellBlocks_379 h l1 l2 (kI (-1)) W
theorem wpg_tellBlocks_289 {x : jCx} {en : (fpg_tellBlocks_S ⊕ (jW)) → Option (Outcome × jW)} {t : Nat} (h : hpg_tellBlocks x en t) (l1 : Int32) (W : jW) : jJ x 5 289 [(0, vR t), (1, vI l1)] [] W (fpg_tellBlocks_289 t l1 W) en := by
  have h0 := h
  obtain ⟨hx, hm, hr, he, k18, k77, k117, k289, k337⟩ := h0
  unfold fpg_tellBlocks_289
  refine j_runA hx 2 (tb := [(289, .iload_n 1), (290, .aload_n 0)]) (jtb_ok (by decide +kernel)) (pc' := 291) (lv' := [(0, vR t), (1, vI l1)]) (st' := [vR t, vI l1]) rfl ?_
  refine j_gd (fun h89 => ?_)
  refine j_getR hx flX1_21 kl201 h89 (by decide) (by decide +kernel) ?_
  refine j_gd (fun h90 => ?_)
  refine j_getI hx flX1_100 kd403 h90 (by decide) (by decide +kernel) ?_
  refine j_icmp_ge hx (off := 114) (tgt := 411) (by decide +kernel) (by decide) (fun _ => ?_) (fun _ => ?_)
  · exact j_vret hx hm (by decide +kernel) (he _)
  refine j_runA hx 1 (tb := [(300, .aload_n 0)]) (jtb_ok (by decide +kernel)) (pc' := 301) (lv' := [(0, vR t), (1, vI l1)]) (st' := [vR t]) rfl ?_
  refine j_getR hx flX1_21 kl201 h89 (by decide) (by decide +kernel) ?_
  refine j_getR hx flX1_103 kl411 h90 (by decide) (by decide +kernel) ?_
  refine j_runA hx 1 (tb := [(307, .iload_n 1)]) (jtb_ok (by decide +kernel)) (pc' := 308) (lv' := [(0, vR t), (1, vI l1)]) (st' := [vI l1, vR (jR W 411 (jR W 201 t))]) rfl ?_
  refine j_gd (fun h91 => ?_)
  refine j_iald hx (f := 411) (o := (jR W 201 t)) kd411 rfl (by decide +kernel) h91 ?_
  refine j_runA hx 1 (tb := [(309, .iconst 4)]) (jtb_ok (by decide +kernel)) (pc' := 310) (lv' := [(0, vR t), (1, vI l1)]) (st' := [vI (kI 4), vI (jA W 411 (jR W 201 t) (ix l1))]) rfl ?_
  refine j_icmp_ne hx (off := 95) (tgt := 405) (by decide +kernel) (by decide) (fun _ => ?_) (fun _ => ?_)
  · exact wpg_tellBlocks_405 h l1 W
  refine j_runA hx 1 (tb := [(313, .aload_n 0)]) (jtb_ok (by decide +kernel)) (pc' := 314) (lv' := [(0, vR t), (1, vI l1)]) (st' := [vR t]) rfl ?_
  refine j_getR hx flX1_21 kl201 h89 (by decide) (by decide +kernel) ?_
  refine j_runA hx 1 (tb := [(317, .aload_n 0)]) (jtb_ok (by decide +kernel)) (pc' := 318) (lv' := [(0, vR t), (1, vI l1)]) (st' := [vR t, vR (jR W 201 t)]) rfl ?_
  refine j_getR hx flX1_21 kl201 h89 (by decide) (by decide +kernel) ?_
  refine j_getR hx flX1_203 kl417 h90 (by decide) (by decide +kernel) ?_
  refine j_runA hx 1 (tb := [(324, .iload_n 1)]) (jtb_ok (by decide +kernel)) (pc' := 325) (lv' := [(0, vR t), (1, vI l1)]) (st' := [vI l1, vR (jR W 417 (jR W 201 t)), vR (jR W 201 t)]) rfl ?_
  refine j_gd (fun h92 => ?_)
  refine j_iald hx (f := 417) (o := (jR W 201 t)) kd417 rfl (by decide +kernel) h92 ?_
  refine j_OI (j_callV (av := [vI (jA W 417 (jR W 201 t) (ix l1))]) (st := []) hx hr (Or.inl q1136) q852 q853 rfl md_fsh_isData np_fsh_isData (csh_isData (jR W 201 t) (jA W 417 (jR W 201 t) (ix l1)) W) (by decide) (Nat.le_of_ble_eq_true rfl) h90 (by decide) (by decide +kernel)) (fun q93 _ => ?_)
  refine j_if_ne hx (off := 6) (tgt := 335) (by decide +kernel) (by decide) (fun _ => ?_) (fun _ => ?_)
  · refine j_runA hx 2 (tb := [(335, .iconst 0), (336, .istore_n 2)]) (jtb_ok (by decide +kernel)) (pc' := 337) (lv' := [(2, vI (kI 0)), (0, vR t), (1, vI l1)]) (st' := []) rfl ?_
    refine j_lv (lv' := [(0, vR t), (1, vI l1), (2, vI (kI 0))]) ⟨rfl, rfl, rfl, trivial⟩ ?_
    exact k337 l1 (kI 0) W
  refine j_goto hx (off := 73) (by decide +kernel) (tgt := 405) (by decide) ?_
  exact wpg_tellBlocks_405 h l1 W
theorem wpg_tellBlocks_117 {x : jCx} {en : (fpg_tellBlocks_S ⊕ (jW)) → Option (Outcome × jW)} {t : Nat} (h : hpg_tellBlocks x en t) (l1 : Int32) (W : jW) : jJ x 5 117 [(0, vR t), (1, vI l1)] [] W (fpg_tellBlocks_117 t l1 W) en := by
  have h0 := h
  obtain ⟨hx, hm, hr, he, k18, k77, k117, k289, k337⟩ := h0
  unfold fpg_tellBlocks_117
  refine j_runA hx 2 (tb := [(117, .iload_n 1), (118, .aload_n 0)]) (jtb_ok (by decide +kernel)) (pc' := 119) (lv' := [(0, vR t), (1, vI l1)]) (st' := [vR t, vI l1]) rfl ?_
  refine j_gd (fun h47 => ?_)
  refine j_getI hx flX1_261 kd217 h47 (by decide) (by decide +kernel) ?_
  refine j_icmp_ge hx (off := 165) (tgt := 287) (by decide +kernel) (by decide) (fun _ => ?_) (fun _ => ?_)
  · refine j_runA hx 2 (tb := [(287, .iconst 1), (288, .istore_n 1)]) (jtb_ok (by decide +kernel)) (pc' := 289) (lv' := [(1, vI (kI 1)), (0, vR t)]) (st' := []) rfl ?_
    refine j_lv (lv' := [(0, vR t), (1, vI (kI 1))]) ⟨rfl, rfl, trivial⟩ ?_
    exact k289 (kI 1) W
  refine j_runA hx 1 (tb := [(125, .aload_n 0)]) (jtb_ok (by decide +kernel)) (pc' := 126) (lv' := [(0, vR t), (1, vI l1)]) (st' := [vR t]) rfl ?_
  refine j_getR hx flX1_74 kl216 h47 (by decide) (by decide +kernel) ?_
  refine j_runA hx 2 (tb := [(129, .iload_n 1), (130, .iconst 0)]) (jtb_ok (by decide +kernel)) (pc' := 131) (lv' := [(0, vR t), (1, vI l1)]) (st' := [vI (kI 0), vI l1, vR (jR W 216 t)]) rfl ?_
  refine j_gd (fun h48 => ?_)
  refine j_zast hx (f := 216) (o := t) kd216 rfl (by decide +kernel) h48 ?_
  refine j_ltw rfl (fun W49 hc50 => ?_)
  have h51 : jC W49 t = 2 := (congrFun hc50 _).trans h47
  refine j_runA hx 1 (tb := [(132, .aload_n 0)]) (jtb_ok (by decide +kernel)) (pc' := 133) (lv' := [(0, vR t), (1, vI l1)]) (st' := [vR t]) rfl ?_
  refine j_getR hx flX1_71 kl215 h51 (by decide) (by decide +kernel) ?_
  refine j_runA hx 2 (tb := [(136, .iload_n 1), (137, .iconst (-1))]) (jtb_ok (by decide +kernel)) (pc' := 138) (lv' := [(0, vR t), (1, vI l1)]) (st' := [vI (kI (-1)), vI l1, vR (jR W49 215 t)]) rfl ?_
  refine j_gd (fun h53 => ?_)
  refine j_iast hx (f := 215) (o := t) kd215 rfl (by decide +kernel) h53 ?_
  refine j_ltw rfl (fun W54 hc55 => ?_)
  have h56 : jC W54 t = 2 := (congrFun hc55 _).trans h51
  refine j_runA hx 2 (tb := [(139, .aload_n 0), (140, .iload_n 1)]) (jtb_ok (by decide +kernel)) (pc' := 141) (lv' := [(0, vR t), (1, vI l1)]) (st' := [vI l1, vR t]) rfl ?_
  refine j_OI (j_callV (av := [vI l1]) (st := []) hx hr (Or.inl q1128) q1129 q1130 rfl md_fpg_lastWord np_fpg_lastWord (cpg_lastWord t l1 W54) (by decide) (Nat.le_of_ble_eq_true rfl) h56 (by decide) (by decide +kernel)) (fun q58 _ => ?_)
  refine j_runA hx 2 (tb := [(144, .istore_n 2), (145, .aload_n 0)]) (jtb_ok (by decide +kernel)) (pc' := 146) (lv' := [(2, vI q58), (0, vR t), (1, vI l1)]) (st' := [vR t]) rfl ?_
  refine j_getR hx flX1_36 kl205 h56 (by decide) (by decide +kernel) ?_
  refine j_runA hx 1 (tb := [(149, .iload_n 2)]) (jtb_ok (by decide +kernel)) (pc' := 150) (lv' := [(2, vI q58), (0, vR t), (1, vI l1)]) (st' := [vI q58, vR (jR W54 205 t)]) rfl ?_
  refine j_gd (fun h59 => ?_)
  refine j_iald hx (f := 205) (o := t) kd205 rfl (by decide +kernel) h59 ?_
  refine j_runA hx 1 (tb := [(151, .istore_n 3)]) (jtb_ok (by decide +kernel)) (pc' := 152) (lv' := [(3, vI (jA W54 205 t (ix q58))), (2, vI q58), (0, vR t), (1, vI l1)]) (st' := []) rfl ?_
  refine j_let (v := (jA W54 205 t (ix q58))) (lv := fun v60 => [(3, vI v60), (2, vI q58), (0, vR t), (1, vI l1)]) (st := fun _ => []) (fun v60 => ?_)
  refine j_runA hx 1 (tb := [(152, .aload_n 0)]) (jtb_ok (by decide +kernel)) (pc' := 153) (lv' := [(3, vI v60), (2, vI q58), (0, vR t), (1, vI l1)]) (st' := [vR t]) rfl ?_
  refine j_getR hx flX1_68 kl214 h56 (by decide) (by decide +kernel) ?_
  refine j_runA hx 3 (tb := [(156, .iload_n 1), (157, .iload_n 3), (158, .bipush 12)]) (jtb_ok (by decide +kernel)) (pc' := 160) (lv' := [(3, vI v60), (2, vI q58), (0, vR t), (1, vI l1)]) (st' := [vI (kI 12), vI v60, vI l1, vR (jR W54 214 t)]) rfl ?_
  refine j_icmp_ne hx (off := 7) (tgt := 167) (by decide +kernel) (by decide) (fun _ => ?_) (fun _ => ?_)
  · refine j_runA hx 1 (tb := [(167, .iload_n 3)]) (jtb_ok (by decide +kernel)) (pc' := 168) (lv' := [(3, vI v60), (2, vI q58), (0, vR t), (1, vI l1)]) (st' := [vI v60, vI l1, vR (jR W54 214 t)]) rfl ?_
    refine j_TI (j_callS (av := [vI v60]) (st := [vI l1, vR (jR W54 214 t)]) hx hr (Or.inl q1116) q1098 q247 md_fwo_isBranch np_fwo_isBranch (cwo_isBranch v60 W54) (by decide) (Nat.le_of_ble_eq_true rfl) (by decide +kernel)) ?_
    refine j_if_eq hx (off := 7) (tgt := 178) (by decide +kernel) (by decide) (fun _ => ?_) (fun _ => ?_)
    · refine j_runA hx 2 (tb := [(178, .iload_n 3), (179, .bipush 13)]) (jtb_ok (by decide +kernel)) (pc' := 181) (lv' := [(3, vI v60), (2, vI q58), (0, vR t), (1, vI l1)]) (st' := [vI (kI 13), vI v60, vI l1, vR (jR W54 214 t)]) rfl ?_
      refine j_icmp_ne hx (off := 7) (tgt := 188) (by decide +kernel) (by decide) (fun _ => ?_) (fun _ => ?_)
      · refine j_runA hx 2 (tb := [(188, .iload_n 3), (189, .bipush 18)]) (jtb_ok (by decide +kernel)) (pc' := 191) (lv' := [(3, vI v60), (2, vI q58), (0, vR t), (1, vI l1)]) (st' := [vI (kI 18), vI v60, vI l1, vR (jR W54 214 t)]) rfl ?_
        refine j_icmp_ne hx (off := 7) (tgt := 198) (by decide +kernel) (by decide) (fun _ => ?_) (fun _ => ?_)
        · refine j_runA hx 2 (tb := [(198, .iload_n 3), (199, .bipush 17)]) (jtb_ok (by decide +kernel)) (pc' := 201) (lv' := [(3, vI v60), (2, vI q58), (0, vR t), (1, vI l1)]) (st' := [vI (kI 17), vI v60, vI l1, vR (jR W54 214 t)]) rfl ?_
          refine j_icmp_ne hx (off := 8) (tgt := 209) (by decide +kernel) (by decide) (fun _ => ?_) (fun _ => ?_)
          · refine j_runA hx 2 (tb := [(209, .iload_n 3), (210, .bipush 19)]) (jtb_ok (by decide +kernel)) (pc' := 212) (lv' := [(3, vI v60), (2, vI q58), (0, vR t), (1, vI l1)]) (st' := [vI (kI 19), vI v60, vI l1, vR (jR W54 214 t)]) rfl ?_
            refine j_icmp_ne hx (off := 8) (tgt := 220) (by decide +kernel) (by decide) (fun _ => ?_) (fun _ => ?_)
            · refine j_runA hx 1 (tb := [(220, .iconst 0)]) (jtb_ok (by decide +kernel)) (pc' := 221) (lv' := [(3, vI v60), (2, vI q58), (0, vR t), (1, vI l1)]) (st' := [vI (kI 0), vI l1, vR (jR W54 214 t)]) rfl ?_
              refine j_lv (lv' := [(0, vR t), (1, vI l1), (2, vI q58), (3, vI v60)]) ⟨rfl, rfl, rfl, rfl, trivial⟩ ?_
              exact wpg_tellBlocks_221 h l1 q58 v60 (kI 0) l1 (jR W54 214 t) W54
            refine j_runA hx 1 (tb := [(215, .bipush 7)]) (jtb_ok (by decide +kernel)) (pc' := 217) (lv' := [(3, vI v60), (2, vI q58), (0, vR t), (1, vI l1)]) (st' := [vI (kI 7), vI l1, vR (jR W54 214 t)]) rfl ?_
            refine j_goto hx (off := 4) (by decide +kernel) (tgt := 221) (by decide) ?_
            refine j_lv (lv' := [(0, vR t), (1, vI l1), (2, vI q58), (3, vI v60)]) ⟨rfl, rfl, rfl, rfl, trivial⟩ ?_
            exact wpg_tellBlocks_221 h l1 q58 v60 (kI 7) l1 (jR W54 214 t) W54
          refine j_runA hx 1 (tb := [(204, .bipush 6)]) (jtb_ok (by decide +kernel)) (pc' := 206) (lv' := [(3, vI v60), (2, vI q58), (0, vR t), (1, vI l1)]) (st' := [vI (kI 6), vI l1, vR (jR W54 214 t)]) rfl ?_
          refine j_goto hx (off := 15) (by decide +kernel) (tgt := 221) (by decide) ?_
          refine j_lv (lv' := [(0, vR t), (1, vI l1), (2, vI q58), (3, vI v60)]) ⟨rfl, rfl, rfl, rfl, trivial⟩ ?_
          exact wpg_tellBlocks_221 h l1 q58 v60 (kI 6) l1 (jR W54 214 t) W54
        refine j_runA hx 1 (tb := [(194, .iconst 5)]) (jtb_ok (by decide +kernel)) (pc' := 195) (lv' := [(3, vI v60), (2, vI q58), (0, vR t), (1, vI l1)]) (st' := [vI (kI 5), vI l1, vR (jR W54 214 t)]) rfl ?_
        refine j_goto hx (off := 26) (by decide +kernel) (tgt := 221) (by decide) ?_
        refine j_lv (lv' := [(0, vR t), (1, vI l1), (2, vI q58), (3, vI v60)]) ⟨rfl, rfl, rfl, rfl, trivial⟩ ?_
        exact wpg_tellBlocks_221 h l1 q58 v60 (kI 5) l1 (jR W54 214 t) W54
      refine j_runA hx 1 (tb := [(184, .iconst 4)]) (jtb_ok (by decide +kernel)) (pc' := 185) (lv' := [(3, vI v60), (2, vI q58), (0, vR t), (1, vI l1)]) (st' := [vI (kI 4), vI l1, vR (jR W54 214 t)]) rfl ?_
      refine j_goto hx (off := 36) (by decide +kernel) (tgt := 221) (by decide) ?_
      refine j_lv (lv' := [(0, vR t), (1, vI l1), (2, vI q58), (3, vI v60)]) ⟨rfl, rfl, rfl, rfl, trivial⟩ ?_
      exact wpg_tellBlocks_221 h l1 q58 v60 (kI 4) l1 (jR W54 214 t) W54
    refine j_runA hx 1 (tb := [(174, .iconst 3)]) (jtb_ok (by decide +kernel)) (pc' := 175) (lv' := [(3, vI v60), (2, vI q58), (0, vR t), (1, vI l1)]) (st' := [vI (kI 3), vI l1, vR (jR W54 214 t)]) rfl ?_
    refine j_goto hx (off := 46) (by decide +kernel) (tgt := 221) (by decide) ?_
    refine j_lv (lv' := [(0, vR t), (1, vI l1), (2, vI q58), (3, vI v60)]) ⟨rfl, rfl, rfl, rfl, trivial⟩ ?_
    exact wpg_tellBlocks_221 h l1 q58 v60 (kI 3) l1 (jR W54 214 t) W54
  refine j_runA hx 1 (tb := [(163, .iconst 1)]) (jtb_ok (by decide +kernel)) (pc' := 164) (lv' := [(3, vI v60), (2, vI q58), (0, vR t), (1, vI l1)]) (st' := [vI (kI 1), vI l1, vR (jR W54 214 t)]) rfl ?_
  refine j_goto hx (off := 57) (by decide +kernel) (tgt := 221) (by decide) ?_
  refine j_lv (lv' := [(0, vR t), (1, vI l1), (2, vI q58), (3, vI v60)]) ⟨rfl, rfl, rfl, rfl, trivial⟩ ?_
  exact wpg_tellBlocks_221 h l1 q58 v60 (kI 1) l1 (jR W54 214 t) W54
theorem wpg_tellBlocks_77 {x : jCx} {en : (fpg_tellBlocks_S ⊕ (jW)) → Option (Outcome × jW)} {t : Nat} (h : hpg_tellBlocks x en t) (l1 : Int32) (W : jW) : jJ x 5 77 [(0, vR t), (1, vI l1)] [] W (fpg_tellBlocks_77 t l1 W) en := by
  have h0 := h
  obtain ⟨hx, hm, hr, he, k18, k77, k117, k289, k337⟩ := h0
  unfold fpg_tellBlocks_77
  refine j_runA hx 2 (tb := [(77, .iload_n 1), (78, .aload_n 0)]) (jtb_ok (by decide +kernel)) (pc' := 79) (lv' := [(0, vR t), (1, vI l1)]) (st' := [vR t, vI l1]) rfl ?_
  refine j_gd (fun h38 => ?_)
  refine j_getR hx flX1_52 kl209 h38 (by decide) (by decide +kernel) ?_
  refine j_gd (fun h39 => ?_)
  refine j_getI hx flX1_90 kd601 h39 (by decide) (by decide +kernel) ?_
  refine j_icmp_ge hx (off := 30) (tgt := 115) (by decide +kernel) (by decide) (fun _ => ?_) (fun _ => ?_)
  · refine j_runA hx 2 (tb := [(115, .iconst 0), (116, .istore_n 1)]) (jtb_ok (by decide +kernel)) (pc' := 117) (lv' := [(1, vI (kI 0)), (0, vR t)]) (st' := []) rfl ?_
    refine j_lv (lv' := [(0, vR t), (1, vI (kI 0))]) ⟨rfl, rfl, trivial⟩ ?_
    exact k117 (kI 0) W
  refine j_runA hx 1 (tb := [(88, .aload_n 0)]) (jtb_ok (by decide +kernel)) (pc' := 89) (lv' := [(0, vR t), (1, vI l1)]) (st' := [vR t]) rfl ?_
  refine j_getR hx flX1_59 kl211 h38 (by decide) (by decide +kernel) ?_
  refine j_runA hx 1 (tb := [(92, .aload_n 0)]) (jtb_ok (by decide +kernel)) (pc' := 93) (lv' := [(0, vR t), (1, vI l1)]) (st' := [vR t, vR (jR W 211 t)]) rfl ?_
  refine j_getR hx flX1_39 kl206 h38 (by decide) (by decide +kernel) ?_
  refine j_runA hx 1 (tb := [(96, .aload_n 0)]) (jtb_ok (by decide +kernel)) (pc' := 97) (lv' := [(0, vR t), (1, vI l1)]) (st' := [vR t, vR (jR W 206 t), vR (jR W 211 t)]) rfl ?_
  refine j_getR hx flX1_52 kl209 h38 (by decide) (by decide +kernel) ?_
  refine j_getR hx flX1_166 kl600 h39 (by decide) (by decide +kernel) ?_
  refine j_runA hx 1 (tb := [(103, .iload_n 1)]) (jtb_ok (by decide +kernel)) (pc' := 104) (lv' := [(0, vR t), (1, vI l1)]) (st' := [vI l1, vR (jR W 600 (jR W 209 t)), vR (jR W 206 t), vR (jR W 211 t)]) rfl ?_
  refine j_gd (fun h40 => ?_)
  refine j_iald hx (f := 600) (o := (jR W 209 t)) kd600 rfl (by decide +kernel) h40 ?_
  refine j_gd (fun h41 => ?_)
  refine j_iald hx (f := 206) (o := t) kd206 rfl (by decide +kernel) h41 ?_
  refine j_gd (fun h42 => ?_)
  refine j_WV (j_callV (av := [vI (jA W 206 t (ix (jA W 600 (jR W 209 t) (ix l1))))]) (st := []) hx hr (Or.inl q1039) q1040 q1041 rfl md_fro_add np_fro_add (cro_add (jR W 211 t) (jA W 206 t (ix (jA W 600 (jR W 209 t) (ix l1)))) W) (by decide) (Nat.le_of_ble_eq_true rfl) h42 (by decide) (by decide +kernel)) (fun q43 _ => ?_)
  refine j_runA hx 1 (tb := [(109, .iinc 1 1)]) (jtb_ok (by decide +kernel)) (pc' := 112) (lv' := [(1, vI (l1 + (kI 1))), (0, vR t)]) (st' := []) rfl ?_
  refine j_let (v := (l1 + (kI 1))) (lv := fun v45 => [(1, vI v45), (0, vR t)]) (st := fun _ => []) (fun v45 => ?_)
  refine j_goto hx (off := -35) (by decide +kernel) (tgt := 77) (by decide) ?_
  refine j_lv (lv' := [(0, vR t), (1, vI v45)]) ⟨rfl, rfl, trivial⟩ ?_
  exact k77 v45 q43
theorem wpg_tellBlocks_18 {x : jCx} {en : (fpg_tellBlocks_S ⊕ (jW)) → Option (Outcome × jW)} {t : Nat} (h : hpg_tellBlocks x en t) (l1 : Int32) (W : jW) : jJ x 5 18 [(0, vR t), (1, vI l1)] [] W (fpg_tellBlocks_18 t l1 W) en := by
  have h0 := h
  obtain ⟨hx, hm, hr, he, k18, k77, k117, k289, k337⟩ := h0
  unfold fpg_tellBlocks_18
  refine j_runA hx 2 (tb := [(18, .iload_n 1), (19, .aload_n 0)]) (jtb_ok (by decide +kernel)) (pc' := 20) (lv' := [(0, vR t), (1, vI l1)]) (st' := [vR t, vI l1]) rfl ?_
  refine j_gd (fun h16 => ?_)
  refine j_getI hx flX1_124 kd203 h16 (by decide) (by decide +kernel) ?_
  refine j_icmp_ge hx (off := 41) (tgt := 64) (by decide +kernel) (by decide) (fun _ => ?_) (fun _ => ?_)
  · refine j_runA hx 2 (tb := [(64, .aload_n 0), (65, .aload_n 0)]) (jtb_ok (by decide +kernel)) (pc' := 66) (lv' := [(0, vR t), (1, vI l1)]) (st' := [vR t, vR t]) rfl ?_
    refine j_getR hx flX1_65 kl213 h16 (by decide) (by decide +kernel) ?_
    refine j_gd (fun h17 => ?_)
    refine j_getI hx flX1_90 kd601 h17 (by decide) (by decide +kernel) ?_
    refine j_putI hx fwX1_261 wf217 kd217 h16 (by decide) (by decide +kernel) (ni217 _) (fi217 _) ?_
    refine j_ltw rfl (fun W18 hc19 => ?_)
    have h20 : jC W18 t = 2 := (congrFun hc19 _).trans h16
    have h21 : jC W18 (jR W 213 t) = 6 := (congrFun hc19 _).trans h17
    refine j_runA hx 2 (tb := [(75, .iconst 0), (76, .istore_n 1)]) (jtb_ok (by decide +kernel)) (pc' := 77) (lv' := [(1, vI (kI 0)), (0, vR t)]) (st' := []) rfl ?_
    refine j_lv (lv' := [(0, vR t), (1, vI (kI 0))]) ⟨rfl, rfl, trivial⟩ ?_
    exact k77 (kI 0) W18
  refine j_runA hx 1 (tb := [(26, .aload_n 0)]) (jtb_ok (by decide +kernel)) (pc' := 27) (lv' := [(0, vR t), (1, vI l1)]) (st' := [vR t]) rfl ?_
  refine j_getR hx flX1_45 kl208 h16 (by decide) (by decide +kernel) ?_
  refine j_runA hx 1 (tb := [(30, .iload_n 1)]) (jtb_ok (by decide +kernel)) (pc' := 31) (lv' := [(0, vR t), (1, vI l1)]) (st' := [vI l1, vR (jR W 208 t)]) rfl ?_
  refine j_gd (fun h23 => ?_)
  refine j_zald hx (f := 208) (o := t) kd208 rfl (by decide +kernel) h23 ?_
  refine j_if_eq hx (off := 11) (tgt := 43) (by decide +kernel) (by decide) (fun _ => ?_) (fun _ => ?_)
  · exact wpg_tellBlocks_43 h l1 W
  refine j_runA hx 1 (tb := [(35, .aload_n 0)]) (jtb_ok (by decide +kernel)) (pc' := 36) (lv' := [(0, vR t), (1, vI l1)]) (st' := [vR t]) rfl ?_
  refine j_getR hx flX1_65 kl213 h16 (by decide) (by decide +kernel) ?_
  refine j_runA hx 1 (tb := [(39, .iload_n 1)]) (jtb_ok (by decide +kernel)) (pc' := 40) (lv' := [(0, vR t), (1, vI l1)]) (st' := [vI l1, vR (jR W 213 t)]) rfl ?_
  refine j_gd (fun h24 => ?_)
  refine j_WV (j_callV (av := [vI l1]) (st := []) hx hr (Or.inl q1039) q1040 q1041 rfl md_fro_add np_fro_add (cro_add (jR W 213 t) l1 W) (by decide) (Nat.le_of_ble_eq_true rfl) h24 (by decide) (by decide +kernel)) (fun q25 _ => ?_)
  exact wpg_tellBlocks_43 h l1 q25
theorem wpg_tellBlocks {x : jCx} {en : (fpg_tellBlocks_S ⊕ (jW)) → Option (Outcome × jW)} {t : Nat} (h : hpg_tellBlocks x en t) (W : jW) : jJ x 5 0 [(0, vR t)] [] W (fpg_tellBlocks_0 t W) en := by
  have h0 := h
  obtain ⟨hx, hm, hr, he, k18, k77, k117, k289, k337⟩ := h0
  unfold fpg_tellBlocks_0
  refine j_runA hx 1 (tb := [(0, .aload_n 0)]) (jtb_ok (by decide +kernel)) (pc' := 1) (lv' := [(0, vR t)]) (st' := [vR t]) rfl ?_
  refine j_gd (fun h1 => ?_)
  refine j_getR hx flX1_65 kl213 h1 (by decide) (by decide +kernel) ?_
  refine j_runA hx 1 (tb := [(4, .iconst 0)]) (jtb_ok (by decide +kernel)) (pc' := 5) (lv' := [(0, vR t)]) (st' := [vI (kI 0), vR (jR W 213 t)]) rfl ?_
  refine j_gd (fun h2 => ?_)
  refine j_putI hx fwX1_90 wf601 kd601 h2 (by decide) (by decide +kernel) (ni601 _) (fi601 _) ?_
  refine j_ltw rfl (fun W3 hc4 => ?_)
  have h5 : jC W3 t = 2 := (congrFun hc4 _).trans h1
  have h6 : jC W3 (jR W 213 t) = 6 := (congrFun hc4 _).trans h2
  refine j_runA hx 1 (tb := [(8, .aload_n 0)]) (jtb_ok (by decide +kernel)) (pc' := 9) (lv' := [(0, vR t)]) (st' := [vR t]) rfl ?_
  refine j_getR hx flX1_59 kl211 h5 (by decide) (by decide +kernel) ?_
  refine j_runA hx 1 (tb := [(12, .iconst 0)]) (jtb_ok (by decide +kernel)) (pc' := 13) (lv' := [(0, vR t)]) (st' := [vI (kI 0), vR (jR W3 211 t)]) rfl ?_
  refine j_gd (fun h8 => ?_)
  refine j_putI hx fwX1_90 wf601 kd601 h8 (by decide) (by decide +kernel) (ni601 _) (fi601 _) ?_
  refine j_ltw rfl (fun W9 hc10 => ?_)
  have h11 : jC W9 t = 2 := (congrFun hc10 _).trans h5
  have h12 : jC W9 (jR W 213 t) = 6 := (congrFun hc10 _).trans h6
  have h13 : jC W9 (jR W3 211 t) = 6 := (congrFun hc10 _).trans h8
  refine j_runA hx 2 (tb := [(16, .iconst 0), (17, .istore_n 1)]) (jtb_ok (by decide +kernel)) (pc' := 18) (lv' := [(1, vI (kI 0)), (0, vR t)]) (st' := []) rfl ?_
  refine j_lv (lv' := [(0, vR t), (1, vI (kI 0))]) ⟨rfl, rfl, trivial⟩ ?_
  exact k18 (kI 0) W9
theorem cpg_tellBlocks (t : Nat) (W : jW) : jM yX1_tellBlocks cX1_tellBlocks 5 (Option.none : Option Jvm.ClassFile.FieldType) [] 9 123 [vR t] W ((fpg_tellBlocks t W).bind (fun q => some (.returned none, q))) := by
  refine jM.of (Nat.le_of_ble_eq_true rfl) (fun x hx hm hr => ?_)
  refine j_begin (P := (Sum.elim (fun s => (18, [(0, vR t), (1, vI s.1)], s.2)) (Sum.elim (fun s => (77, [(0, vR t), (1, vI s.1)], s.2)) (Sum.elim (fun s => (117, [(0, vR t), (1, vI s.1)], s.2)) (Sum.elim (fun s => (289, [(0, vR t), (1, vI s.1)], s.2)) (fun s => (337, [(0, vR t), (1, vI s.1), (2, vI s.2.1)], s.2.2))))))) (fun en he hk => ?_)
  have h : hpg_tellBlocks x en t := ⟨hx, hm, hr, fun q => he _, fun l1 W => hk (.inl (l1, W)), fun l1 W => hk (.inr (.inl (l1, W))), fun l1 W => hk (.inr (.inr (.inl (l1, W)))), fun l1 W => hk (.inr (.inr (.inr (.inl (l1, W))))), fun l1 l2 W => hk (.inr (.inr (.inr (.inr (l1, l2, W)))))⟩
  refine ⟨fun s => ?_, wpg_tellBlocks h W⟩
  rcases s with s | s | s | s | s
  · exact wpg_tellBlocks_18 h s.1 s.2
  · exact wpg_tellBlocks_77 h s.1 s.2
  · exact wpg_tellBlocks_117 h s.1 s.2
  · exact wpg_tellBlocks_289 h s.1 s.2
  · exact wpg_tellBlocks_337 h s.1 s.2.1 s.2.2
def hpg_take (x : jCx) (en : (fpg_take_S ⊕ ((Nat × jW) ⊕ jW)) → Option (Outcome × jW)) (t : Nat) : Prop :=
  jOK x RX1 cX1_take 3 ∧
  jMt x "take" (Option.none : Option Jvm.ClassFile.FieldType) [] ∧
  jRm x 10 147 ∧
  (∀ q : jW, en (.inr (.inr q)) = some (.returned none, q)) ∧
  (∀ z : Nat × jW, en (.inr (.inl z)) = some (.threw (z.1 - 1), z.2)) ∧
  (∀ (l1 : Int32) (W : jW), jJ x 3 50 [(0, vR t), (1, vI l1)] [] W (some (.inl (.inl (l1, W)))) en) ∧
  (∀ (l1 : Int32) (W : jW), jJ x 3 117 [(0, vR t), (1, vI l1)] [] W (some (.inl (.inr (.inl (l1, W))))) en) ∧
  (∀ (l1 : Int32) (W : jW), jJ x 3 165 [(0, vR t), (1, vI l1)] [] W (some (.inl (.inr (.inr (.inl (l1, W)))))) en) ∧
  (∀ (l1 : Int32) (W : jW), jJ x 3 219 [(0, vR t), (1, vI l1)] [] W (some (.inl (.inr (.inr (.inr (.inl (l1, W))))))) en) ∧
  (∀ (l1 : Int32) (W : jW), jJ x 3 274 [(0, vR t), (1, vI l1)] [] W (some (.inl (.inr (.inr (.inr (.inr (l1, W))))))) en)
theorem wpg_take_143 {x : jCx} {en : (fpg_take_S ⊕ ((Nat × jW) ⊕ jW)) → Option (Outcome × jW)} {t : Nat} (h : hpg_take x en t) (l1 : Int32) (s0 : Int32) (s1 : Nat) (W : jW) : jJ x 3 143 [(0, vR t), (1, vI l1)] [vI s0, vR s1] W (fpg_take_143 t l1 s0 s1 W) en := by
  have h0 := h
  obtain ⟨hx, hm, hr, he, ht, k50, k117, k165, k219, k274⟩ := h0
  unfold fpg_take_143
  refine j_runA hx 3 (tb := [(143, .bipush 8), (145, .aload_n 0), (146, .iload_n 1)]) (jtb_ok (by decide +kernel)) (pc' := 147) (lv' := [(0, vR t), (1, vI l1)]) (st' := [vI l1, vR t, vI (kI 8), vI s0, vR s1]) rfl ?_
  refine j_gd (fun h57 => ?_)
  refine j_OI (j_callV (av := [vI l1]) (st := [vI (kI 8), vI s0, vR s1]) hx hr (Or.inl q938) q939 q940 rfl md_fpg_placeOf np_fpg_placeOf (cpg_placeOf t l1 W) (by decide) (Nat.le_of_ble_eq_true rfl) h57 (by decide) (by decide +kernel)) (fun q58 _ => ?_)
  refine j_gd (fun h59 => ?_)
  refine j_EV (j_callV (av := [vI s0, vI (kI 8), vI q58]) (st := []) hx hr (Or.inl q1044) q758 q759 rfl md_ftr_must np_ftr_must (ctr_must s1 s0 (kI 8) q58 W) (by decide) (Nat.le_of_ble_eq_true rfl) h59 (by decide) (by decide +kernel)) (fun z _ r h9 => j_upE hm hx (ht z) h9) (fun q60 _ => ?_)
  refine j_runA hx 1 (tb := [(153, .iinc 1 1)]) (jtb_ok (by decide +kernel)) (pc' := 156) (lv' := [(1, vI (l1 + (kI 1))), (0, vR t)]) (st' := []) rfl ?_
  refine j_let (v := (l1 + (kI 1))) (lv := fun v62 => [(1, vI v62), (0, vR t)]) (st := fun _ => []) (fun v62 => ?_)
  refine j_goto hx (off := -39) (by decide +kernel) (tgt := 117) (by decide) ?_
  refine j_lv (lv' := [(0, vR t), (1, vI v62)]) ⟨rfl, rfl, trivial⟩ ?_
  exact k117 v62 q60
theorem wpg_take_201 {x : jCx} {en : (fpg_take_S ⊕ ((Nat × jW) ⊕ jW)) → Option (Outcome × jW)} {t : Nat} (h : hpg_take x en t) (l1 : Int32) (s0 : Int32) (s1 : Nat) (W : jW) : jJ x 3 201 [(0, vR t), (1, vI l1)] [vI s0, vR s1] W (fpg_take_201 t l1 s0 s1 W) en := by
  have h0 := h
  obtain ⟨hx, hm, hr, he, ht, k50, k117, k165, k219, k274⟩ := h0
  unfold fpg_take_201
  refine j_runA hx 3 (tb := [(201, .bipush 10), (203, .aload_n 0), (204, .iload_n 1)]) (jtb_ok (by decide +kernel)) (pc' := 205) (lv' := [(0, vR t), (1, vI l1)]) (st' := [vI l1, vR t, vI (kI 10), vI s0, vR s1]) rfl ?_
  refine j_gd (fun h68 => ?_)
  refine j_OI (j_callV (av := [vI l1]) (st := [vI (kI 10), vI s0, vR s1]) hx hr (Or.inl q938) q939 q940 rfl md_fpg_placeOf np_fpg_placeOf (cpg_placeOf t l1 W) (by decide) (Nat.le_of_ble_eq_true rfl) h68 (by decide) (by decide +kernel)) (fun q69 _ => ?_)
  refine j_gd (fun h70 => ?_)
  refine j_EV (j_callV (av := [vI s0, vI (kI 10), vI q69]) (st := []) hx hr (Or.inl q1044) q758 q759 rfl md_ftr_must np_ftr_must (ctr_must s1 s0 (kI 10) q69 W) (by decide) (Nat.le_of_ble_eq_true rfl) h70 (by decide) (by decide +kernel)) (fun z _ r h9 => j_upE hm hx (ht z) h9) (fun q71 _ => ?_)
  refine j_runA hx 1 (tb := [(211, .iinc 1 1)]) (jtb_ok (by decide +kernel)) (pc' := 214) (lv' := [(1, vI (l1 + (kI 1))), (0, vR t)]) (st' := []) rfl ?_
  refine j_let (v := (l1 + (kI 1))) (lv := fun v73 => [(1, vI v73), (0, vR t)]) (st := fun _ => []) (fun v73 => ?_)
  refine j_goto hx (off := -49) (by decide +kernel) (tgt := 165) (by decide) ?_
  refine j_lv (lv' := [(0, vR t), (1, vI v73)]) ⟨rfl, rfl, trivial⟩ ?_
  exact k165 v73 q71
theorem wpg_take_196 {x : jCx} {en : (fpg_take_S ⊕ ((Nat × jW) ⊕ jW)) → Option (Outcome × jW)} {t : Nat} (h : hpg_take x en t) (l1 : Int32) (s0 : Nat) (W : jW) : jJ x 3 196 [(0, vR t), (1, vI l1)] [vR s0] W (fpg_take_196 t l1 s0 W) en := by
  have h0 := h
  obtain ⟨hx, hm, hr, he, ht, k50, k117, k165, k219, k274⟩ := h0
  unfold fpg_take_196
  refine j_runA hx 1 (tb := [(196, .iconst 1)]) (jtb_ok (by decide +kernel)) (pc' := 197) (lv' := [(0, vR t), (1, vI l1)]) (st' := [vI (kI 1), vR s0]) rfl ?_
  refine j_goto hx (off := 4) (by decide +kernel) (tgt := 201) (by decide) ?_
  exact wpg_take_201 h l1 (kI 1) s0 W
theorem wpg_take_256 {x : jCx} {en : (fpg_take_S ⊕ ((Nat × jW) ⊕ jW)) → Option (Outcome × jW)} {t : Nat} (h : hpg_take x en t) (l1 : Int32) (s0 : Int32) (s1 : Nat) (W : jW) : jJ x 3 256 [(0, vR t), (1, vI l1)] [vI s0, vR s1] W (fpg_take_256 t l1 s0 s1 W) en := by
  have h0 := h
  obtain ⟨hx, hm, hr, he, ht, k50, k117, k165, k219, k274⟩ := h0
  unfold fpg_take_256
  refine j_runA hx 3 (tb := [(256, .bipush 11), (258, .aload_n 0), (259, .iload_n 1)]) (jtb_ok (by decide +kernel)) (pc' := 260) (lv' := [(0, vR t), (1, vI l1)]) (st' := [vI l1, vR t, vI (kI 11), vI s0, vR s1]) rfl ?_
  refine j_gd (fun h80 => ?_)
  refine j_OI (j_callV (av := [vI l1]) (st := [vI (kI 11), vI s0, vR s1]) hx hr (Or.inl q938) q939 q940 rfl md_fpg_placeOf np_fpg_placeOf (cpg_placeOf t l1 W) (by decide) (Nat.le_of_ble_eq_true rfl) h80 (by decide) (by decide +kernel)) (fun q81 _ => ?_)
  refine j_gd (fun h82 => ?_)
  refine j_EV (j_callV (av := [vI s0, vI (kI 11), vI q81]) (st := []) hx hr (Or.inl q1044) q758 q759 rfl md_ftr_must np_ftr_must (ctr_must s1 s0 (kI 11) q81 W) (by decide) (Nat.le_of_ble_eq_true rfl) h82 (by decide) (by decide +kernel)) (fun z _ r h9 => j_upE hm hx (ht z) h9) (fun q83 _ => ?_)
  refine j_runA hx 1 (tb := [(266, .iinc 1 1)]) (jtb_ok (by decide +kernel)) (pc' := 269) (lv' := [(1, vI (l1 + (kI 1))), (0, vR t)]) (st' := []) rfl ?_
  refine j_let (v := (l1 + (kI 1))) (lv := fun v85 => [(1, vI v85), (0, vR t)]) (st := fun _ => []) (fun v85 => ?_)
  refine j_goto hx (off := -50) (by decide +kernel) (tgt := 219) (by decide) ?_
  refine j_lv (lv' := [(0, vR t), (1, vI v85)]) ⟨rfl, rfl, trivial⟩ ?_
  exact k219 v85 q83
theorem wpg_take_251 {x : jCx} {en : (fpg_take_S ⊕ ((Nat × jW) ⊕ jW)) → Option (Outcome × jW)} {t : Nat} (h : hpg_take x en t) (l1 : Int32) (s0 : Nat) (W : jW) : jJ x 3 251 [(0, vR t), (1, vI l1)] [vR s0] W (fpg_take_251 t l1 s0 W) en := by
  have h0 := h
  obtain ⟨hx, hm, hr, he, ht, k50, k117, k165, k219, k274⟩ := h0
  unfold fpg_take_251
  refine j_runA hx 1 (tb := [(251, .iconst 1)]) (jtb_ok (by decide +kernel)) (pc' := 252) (lv' := [(0, vR t), (1, vI l1)]) (st' := [vI (kI 1), vR s0]) rfl ?_
  refine j_goto hx (off := 4) (by decide +kernel) (tgt := 256) (by decide) ?_
  exact wpg_take_256 h l1 (kI 1) s0 W
theorem wpg_take_323 {x : jCx} {en : (fpg_take_S ⊕ ((Nat × jW) ⊕ jW)) → Option (Outcome × jW)} {t : Nat} (h : hpg_take x en t) (l1 : Int32) (s0 : Int32) (s1 : Nat) (W : jW) : jJ x 3 323 [(0, vR t), (1, vI l1)] [vI s0, vR s1] W (fpg_take_323 t l1 s0 s1 W) en := by
  have h0 := h
  obtain ⟨hx, hm, hr, he, ht, k50, k117, k165, k219, k274⟩ := h0
  unfold fpg_take_323
  refine j_runA hx 4 (tb := [(323, .bipush 12), (325, .aload_n 0), (326, .aload_n 0), (327, .iload_n 1)]) (jtb_ok (by decide +kernel)) (pc' := 328) (lv' := [(0, vR t), (1, vI l1)]) (st' := [vI l1, vR t, vR t, vI (kI 12), vI s0, vR s1]) rfl ?_
  refine j_gd (fun h99 => ?_)
  refine j_OI (j_callV (av := [vI l1]) (st := [vR t, vI (kI 12), vI s0, vR s1]) hx hr (Or.inl q1108) q1110 qs19 rfl md_fpg_lastOf np_fpg_lastOf (cpg_lastOf t l1 W) (by decide) (Nat.le_of_ble_eq_true rfl) h99 (by decide) (by decide +kernel)) (fun q100 _ => ?_)
  refine j_OI (j_callV (av := [vI q100]) (st := [vI (kI 12), vI s0, vR s1]) hx hr (Or.inl q938) q939 q940 rfl md_fpg_placeOf np_fpg_placeOf (cpg_placeOf t q100 W) (by decide) (Nat.le_of_ble_eq_true rfl) h99 (by decide) (by decide +kernel)) (fun q101 _ => ?_)
  refine j_gd (fun h102 => ?_)
  refine j_EV (j_callV (av := [vI s0, vI (kI 12), vI q101]) (st := []) hx hr (Or.inl q1044) q758 q759 rfl md_ftr_must np_ftr_must (ctr_must s1 s0 (kI 12) q101 W) (by decide) (Nat.le_of_ble_eq_true rfl) h102 (by decide) (by decide +kernel)) (fun z _ r h9 => j_upE hm hx (ht z) h9) (fun q103 _ => ?_)
  refine j_runA hx 1 (tb := [(337, .iinc 1 1)]) (jtb_ok (by decide +kernel)) (pc' := 340) (lv' := [(1, vI (l1 + (kI 1))), (0, vR t)]) (st' := []) rfl ?_
  refine j_let (v := (l1 + (kI 1))) (lv := fun v105 => [(1, vI v105), (0, vR t)]) (st := fun _ => []) (fun v105 => ?_)
  refine j_goto hx (off := -66) (by decide +kernel) (tgt := 274) (by decide) ?_
  refine j_lv (lv' := [(0, vR t), (1, vI v105)]) ⟨rfl, rfl, trivial⟩ ?_
  exact k274 v105 q103
theorem wpg_take_318 {x : jCx} {en : (fpg_take_S ⊕ ((Nat × jW) ⊕ jW)) → Option (Outcome × jW)} {t : Nat} (h : hpg_take x en t) (l1 : Int32) (s0 : Nat) (W : jW) : jJ x 3 318 [(0, vR t), (1, vI l1)] [vR s0] W (fpg_take_318 t l1 s0 W) en := by
  have h0 := h
  obtain ⟨hx, hm, hr, he, ht, k50, k117, k165, k219, k274⟩ := h0
  unfold fpg_take_318
  refine j_runA hx 1 (tb := [(318, .iconst 1)]) (jtb_ok (by decide +kernel)) (pc' := 319) (lv' := [(0, vR t), (1, vI l1)]) (st' := [vI (kI 1), vR s0]) rfl ?_
  refine j_goto hx (off := 4) (by decide +kernel) (tgt := 323) (by decide) ?_
  exact wpg_take_323 h l1 (kI 1) s0 W
theorem wpg_take_274 {x : jCx} {en : (fpg_take_S ⊕ ((Nat × jW) ⊕ jW)) → Option (Outcome × jW)} {t : Nat} (h : hpg_take x en t) (l1 : Int32) (W : jW) : jJ x 3 274 [(0, vR t), (1, vI l1)] [] W (fpg_take_274 t l1 W) en := by
  have h0 := h
  obtain ⟨hx, hm, hr, he, ht, k50, k117, k165, k219, k274⟩ := h0
  unfold fpg_take_274
  refine j_runA hx 2 (tb := [(274, .iload_n 1), (275, .aload_n 0)]) (jtb_ok (by decide +kernel)) (pc' := 276) (lv' := [(0, vR t), (1, vI l1)]) (st' := [vR t, vI l1]) rfl ?_
  refine j_gd (fun h88 => ?_)
  refine j_getR hx flX1_52 kl209 h88 (by decide) (by decide +kernel) ?_
  refine j_gd (fun h89 => ?_)
  refine j_getI hx flX1_90 kd601 h89 (by decide) (by decide +kernel) ?_
  refine j_icmp_ge hx (off := 61) (tgt := 343) (by decide +kernel) (by decide) (fun _ => ?_) (fun _ => ?_)
  · refine j_runA hx 1 (tb := [(343, .aload_n 0)]) (jtb_ok (by decide +kernel)) (pc' := 344) (lv' := [(0, vR t), (1, vI l1)]) (st' := [vR t]) rfl ?_
    refine j_WV (j_callV (av := []) (st := []) hx hr (Or.inl q1112) q1114 qs20 rfl md_fpg_leaders np_fpg_leaders (cpg_leaders t W) (by decide) (Nat.le_of_ble_eq_true rfl) h88 (by decide) (by decide +kernel)) (fun q90 _ => ?_)
    refine j_runA hx 1 (tb := [(347, .aload_n 0)]) (jtb_ok (by decide +kernel)) (pc' := 348) (lv' := [(0, vR t), (1, vI l1)]) (st' := [vR t]) rfl ?_
    refine j_gd (fun h92 => ?_)
    refine j_WV (j_callV (av := []) (st := []) hx hr (Or.inl q1124) q1126 qs21 rfl md_fpg_tellBlocks np_fpg_tellBlocks (cpg_tellBlocks t q90) (by decide) (Nat.le_of_ble_eq_true rfl) h92 (by decide) (by decide +kernel)) (fun q93 _ => ?_)
    exact j_vret hx hm (by decide +kernel) (he _)
  refine j_runA hx 1 (tb := [(285, .aload_n 0)]) (jtb_ok (by decide +kernel)) (pc' := 286) (lv' := [(0, vR t), (1, vI l1)]) (st' := [vR t]) rfl ?_
  refine j_getR hx flX1_36 kl205 h88 (by decide) (by decide +kernel) ?_
  refine j_runA hx 2 (tb := [(289, .aload_n 0), (290, .iload_n 1)]) (jtb_ok (by decide +kernel)) (pc' := 291) (lv' := [(0, vR t), (1, vI l1)]) (st' := [vI l1, vR t, vR (jR W 205 t)]) rfl ?_
  refine j_OI (j_callV (av := [vI l1]) (st := [vR (jR W 205 t)]) hx hr (Or.inl q1108) q1110 qs19 rfl md_fpg_lastOf np_fpg_lastOf (cpg_lastOf t l1 W) (by decide) (Nat.le_of_ble_eq_true rfl) h88 (by decide) (by decide +kernel)) (fun q95 _ => ?_)
  refine j_gd (fun h96 => ?_)
  refine j_iald hx (f := 205) (o := t) kd205 rfl (by decide +kernel) h96 ?_
  refine j_runA hx 1 (tb := [(295, .istore_n 2)]) (jtb_ok (by decide +kernel)) (pc' := 296) (lv' := [(2, vI (jA W 205 t (ix q95))), (0, vR t), (1, vI l1)]) (st' := []) rfl ?_
  refine j_let (v := (jA W 205 t (ix q95))) (lv := fun v97 => [(2, vI v97), (0, vR t), (1, vI l1)]) (st := fun _ => []) (fun v97 => ?_)
  refine j_runA hx 1 (tb := [(296, .aload_n 0)]) (jtb_ok (by decide +kernel)) (pc' := 297) (lv' := [(2, vI v97), (0, vR t), (1, vI l1)]) (st' := [vR t]) rfl ?_
  refine j_getR hx flX1_10 kl200 h88 (by decide) (by decide +kernel) ?_
  refine j_runA hx 2 (tb := [(300, .iload_n 2), (301, .bipush 12)]) (jtb_ok (by decide +kernel)) (pc' := 303) (lv' := [(2, vI v97), (0, vR t), (1, vI l1)]) (st' := [vI (kI 12), vI v97, vR (jR W 200 t)]) rfl ?_
  refine j_icmp_eq hx (off := 15) (tgt := 318) (by decide +kernel) (by decide) (fun _ => ?_) (fun _ => ?_)
  · refine j_lv (lv' := [(0, vR t), (1, vI l1)]) ⟨rfl, rfl, trivial⟩ ?_
    exact wpg_take_318 h l1 (jR W 200 t) W
  refine j_runA hx 2 (tb := [(306, .iload_n 2), (307, .bipush 17)]) (jtb_ok (by decide +kernel)) (pc' := 309) (lv' := [(2, vI v97), (0, vR t), (1, vI l1)]) (st' := [vI (kI 17), vI v97, vR (jR W 200 t)]) rfl ?_
  refine j_icmp_eq hx (off := 9) (tgt := 318) (by decide +kernel) (by decide) (fun _ => ?_) (fun _ => ?_)
  · refine j_lv (lv' := [(0, vR t), (1, vI l1)]) ⟨rfl, rfl, trivial⟩ ?_
    exact wpg_take_318 h l1 (jR W 200 t) W
  refine j_runA hx 2 (tb := [(312, .iload_n 2), (313, .bipush 19)]) (jtb_ok (by decide +kernel)) (pc' := 315) (lv' := [(2, vI v97), (0, vR t), (1, vI l1)]) (st' := [vI (kI 19), vI v97, vR (jR W 200 t)]) rfl ?_
  refine j_icmp_ne hx (off := 7) (tgt := 322) (by decide +kernel) (by decide) (fun _ => ?_) (fun _ => ?_)
  · refine j_runA hx 1 (tb := [(322, .iconst 0)]) (jtb_ok (by decide +kernel)) (pc' := 323) (lv' := [(2, vI v97), (0, vR t), (1, vI l1)]) (st' := [vI (kI 0), vR (jR W 200 t)]) rfl ?_
    refine j_lv (lv' := [(0, vR t), (1, vI l1)]) ⟨rfl, rfl, trivial⟩ ?_
    exact wpg_take_323 h l1 (kI 0) (jR W 200 t) W
  refine j_lv (lv' := [(0, vR t), (1, vI l1)]) ⟨rfl, rfl, trivial⟩ ?_
  exact wpg_take_318 h l1 (jR W 200 t) W
theorem wpg_take_219 {x : jCx} {en : (fpg_take_S ⊕ ((Nat × jW) ⊕ jW)) → Option (Outcome × jW)} {t : Nat} (h : hpg_take x en t) (l1 : Int32) (W : jW) : jJ x 3 219 [(0, vR t), (1, vI l1)] [] W (fpg_take_219 t l1 W) en := by
  have h0 := h
  obtain ⟨hx, hm, hr, he, ht, k50, k117, k165, k219, k274⟩ := h0
  unfold fpg_take_219
  refine j_runA hx 2 (tb := [(219, .iload_n 1), (220, .aload_n 0)]) (jtb_ok (by decide +kernel)) (pc' := 221) (lv' := [(0, vR t), (1, vI l1)]) (st' := [vR t, vI l1]) rfl ?_
  refine j_gd (fun h76 => ?_)
  refine j_getI hx flX1_124 kd203 h76 (by decide) (by decide +kernel) ?_
  refine j_icmp_ge hx (off := 48) (tgt := 272) (by decide +kernel) (by decide) (fun _ => ?_) (fun _ => ?_)
  · refine j_runA hx 2 (tb := [(272, .iconst 0), (273, .istore_n 1)]) (jtb_ok (by decide +kernel)) (pc' := 274) (lv' := [(1, vI (kI 0)), (0, vR t)]) (st' := []) rfl ?_
    refine j_lv (lv' := [(0, vR t), (1, vI (kI 0))]) ⟨rfl, rfl, trivial⟩ ?_
    exact k274 (kI 0) W
  refine j_runA hx 1 (tb := [(227, .aload_n 0)]) (jtb_ok (by decide +kernel)) (pc' := 228) (lv' := [(0, vR t), (1, vI l1)]) (st' := [vR t]) rfl ?_
  refine j_getR hx flX1_10 kl200 h76 (by decide) (by decide +kernel) ?_
  refine j_runA hx 1 (tb := [(231, .aload_n 0)]) (jtb_ok (by decide +kernel)) (pc' := 232) (lv' := [(0, vR t), (1, vI l1)]) (st' := [vR t, vR (jR W 200 t)]) rfl ?_
  refine j_getR hx flX1_36 kl205 h76 (by decide) (by decide +kernel) ?_
  refine j_runA hx 1 (tb := [(235, .iload_n 1)]) (jtb_ok (by decide +kernel)) (pc' := 236) (lv' := [(0, vR t), (1, vI l1)]) (st' := [vI l1, vR (jR W 205 t), vR (jR W 200 t)]) rfl ?_
  refine j_gd (fun h77 => ?_)
  refine j_iald hx (f := 205) (o := t) kd205 rfl (by decide +kernel) h77 ?_
  refine j_TI (j_callS (av := [vI (jA W 205 t (ix l1))]) (st := [vR (jR W 200 t)]) hx hr (Or.inl q1094) q1095 q247 md_fwo_goes np_fwo_goes (cwo_goes (jA W 205 t (ix l1)) W) (by decide) (Nat.le_of_ble_eq_true rfl) (by decide +kernel)) ?_
  refine j_if_eq hx (off := 11) (tgt := 251) (by decide +kernel) (by decide) (fun _ => ?_) (fun _ => ?_)
  · exact wpg_take_251 h l1 (jR W 200 t) W
  refine j_runA hx 2 (tb := [(243, .aload_n 0), (244, .iload_n 1)]) (jtb_ok (by decide +kernel)) (pc' := 245) (lv' := [(0, vR t), (1, vI l1)]) (st' := [vI l1, vR t, vR (jR W 200 t)]) rfl ?_
  refine j_OI (j_callV (av := [vI l1]) (st := [vR (jR W 200 t)]) hx hr (Or.inl q1100) q1102 qs18 rfl md_fpg_isGood np_fpg_isGood (cpg_isGood t l1 W) (by decide) (Nat.le_of_ble_eq_true rfl) h76 (by decide) (by decide +kernel)) (fun q78 _ => ?_)
  refine j_if_eq hx (off := 7) (tgt := 255) (by decide +kernel) (by decide) (fun _ => ?_) (fun _ => ?_)
  · refine j_runA hx 1 (tb := [(255, .iconst 0)]) (jtb_ok (by decide +kernel)) (pc' := 256) (lv' := [(0, vR t), (1, vI l1)]) (st' := [vI (kI 0), vR (jR W 200 t)]) rfl ?_
    exact wpg_take_256 h l1 (kI 0) (jR W 200 t) W
  exact wpg_take_251 h l1 (jR W 200 t) W
theorem wpg_take_165 {x : jCx} {en : (fpg_take_S ⊕ ((Nat × jW) ⊕ jW)) → Option (Outcome × jW)} {t : Nat} (h : hpg_take x en t) (l1 : Int32) (W : jW) : jJ x 3 165 [(0, vR t), (1, vI l1)] [] W (fpg_take_165 t l1 W) en := by
  have h0 := h
  obtain ⟨hx, hm, hr, he, ht, k50, k117, k165, k219, k274⟩ := h0
  unfold fpg_take_165
  refine j_runA hx 2 (tb := [(165, .iload_n 1), (166, .aload_n 0)]) (jtb_ok (by decide +kernel)) (pc' := 167) (lv' := [(0, vR t), (1, vI l1)]) (st' := [vR t, vI l1]) rfl ?_
  refine j_gd (fun h64 => ?_)
  refine j_getI hx flX1_124 kd203 h64 (by decide) (by decide +kernel) ?_
  refine j_icmp_ge hx (off := 47) (tgt := 217) (by decide +kernel) (by decide) (fun _ => ?_) (fun _ => ?_)
  · refine j_runA hx 2 (tb := [(217, .iconst 0), (218, .istore_n 1)]) (jtb_ok (by decide +kernel)) (pc' := 219) (lv' := [(1, vI (kI 0)), (0, vR t)]) (st' := []) rfl ?_
    refine j_lv (lv' := [(0, vR t), (1, vI (kI 0))]) ⟨rfl, rfl, trivial⟩ ?_
    exact k219 (kI 0) W
  refine j_runA hx 1 (tb := [(173, .aload_n 0)]) (jtb_ok (by decide +kernel)) (pc' := 174) (lv' := [(0, vR t), (1, vI l1)]) (st' := [vR t]) rfl ?_
  refine j_getR hx flX1_10 kl200 h64 (by decide) (by decide +kernel) ?_
  refine j_runA hx 1 (tb := [(177, .aload_n 0)]) (jtb_ok (by decide +kernel)) (pc' := 178) (lv' := [(0, vR t), (1, vI l1)]) (st' := [vR t, vR (jR W 200 t)]) rfl ?_
  refine j_getR hx flX1_36 kl205 h64 (by decide) (by decide +kernel) ?_
  refine j_runA hx 1 (tb := [(181, .iload_n 1)]) (jtb_ok (by decide +kernel)) (pc' := 182) (lv' := [(0, vR t), (1, vI l1)]) (st' := [vI l1, vR (jR W 205 t), vR (jR W 200 t)]) rfl ?_
  refine j_gd (fun h65 => ?_)
  refine j_iald hx (f := 205) (o := t) kd205 rfl (by decide +kernel) h65 ?_
  refine j_runA hx 1 (tb := [(183, .iconst 5)]) (jtb_ok (by decide +kernel)) (pc' := 184) (lv' := [(0, vR t), (1, vI l1)]) (st' := [vI (kI 5), vI (jA W 205 t (ix l1)), vR (jR W 200 t)]) rfl ?_
  refine j_icmp_ne hx (off := 12) (tgt := 196) (by decide +kernel) (by decide) (fun _ => ?_) (fun _ => ?_)
  · exact wpg_take_196 h l1 (jR W 200 t) W
  refine j_runA hx 1 (tb := [(187, .aload_n 0)]) (jtb_ok (by decide +kernel)) (pc' := 188) (lv' := [(0, vR t), (1, vI l1)]) (st' := [vR t, vR (jR W 200 t)]) rfl ?_
  refine j_getR hx flX1_42 kl207 h64 (by decide) (by decide +kernel) ?_
  refine j_runA hx 1 (tb := [(191, .iload_n 1)]) (jtb_ok (by decide +kernel)) (pc' := 192) (lv' := [(0, vR t), (1, vI l1)]) (st' := [vI l1, vR (jR W 207 t), vR (jR W 200 t)]) rfl ?_
  refine j_gd (fun h66 => ?_)
  refine j_iald hx (f := 207) (o := t) kd207 rfl (by decide +kernel) h66 ?_
  refine j_if_le hx (off := 7) (tgt := 200) (by decide +kernel) (by decide) (fun _ => ?_) (fun _ => ?_)
  · refine j_runA hx 1 (tb := [(200, .iconst 0)]) (jtb_ok (by decide +kernel)) (pc' := 201) (lv' := [(0, vR t), (1, vI l1)]) (st' := [vI (kI 0), vR (jR W 200 t)]) rfl ?_
    exact wpg_take_201 h l1 (kI 0) (jR W 200 t) W
  exact wpg_take_196 h l1 (jR W 200 t) W
theorem wpg_take_117 {x : jCx} {en : (fpg_take_S ⊕ ((Nat × jW) ⊕ jW)) → Option (Outcome × jW)} {t : Nat} (h : hpg_take x en t) (l1 : Int32) (W : jW) : jJ x 3 117 [(0, vR t), (1, vI l1)] [] W (fpg_take_117 t l1 W) en := by
  have h0 := h
  obtain ⟨hx, hm, hr, he, ht, k50, k117, k165, k219, k274⟩ := h0
  unfold fpg_take_117
  refine j_runA hx 2 (tb := [(117, .iload_n 1), (118, .aload_n 0)]) (jtb_ok (by decide +kernel)) (pc' := 119) (lv' := [(0, vR t), (1, vI l1)]) (st' := [vR t, vI l1]) rfl ?_
  refine j_gd (fun h52 => ?_)
  refine j_getI hx flX1_124 kd203 h52 (by decide) (by decide +kernel) ?_
  refine j_icmp_ge hx (off := 37) (tgt := 159) (by decide +kernel) (by decide) (fun _ => ?_) (fun _ => ?_)
  · refine j_runA hx 1 (tb := [(159, .aload_n 0)]) (jtb_ok (by decide +kernel)) (pc' := 160) (lv' := [(0, vR t), (1, vI l1)]) (st' := [vR t]) rfl ?_
    refine j_EV (j_callV (av := []) (st := []) hx hr (Or.inl q1049) q1051 qs16 rfl md_fpg_lookFixes np_fpg_lookFixes (cpg_lookFixes t W) (by decide) (Nat.le_of_ble_eq_true rfl) h52 (by decide) (by decide +kernel)) (fun z _ r h9 => j_upE hm hx (ht z) h9) (fun q53 _ => ?_)
    refine j_runA hx 2 (tb := [(163, .iconst 0), (164, .istore_n 1)]) (jtb_ok (by decide +kernel)) (pc' := 165) (lv' := [(1, vI (kI 0)), (0, vR t)]) (st' := []) rfl ?_
    refine j_lv (lv' := [(0, vR t), (1, vI (kI 0))]) ⟨rfl, rfl, trivial⟩ ?_
    exact k165 (kI 0) q53
  refine j_runA hx 1 (tb := [(125, .aload_n 0)]) (jtb_ok (by decide +kernel)) (pc' := 126) (lv' := [(0, vR t), (1, vI l1)]) (st' := [vR t]) rfl ?_
  refine j_getR hx flX1_10 kl200 h52 (by decide) (by decide +kernel) ?_
  refine j_runA hx 1 (tb := [(129, .aload_n 0)]) (jtb_ok (by decide +kernel)) (pc' := 130) (lv' := [(0, vR t), (1, vI l1)]) (st' := [vR t, vR (jR W 200 t)]) rfl ?_
  refine j_getR hx flX1_36 kl205 h52 (by decide) (by decide +kernel) ?_
  refine j_runA hx 1 (tb := [(133, .iload_n 1)]) (jtb_ok (by decide +kernel)) (pc' := 134) (lv' := [(0, vR t), (1, vI l1)]) (st' := [vI l1, vR (jR W 205 t), vR (jR W 200 t)]) rfl ?_
  refine j_gd (fun h55 => ?_)
  refine j_iald hx (f := 205) (o := t) kd205 rfl (by decide +kernel) h55 ?_
  refine j_if_eq hx (off := 7) (tgt := 142) (by decide +kernel) (by decide) (fun _ => ?_) (fun _ => ?_)
  · refine j_runA hx 1 (tb := [(142, .iconst 0)]) (jtb_ok (by decide +kernel)) (pc' := 143) (lv' := [(0, vR t), (1, vI l1)]) (st' := [vI (kI 0), vR (jR W 200 t)]) rfl ?_
    exact wpg_take_143 h l1 (kI 0) (jR W 200 t) W
  refine j_runA hx 1 (tb := [(138, .iconst 1)]) (jtb_ok (by decide +kernel)) (pc' := 139) (lv' := [(0, vR t), (1, vI l1)]) (st' := [vI (kI 1), vR (jR W 200 t)]) rfl ?_
  refine j_goto hx (off := 4) (by decide +kernel) (tgt := 143) (by decide) ?_
  exact wpg_take_143 h l1 (kI 1) (jR W 200 t) W
theorem wpg_take_50 {x : jCx} {en : (fpg_take_S ⊕ ((Nat × jW) ⊕ jW)) → Option (Outcome × jW)} {t : Nat} (h : hpg_take x en t) (l1 : Int32) (W : jW) : jJ x 3 50 [(0, vR t), (1, vI l1)] [] W (fpg_take_50 t l1 W) en := by
  have h0 := h
  obtain ⟨hx, hm, hr, he, ht, k50, k117, k165, k219, k274⟩ := h0
  unfold fpg_take_50
  refine j_runA hx 2 (tb := [(50, .iload_n 1), (51, .aload_n 0)]) (jtb_ok (by decide +kernel)) (pc' := 52) (lv' := [(0, vR t), (1, vI l1)]) (st' := [vR t, vI l1]) rfl ?_
  refine j_gd (fun h19 => ?_)
  refine j_getI hx flX1_124 kd203 h19 (by decide) (by decide +kernel) ?_
  refine j_icmp_ge hx (off := 56) (tgt := 111) (by decide +kernel) (by decide) (fun _ => ?_) (fun _ => ?_)
  · refine j_runA hx 1 (tb := [(111, .aload_n 0)]) (jtb_ok (by decide +kernel)) (pc' := 112) (lv' := [(0, vR t), (1, vI l1)]) (st' := [vR t]) rfl ?_
    refine j_EV (j_callV (av := []) (st := []) hx hr (Or.inl q1017) q1019 qs15 rfl md_fpg_tellFunctions np_fpg_tellFunctions (cpg_tellFunctions t W) (by decide) (Nat.le_of_ble_eq_true rfl) h19 (by decide) (by decide +kernel)) (fun z _ r h9 => j_upE hm hx (ht z) h9) (fun q20 _ => ?_)
    refine j_runA hx 2 (tb := [(115, .iconst 0), (116, .istore_n 1)]) (jtb_ok (by decide +kernel)) (pc' := 117) (lv' := [(1, vI (kI 0)), (0, vR t)]) (st' := []) rfl ?_
    refine j_lv (lv' := [(0, vR t), (1, vI (kI 0))]) ⟨rfl, rfl, trivial⟩ ?_
    exact k117 (kI 0) q20
  refine j_runA hx 1 (tb := [(58, .aload_n 0)]) (jtb_ok (by decide +kernel)) (pc' := 59) (lv' := [(0, vR t), (1, vI l1)]) (st' := [vR t]) rfl ?_
  refine j_getR hx flX1_32 kl204 h19 (by decide) (by decide +kernel) ?_
  refine j_runA hx 2 (tb := [(62, .iload_n 1), (63, .aload_n 0)]) (jtb_ok (by decide +kernel)) (pc' := 64) (lv' := [(0, vR t), (1, vI l1)]) (st' := [vR t, vI l1, vR (jR W 204 t)]) rfl ?_
  refine j_getR hx flX1_28 kl202 h19 (by decide) (by decide +kernel) ?_
  refine j_runA hx 2 (tb := [(67, .aload_n 0), (68, .iload_n 1)]) (jtb_ok (by decide +kernel)) (pc' := 69) (lv' := [(0, vR t), (1, vI l1)]) (st' := [vI l1, vR t, vR (jR W 202 t), vI l1, vR (jR W 204 t)]) rfl ?_
  refine j_OI (j_callV (av := [vI l1]) (st := [vR (jR W 202 t), vI l1, vR (jR W 204 t)]) hx hr (Or.inl q938) q939 q940 rfl md_fpg_placeOf np_fpg_placeOf (cpg_placeOf t l1 W) (by decide) (Nat.le_of_ble_eq_true rfl) h19 (by decide) (by decide +kernel)) (fun q22 _ => ?_)
  refine j_gd (fun h23 => ?_)
  refine j_OI (j_callU (av := [vI q22]) (st := [vI l1, vR (jR W 204 t)]) hx hr q943 q944 (hde_fsr_word) (by decide) q768 q946 rfl md_fsr_word np_fsr_word (csr_word (jR W 202 t) q22 W) (by decide) (Nat.le_of_ble_eq_true rfl) h23 (by decide) (by decide +kernel)) (fun q24 _ => ?_)
  refine j_gd (fun h25 => ?_)
  refine j_iast hx (f := 204) (o := t) kd204 rfl (by decide +kernel) h25 ?_
  refine j_ltw rfl (fun W26 hc27 => ?_)
  have h28 : jC W26 t = 2 := (congrFun hc27 _).trans h19
  have h29 : jC W26 (jR W 202 t) = 5 := (congrFun hc27 _).trans h23
  refine j_runA hx 1 (tb := [(76, .aload_n 0)]) (jtb_ok (by decide +kernel)) (pc' := 77) (lv' := [(0, vR t), (1, vI l1)]) (st' := [vR t]) rfl ?_
  refine j_getR hx flX1_36 kl205 h28 (by decide) (by decide +kernel) ?_
  refine j_runA hx 2 (tb := [(80, .iload_n 1), (81, .aload_n 0)]) (jtb_ok (by decide +kernel)) (pc' := 82) (lv' := [(0, vR t), (1, vI l1)]) (st' := [vR t, vI l1, vR (jR W26 205 t)]) rfl ?_
  refine j_getR hx flX1_32 kl204 h28 (by decide) (by decide +kernel) ?_
  refine j_runA hx 1 (tb := [(85, .iload_n 1)]) (jtb_ok (by decide +kernel)) (pc' := 86) (lv' := [(0, vR t), (1, vI l1)]) (st' := [vI l1, vR (jR W26 204 t), vI l1, vR (jR W26 205 t)]) rfl ?_
  refine j_gd (fun h31 => ?_)
  refine j_iald hx (f := 204) (o := t) kd204 rfl (by decide +kernel) h31 ?_
  refine j_TI (j_callS (av := [vI (jA W26 204 t (ix l1))]) (st := [vI l1, vR (jR W26 205 t)]) hx hr (Or.inl q947) q948 q247 md_fwo_kindOf np_fwo_kindOf (cwo_kindOf (jA W26 204 t (ix l1)) W26) (by decide) (Nat.le_of_ble_eq_true rfl) (by decide +kernel)) ?_
  refine j_gd (fun h32 => ?_)
  refine j_iast hx (f := 205) (o := t) kd205 rfl (by decide +kernel) h32 ?_
  refine j_ltw rfl (fun W33 hc34 => ?_)
  have h35 : jC W33 t = 2 := (congrFun hc34 _).trans h28
  have h36 : jC W33 (jR W 202 t) = 5 := (congrFun hc34 _).trans h29
  refine j_runA hx 1 (tb := [(91, .aload_n 0)]) (jtb_ok (by decide +kernel)) (pc' := 92) (lv' := [(0, vR t), (1, vI l1)]) (st' := [vR t]) rfl ?_
  refine j_getR hx flX1_42 kl207 h35 (by decide) (by decide +kernel) ?_
  refine j_runA hx 2 (tb := [(95, .iload_n 1), (96, .iconst 0)]) (jtb_ok (by decide +kernel)) (pc' := 97) (lv' := [(0, vR t), (1, vI l1)]) (st' := [vI (kI 0), vI l1, vR (jR W33 207 t)]) rfl ?_
  refine j_gd (fun h38 => ?_)
  refine j_iast hx (f := 207) (o := t) kd207 rfl (by decide +kernel) h38 ?_
  refine j_ltw rfl (fun W39 hc40 => ?_)
  have h41 : jC W39 t = 2 := (congrFun hc40 _).trans h35
  have h42 : jC W39 (jR W 202 t) = 5 := (congrFun hc40 _).trans h36
  refine j_runA hx 1 (tb := [(98, .aload_n 0)]) (jtb_ok (by decide +kernel)) (pc' := 99) (lv' := [(0, vR t), (1, vI l1)]) (st' := [vR t]) rfl ?_
  refine j_getR hx flX1_45 kl208 h41 (by decide) (by decide +kernel) ?_
  refine j_runA hx 2 (tb := [(102, .iload_n 1), (103, .iconst 0)]) (jtb_ok (by decide +kernel)) (pc' := 104) (lv' := [(0, vR t), (1, vI l1)]) (st' := [vI (kI 0), vI l1, vR (jR W39 208 t)]) rfl ?_
  refine j_gd (fun h44 => ?_)
  refine j_zast hx (f := 208) (o := t) kd208 rfl (by decide +kernel) h44 ?_
  refine j_ltw rfl (fun W45 hc46 => ?_)
  have h47 : jC W45 t = 2 := (congrFun hc46 _).trans h41
  have h48 : jC W45 (jR W 202 t) = 5 := (congrFun hc46 _).trans h42
  refine j_runA hx 1 (tb := [(105, .iinc 1 1)]) (jtb_ok (by decide +kernel)) (pc' := 108) (lv' := [(1, vI (l1 + (kI 1))), (0, vR t)]) (st' := []) rfl ?_
  refine j_let (v := (l1 + (kI 1))) (lv := fun v50 => [(1, vI v50), (0, vR t)]) (st := fun _ => []) (fun v50 => ?_)
  refine j_goto hx (off := -58) (by decide +kernel) (tgt := 50) (by decide) ?_
  refine j_lv (lv' := [(0, vR t), (1, vI v50)]) ⟨rfl, rfl, trivial⟩ ?_
  exact k50 v50 W45
theorem wpg_take_48 {x : jCx} {en : (fpg_take_S ⊕ ((Nat × jW) ⊕ jW)) → Option (Outcome × jW)} {t : Nat} (h : hpg_take x en t) (W : jW) : jJ x 3 48 [(0, vR t)] [] W (fpg_take_48 t W) en := by
  have h0 := h
  obtain ⟨hx, hm, hr, he, ht, k50, k117, k165, k219, k274⟩ := h0
  unfold fpg_take_48
  refine j_runA hx 2 (tb := [(48, .iconst 0), (49, .istore_n 1)]) (jtb_ok (by decide +kernel)) (pc' := 50) (lv' := [(1, vI (kI 0)), (0, vR t)]) (st' := []) rfl ?_
  refine j_lv (lv' := [(0, vR t), (1, vI (kI 0))]) ⟨rfl, rfl, trivial⟩ ?_
  exact k50 (kI 0) W
theorem wpg_take {x : jCx} {en : (fpg_take_S ⊕ ((Nat × jW) ⊕ jW)) → Option (Outcome × jW)} {t : Nat} (h : hpg_take x en t) (W : jW) : jJ x 3 0 [(0, vR t)] [] W (fpg_take_0 t W) en := by
  have h0 := h
  obtain ⟨hx, hm, hr, he, ht, k50, k117, k165, k219, k274⟩ := h0
  unfold fpg_take_0
  refine j_runA hx 1 (tb := [(0, .aload_n 0)]) (jtb_ok (by decide +kernel)) (pc' := 1) (lv' := [(0, vR t)]) (st' := [vR t]) rfl ?_
  refine j_gd (fun h1 => ?_)
  refine j_getR hx flX1_21 kl201 h1 (by decide) (by decide +kernel) ?_
  refine j_runA hx 1 (tb := [(4, .aload_n 0)]) (jtb_ok (by decide +kernel)) (pc' := 5) (lv' := [(0, vR t)]) (st' := [vR t, vR (jR W 201 t)]) rfl ?_
  refine j_getR hx flX1_28 kl202 h1 (by decide) (by decide +kernel) ?_
  refine j_gd (fun h2 => ?_)
  refine j_EV (j_callV (av := [vR (jR W 202 t)]) (st := []) hx hr (Or.inl q740) q741 q742 rfl md_fsh_take np_fsh_take (csh_take (jR W 201 t) (jR W 202 t) W) (by decide) (Nat.le_of_ble_eq_true rfl) h2 (by decide) (by decide +kernel)) (fun z _ r h9 => j_upE hm hx (ht z) h9) (fun q3 _ => ?_)
  refine j_runA hx 2 (tb := [(11, .aload_n 0), (12, .aload_n 0)]) (jtb_ok (by decide +kernel)) (pc' := 13) (lv' := [(0, vR t)]) (st' := [vR t, vR t]) rfl ?_
  refine j_gd (fun h5 => ?_)
  refine j_getR hx flX1_21 kl201 h5 (by decide) (by decide +kernel) ?_
  refine j_gd (fun h6 => ?_)
  refine j_getR hx flX1_121 kl410 h6 (by decide) (by decide +kernel) ?_
  refine j_runA hx 1 (tb := [(19, .aload_n 0)]) (jtb_ok (by decide +kernel)) (pc' := 20) (lv' := [(0, vR t)]) (st' := [vR t, vR (jR q3 410 (jR q3 201 t)), vR t]) rfl ?_
  refine j_getR hx flX1_21 kl201 h5 (by decide) (by decide +kernel) ?_
  refine j_OI (j_callV (av := []) (st := [vR (jR q3 410 (jR q3 201 t)), vR t]) hx hr (Or.inl q933) q793 q794 rfl md_fsh_last np_fsh_last (csh_last (jR q3 201 t) q3) (by decide) (Nat.le_of_ble_eq_true rfl) h6 (by decide) (by decide +kernel)) (fun q7 _ => ?_)
  refine j_gd (fun h8 => ?_)
  refine j_iald hx (f := 410) (o := (jR q3 201 t)) kd410 rfl (by decide +kernel) h8 ?_
  refine j_runA hx 1 (tb := [(27, .iconst 4)]) (jtb_ok (by decide +kernel)) (pc' := 28) (lv' := [(0, vR t)]) (st' := [vI (kI 4), vI (jA q3 410 (jR q3 201 t) (ix q7)), vR t]) rfl ?_
  refine j_idiv hx (by decide +kernel) (by decide +kernel) ?_
  refine j_putI hx fwX1_124 wf203 kd203 h5 (by decide) (by decide +kernel) (ni203 _) (fi203 _) ?_
  refine j_ltw rfl (fun W9 hc10 => ?_)
  have h11 : jC W9 t = 2 := (congrFun hc10 _).trans h5
  have h12 : jC W9 (jR q3 201 t) = 4 := (congrFun hc10 _).trans h6
  refine j_runA hx 1 (tb := [(32, .aload_n 0)]) (jtb_ok (by decide +kernel)) (pc' := 33) (lv' := [(0, vR t)]) (st' := [vR t]) rfl ?_
  refine j_getR hx flX1_32 kl204 h11 (by decide) (by decide +kernel) ?_
  refine j_gd (fun h14 => ?_)
  refine j_alen hx (f := 204) (o := t) kg204 kh204 rfl (by decide +kernel) h14 ?_
  refine j_runA hx 1 (tb := [(37, .aload_n 0)]) (jtb_ok (by decide +kernel)) (pc' := 38) (lv' := [(0, vR t)]) (st' := [vR t, vI (nI (jN W9 204 t))]) rfl ?_
  refine j_getI hx flX1_124 kd203 h11 (by decide) (by decide +kernel) ?_
  refine j_icmp_ge hx (off := 7) (tgt := 48) (by decide +kernel) (by decide) (fun _ => ?_) (fun _ => ?_)
  · exact wpg_take_48 h W9
  refine j_runA hx 1 (tb := [(44, .aload_n 0)]) (jtb_ok (by decide +kernel)) (pc' := 45) (lv' := [(0, vR t)]) (st' := [vR t]) rfl ?_
  refine j_WV (j_callV (av := []) (st := []) hx hr (Or.inl q934) q936 qs14 rfl md_fpg_room np_fpg_room (cpg_room t W9) (by decide) (Nat.le_of_ble_eq_true rfl) h11 (by decide) (by decide +kernel)) (fun q15 _ => ?_)
  exact wpg_take_48 h q15
theorem cpg_take (t : Nat) (W : jW) : jM yX1_take cX1_take 3 (Option.none : Option Jvm.ClassFile.FieldType) [] 10 147 [vR t] W ((fpg_take t W).bind (fun q => some (Sum.elim (fun z => (.threw (z.1 - 1), z.2)) (fun q => (.returned none, q)) q))) := by
  refine jM.of (Nat.le_of_ble_eq_true rfl) (fun x hx hm hr => ?_)
  refine j_begin (P := (Sum.elim (fun s => (50, [(0, vR t), (1, vI s.1)], s.2)) (Sum.elim (fun s => (117, [(0, vR t), (1, vI s.1)], s.2)) (Sum.elim (fun s => (165, [(0, vR t), (1, vI s.1)], s.2)) (Sum.elim (fun s => (219, [(0, vR t), (1, vI s.1)], s.2)) (fun s => (274, [(0, vR t), (1, vI s.1)], s.2))))))) (fun en he hk => ?_)
  have h : hpg_take x en t := ⟨hx, hm, hr, fun q => he _, fun z => he _, fun l1 W => hk (.inl (l1, W)), fun l1 W => hk (.inr (.inl (l1, W))), fun l1 W => hk (.inr (.inr (.inl (l1, W)))), fun l1 W => hk (.inr (.inr (.inr (.inl (l1, W))))), fun l1 W => hk (.inr (.inr (.inr (.inr (l1, W)))))⟩
  refine ⟨fun s => ?_, wpg_take h W⟩
  rcases s with s | s | s | s | s
  · exact wpg_take_50 h s.1 s.2
  · exact wpg_take_117 h s.1 s.2
  · exact wpg_take_165 h s.1 s.2
  · exact wpg_take_219 h s.1 s.2
  · exact wpg_take_274 h s.1 s.2
def hpg_place (x : jCx) (en : (Int32) → Option (Outcome × jW)) (t : Nat) (W : jW) : Prop :=
  jOK x RX1 cX1_place 1 ∧
  jMt x "place" (Option.some Jvm.ClassFile.FieldType.int) [] ∧
  jRm x 0 0 ∧
  (∀ q : Int32, en q = some (.returned (some (.int q)), W))
theorem wpg_place {x : jCx} {en : (Int32) → Option (Outcome × jW)} {W : jW} {t : Nat} (h : hpg_place x en t W) : jJ x 1 0 [(0, vR t)] [] W (fpg_place t W) en := by
  have h0 := h
  obtain ⟨hx, hm, hr, he⟩ := h0
  unfold fpg_place
  refine j_runA hx 1 (tb := [(0, .aload_n 0)]) (jtb_ok (by decide +kernel)) (pc' := 1) (lv' := [(0, vR t)]) (st' := [vR t]) rfl ?_
  refine j_gd (fun h1 => ?_)
  refine j_getR hx flX1_10 kl200 h1 (by decide) (by decide +kernel) ?_
  refine j_gd (fun h2 => ?_)
  refine j_getI hx flX1_94 kd301 h2 (by decide) (by decide +kernel) ?_
  exact j_iret hx hm (by decide +kernel) rfl (he _)
theorem cpg_place (t : Nat) (W : jW) : jM yX1_place cX1_place 1 (Option.some Jvm.ClassFile.FieldType.int) [] 0 0 [vR t] W ((fpg_place t W).bind (fun q => some (.returned (some (.int q)), W))) := 
  jM.of (Nat.le_of_ble_eq_true rfl) (fun x hx hm hr => wpg_place ⟨hx, hm, hr, fun _ => rfl⟩)
def hpg_rule (x : jCx) (en : (Int32) → Option (Outcome × jW)) (t : Nat) (W : jW) : Prop :=
  jOK x RX1 cX1_rule 1 ∧
  jMt x "rule" (Option.some Jvm.ClassFile.FieldType.int) [] ∧
  jRm x 0 0 ∧
  (∀ q : Int32, en q = some (.returned (some (.int q)), W))
theorem wpg_rule {x : jCx} {en : (Int32) → Option (Outcome × jW)} {W : jW} {t : Nat} (h : hpg_rule x en t W) : jJ x 1 0 [(0, vR t)] [] W (fpg_rule t W) en := by
  have h0 := h
  obtain ⟨hx, hm, hr, he⟩ := h0
  unfold fpg_rule
  refine j_runA hx 1 (tb := [(0, .aload_n 0)]) (jtb_ok (by decide +kernel)) (pc' := 1) (lv' := [(0, vR t)]) (st' := [vR t]) rfl ?_
  refine j_gd (fun h1 => ?_)
  refine j_getR hx flX1_10 kl200 h1 (by decide) (by decide +kernel) ?_
  refine j_gd (fun h2 => ?_)
  refine j_getI hx flX1_97 kd300 h2 (by decide) (by decide +kernel) ?_
  exact j_iret hx hm (by decide +kernel) rfl (he _)
theorem cpg_rule (t : Nat) (W : jW) : jM yX1_rule cX1_rule 1 (Option.some Jvm.ClassFile.FieldType.int) [] 0 0 [vR t] W ((fpg_rule t W).bind (fun q => some (.returned (some (.int q)), W))) := 
  jM.of (Nat.le_of_ble_eq_true rfl) (fun x hx hm hr => wpg_rule ⟨hx, hm, hr, fun _ => rfl⟩)
def hco_clear (x : jCx) (en : (fco_clear_S ⊕ (jW)) → Option (Outcome × jW)) (t : Nat) : Prop :=
  jOK x RX7 cX7_clear 2 ∧
  jMt x "clear" (Option.none : Option Jvm.ClassFile.FieldType) [] ∧
  jRm x 0 0 ∧
  (∀ q : jW, en (.inr q) = some (.returned none, q)) ∧
  (∀ (l1 : Int32) (W : jW), jJ x 2 18 [(0, vR t), (1, vI l1)] [] W (some (.inl (l1, W))) en)
theorem wco_clear_18 {x : jCx} {en : (fco_clear_S ⊕ (jW)) → Option (Outcome × jW)} {t : Nat} (h : hco_clear x en t) (l1 : Int32) (W : jW) : jJ x 2 18 [(0, vR t), (1, vI l1)] [] W (fco_clear_18 t l1 W) en := by
  have h0 := h
  obtain ⟨hx, hm, hr, he, k18⟩ := h0
  unfold fco_clear_18
  refine j_runA hx 2 (tb := [(18, .iload_n 1), (19, .sipush 8192)]) (jtb_ok (by decide +kernel)) (pc' := 22) (lv' := [(0, vR t), (1, vI l1)]) (st' := [vI (kI 8192), vI l1]) rfl ?_
  refine j_icmp_ge hx (off := 16) (tgt := 38) (by decide +kernel) (by decide) (fun _ => ?_) (fun _ => ?_)
  · exact j_vret hx hm (by decide +kernel) (he _)
  refine j_runA hx 1 (tb := [(25, .aload_n 0)]) (jtb_ok (by decide +kernel)) (pc' := 26) (lv' := [(0, vR t), (1, vI l1)]) (st' := [vR t]) rfl ?_
  refine j_gd (fun h16 => ?_)
  refine j_getR hx flX7_23 kl703 h16 (by decide) (by decide +kernel) ?_
  refine j_runA hx 2 (tb := [(29, .iload_n 1), (30, .iconst (-1))]) (jtb_ok (by decide +kernel)) (pc' := 31) (lv' := [(0, vR t), (1, vI l1)]) (st' := [vI (kI (-1)), vI l1, vR (jR W 703 t)]) rfl ?_
  refine j_gd (fun h17 => ?_)
  refine j_iast hx (f := 703) (o := t) kd703 rfl (by decide +kernel) h17 ?_
  refine j_ltw rfl (fun W18 hc19 => ?_)
  have h20 : jC W18 t = 7 := (congrFun hc19 _).trans h16
  refine j_runA hx 1 (tb := [(32, .iinc 1 1)]) (jtb_ok (by decide +kernel)) (pc' := 35) (lv' := [(1, vI (l1 + (kI 1))), (0, vR t)]) (st' := []) rfl ?_
  refine j_let (v := (l1 + (kI 1))) (lv := fun v22 => [(1, vI v22), (0, vR t)]) (st := fun _ => []) (fun v22 => ?_)
  refine j_goto hx (off := -17) (by decide +kernel) (tgt := 18) (by decide) ?_
  refine j_lv (lv' := [(0, vR t), (1, vI v22)]) ⟨rfl, rfl, trivial⟩ ?_
  exact k18 v22 W18
theorem wco_clear {x : jCx} {en : (fco_clear_S ⊕ (jW)) → Option (Outcome × jW)} {t : Nat} (h : hco_clear x en t) (W : jW) : jJ x 2 0 [(0, vR t)] [] W (fco_clear_0 t W) en := by
  have h0 := h
  obtain ⟨hx, hm, hr, he, k18⟩ := h0
  unfold fco_clear_0
  refine j_runA hx 1 (tb := [(0, .aload_n 0)]) (jtb_ok (by decide +kernel)) (pc' := 1) (lv' := [(0, vR t)]) (st' := [vR t]) rfl ?_
  refine j_gd (fun h1 => ?_)
  refine j_getR hx flX7_10 kl700 h1 (by decide) (by decide +kernel) ?_
  refine j_runA hx 1 (tb := [(4, .iconst 0)]) (jtb_ok (by decide +kernel)) (pc' := 5) (lv' := [(0, vR t)]) (st' := [vI (kI 0), vR (jR W 700 t)]) rfl ?_
  refine j_gd (fun h2 => ?_)
  refine j_putI hx fwX7_27 wf601 kd601 h2 (by decide) (by decide +kernel) (ni601 _) (fi601 _) ?_
  refine j_ltw rfl (fun W3 hc4 => ?_)
  have h5 : jC W3 t = 7 := (congrFun hc4 _).trans h1
  have h6 : jC W3 (jR W 700 t) = 6 := (congrFun hc4 _).trans h2
  refine j_runA hx 1 (tb := [(8, .aload_n 0)]) (jtb_ok (by decide +kernel)) (pc' := 9) (lv' := [(0, vR t)]) (st' := [vR t]) rfl ?_
  refine j_getR hx flX7_16 kl701 h5 (by decide) (by decide +kernel) ?_
  refine j_runA hx 1 (tb := [(12, .iconst 0)]) (jtb_ok (by decide +kernel)) (pc' := 13) (lv' := [(0, vR t)]) (st' := [vI (kI 0), vR (jR W3 701 t)]) rfl ?_
  refine j_gd (fun h8 => ?_)
  refine j_putI hx fwX7_27 wf601 kd601 h8 (by decide) (by decide +kernel) (ni601 _) (fi601 _) ?_
  refine j_ltw rfl (fun W9 hc10 => ?_)
  have h11 : jC W9 t = 7 := (congrFun hc10 _).trans h5
  have h12 : jC W9 (jR W 700 t) = 6 := (congrFun hc10 _).trans h6
  have h13 : jC W9 (jR W3 701 t) = 6 := (congrFun hc10 _).trans h8
  refine j_runA hx 2 (tb := [(16, .iconst 0), (17, .istore_n 1)]) (jtb_ok (by decide +kernel)) (pc' := 18) (lv' := [(1, vI (kI 0)), (0, vR t)]) (st' := []) rfl ?_
  refine j_lv (lv' := [(0, vR t), (1, vI (kI 0))]) ⟨rfl, rfl, trivial⟩ ?_
  exact k18 (kI 0) W9
theorem cco_clear (t : Nat) (W : jW) : jM yX7_clear cX7_clear 2 (Option.none : Option Jvm.ClassFile.FieldType) [] 0 0 [vR t] W ((fco_clear t W).bind (fun q => some (.returned none, q))) := by
  refine jM.of (Nat.le_of_ble_eq_true rfl) (fun x hx hm hr => ?_)
  refine j_begin (P := (fun s => (18, [(0, vR t), (1, vI s.1)], s.2))) (fun en he hk => ?_)
  have h : hco_clear x en t := ⟨hx, hm, hr, fun q => he _, fun l1 W => hk (l1, W)⟩
  exact ⟨fun s => wco_clear_18 h s.1 s.2, wco_clear h W⟩
def hog_init (x : jCx) (en : (jW) → Option (Outcome × jW)) (t : Nat) : Prop :=
  jOK x RX13 cX13_init 1 ∧
  jMt x "<init>" (Option.none : Option Jvm.ClassFile.FieldType) [] ∧
  jRm x 2 26 ∧
  (∀ q : jW, en q = some (.returned none, q))
theorem wog_init {x : jCx} {en : (jW) → Option (Outcome × jW)} {t : Nat} (h : hog_init x en t) (W : jW) : jJ x 1 0 [(0, vR t)] [] W (fog_init t W) en := by
  have h0 := h
  obtain ⟨hx, hm, hr, he⟩ := h0
  unfold fog_init
  refine j_runA hx 1 (tb := [(0, .aload_n 0)]) (jtb_ok (by decide +kernel)) (pc' := 1) (lv' := [(0, vR t)]) (st' := [vR t]) rfl ?_
  refine j_gd (fun h1 => ?_)
  refine j_obj hx hr q1162 h1 q264 q265 (by decide +kernel) (by decide) (Nat.le_of_ble_eq_true rfl) ?_
  refine j_runA hx 2 (tb := [(4, .aload_n 0), (5, .iconst 0)]) (jtb_ok (by decide +kernel)) (pc' := 6) (lv' := [(0, vR t)]) (st' := [vI (kI 0), vR t]) rfl ?_
  refine j_gd (fun h2 => ?_)
  refine j_gd (fun h3 => ?_)
  refine j_nwB hx fwX13_7 wf803 kd803 ja803_6 h3 (by decide) nr803 fr803 (by decide +kernel) (by decide +kernel) h2 ?_
  refine j_ltw rfl (fun W4 hc5 => ?_)
  have h6 : jC W4 t = 8 := (congrFun hc5 _).trans h3
  refine j_runA hx 2 (tb := [(11, .aload_n 0), (12, .iconst 0)]) (jtb_ok (by decide +kernel)) (pc' := 13) (lv' := [(0, vR t)]) (st' := [vI (kI 0), vR t]) rfl ?_
  refine j_gd (fun h8 => ?_)
  refine j_newA hx (f := 9003) (by decide) ka9003 ja9003_3 (by decide +kernel) h8 ?_
  refine j_ltw rfl (fun W9 hc10 => ?_)
  have h11 : jC W9 t = 8 := (congrFun hc10 _).trans h6
  refine j_putR hx fwX13_13 wf804 kd804 h11 (by decide) (by decide +kernel) nr804 fr804 ?_
  refine j_ltw rfl (fun W13 hc14 => ?_)
  have h15 : jC W13 t = 8 := (congrFun hc14 _).trans h11
  refine j_runA hx 2 (tb := [(18, .aload_n 0), (19, .iconst 0)]) (jtb_ok (by decide +kernel)) (pc' := 20) (lv' := [(0, vR t)]) (st' := [vI (kI 0), vR t]) rfl ?_
  refine j_gd (fun h17 => ?_)
  refine j_nwA hx fwX13_17 wf806 ka806 ja806_5 h15 (by decide) nr806 fr806 (by decide +kernel) (by decide +kernel) h17 ?_
  refine j_ltw rfl (fun W18 hc19 => ?_)
  have h20 : jC W18 t = 8 := (congrFun hc19 _).trans h15
  refine j_runA hx 1 (tb := [(25, .aload_n 0)]) (jtb_ok (by decide +kernel)) (pc' := 26) (lv' := [(0, vR t)]) (st' := [vR t]) rfl ?_
  refine j_gd (fun h22 => ?_)
  refine j_new hx nlX13_21 (N := 2) rfl (by decide +kernel) h22 ?_
  refine j_ltn (fun W23 => ?_)
  refine j_runA hx 1 (tb := [(29, .dup)]) (jtb_ok (by decide +kernel)) (pc' := 30) (lv' := [(0, vR t)]) (st' := [vR (jX W18), vR (jX W18), vR t]) rfl ?_
  refine j_gd (fun h25 => ?_)
  refine j_WV (j_callI (av := []) (st := [vR (jX W18), vR t]) hx hr (Or.inr ⟨_, q1164⟩) q479 rfl q480 md_fro_init np_fro_init (cro_init (jX W18) W23) (by decide) (Nat.le_of_ble_eq_true rfl) h25 (by decide) (by decide +kernel)) (fun q26 _ => ?_)
  refine j_gd (fun h28 => ?_)
  refine j_putR hx fwX13_24 (wi807 hm) kd807 h28 (by decide) (by decide +kernel) nr807 fr807 ?_
  refine j_ltw rfl (fun W29 hc30 => ?_)
  have h31 : jC W29 t = 8 := (congrFun hc30 _).trans h28
  refine j_runA hx 2 (tb := [(36, .aload_n 0), (37, .iconst 0)]) (jtb_ok (by decide +kernel)) (pc' := 38) (lv' := [(0, vR t)]) (st' := [vI (kI 0), vR t]) rfl ?_
  refine j_gd (fun h33 => ?_)
  refine j_nwA hx fwX13_28 wf808 ka808 ja808_3 h31 (by decide) nr808 fr808 (by decide +kernel) (by decide +kernel) h33 ?_
  refine j_ltw rfl (fun W34 hc35 => ?_)
  have h36 : jC W34 t = 8 := (congrFun hc35 _).trans h31
  refine j_runA hx 2 (tb := [(43, .aload_n 0), (44, .iconst 0)]) (jtb_ok (by decide +kernel)) (pc' := 45) (lv' := [(0, vR t)]) (st' := [vI (kI 0), vR t]) rfl ?_
  refine j_gd (fun h38 => ?_)
  refine j_nwA hx fwX13_31 wf809 ka809 ja809_3 h36 (by decide) nr809 fr809 (by decide +kernel) (by decide +kernel) h38 ?_
  refine j_ltw rfl (fun W39 hc40 => ?_)
  have h41 : jC W39 t = 8 := (congrFun hc40 _).trans h36
  refine j_runA hx 2 (tb := [(50, .aload_n 0), (51, .iconst 0)]) (jtb_ok (by decide +kernel)) (pc' := 52) (lv' := [(0, vR t)]) (st' := [vI (kI 0), vR t]) rfl ?_
  refine j_gd (fun h43 => ?_)
  refine j_nwA hx fwX13_34 wf810 ka810 ja810_3 h41 (by decide) nr810 fr810 (by decide +kernel) (by decide +kernel) h43 ?_
  refine j_ltw rfl (fun W44 hc45 => ?_)
  have h46 : jC W44 t = 8 := (congrFun hc45 _).trans h41
  refine j_runA hx 2 (tb := [(57, .aload_n 0), (58, .iconst 0)]) (jtb_ok (by decide +kernel)) (pc' := 59) (lv' := [(0, vR t)]) (st' := [vI (kI 0), vR t]) rfl ?_
  refine j_gd (fun h48 => ?_)
  refine j_nwA hx fwX13_37 wf811 ka811 ja811_5 h46 (by decide) nr811 fr811 (by decide +kernel) (by decide +kernel) h48 ?_
  refine j_ltw rfl (fun W49 hc50 => ?_)
  have h51 : jC W49 t = 8 := (congrFun hc50 _).trans h46
  refine j_runA hx 2 (tb := [(64, .aload_n 0), (65, .iconst 0)]) (jtb_ok (by decide +kernel)) (pc' := 66) (lv' := [(0, vR t)]) (st' := [vI (kI 0), vR t]) rfl ?_
  refine j_gd (fun h53 => ?_)
  refine j_nwB hx fwX13_40 wf812 kd812 ja812_6 h51 (by decide) nr812 fr812 (by decide +kernel) (by decide +kernel) h53 ?_
  refine j_ltw rfl (fun W54 hc55 => ?_)
  have h56 : jC W54 t = 8 := (congrFun hc55 _).trans h51
  refine j_runA hx 1 (tb := [(71, .aload_n 0)]) (jtb_ok (by decide +kernel)) (pc' := 72) (lv' := [(0, vR t)]) (st' := [vR t]) rfl ?_
  refine j_gd (fun h58 => ?_)
  refine j_new hx nlX13_21 (N := 2) rfl (by decide +kernel) h58 ?_
  refine j_ltn (fun W59 => ?_)
  refine j_runA hx 1 (tb := [(75, .dup)]) (jtb_ok (by decide +kernel)) (pc' := 76) (lv' := [(0, vR t)]) (st' := [vR (jX W54), vR (jX W54), vR t]) rfl ?_
  refine j_gd (fun h61 => ?_)
  refine j_WV (j_callI (av := []) (st := [vR (jX W54), vR t]) hx hr (Or.inr ⟨_, q1164⟩) q479 rfl q480 md_fro_init np_fro_init (cro_init (jX W54) W59) (by decide) (Nat.le_of_ble_eq_true rfl) h61 (by decide) (by decide +kernel)) (fun q62 _ => ?_)
  refine j_gd (fun h64 => ?_)
  refine j_putR hx fwX13_43 (wi813 hm) kd813 h64 (by decide) (by decide +kernel) nr813 fr813 ?_
  refine j_ltw rfl (fun W65 hc66 => ?_)
  have h67 : jC W65 t = 8 := (congrFun hc66 _).trans h64
  refine j_runA hx 2 (tb := [(82, .aload_n 0), (83, .iconst 0)]) (jtb_ok (by decide +kernel)) (pc' := 84) (lv' := [(0, vR t)]) (st' := [vI (kI 0), vR t]) rfl ?_
  refine j_gd (fun h69 => ?_)
  refine j_nwA hx fwX13_46 wf814 ka814 ja814_3 h67 (by decide) nr814 fr814 (by decide +kernel) (by decide +kernel) h69 ?_
  refine j_ltw rfl (fun W70 hc71 => ?_)
  have h72 : jC W70 t = 8 := (congrFun hc71 _).trans h67
  refine j_runA hx 2 (tb := [(89, .aload_n 0), (90, .iconst 0)]) (jtb_ok (by decide +kernel)) (pc' := 91) (lv' := [(0, vR t)]) (st' := [vI (kI 0), vR t]) rfl ?_
  refine j_gd (fun h74 => ?_)
  refine j_nwA hx fwX13_49 wf815 ka815 ja815_3 h72 (by decide) nr815 fr815 (by decide +kernel) (by decide +kernel) h74 ?_
  refine j_ltw rfl (fun W75 hc76 => ?_)
  have h77 : jC W75 t = 8 := (congrFun hc76 _).trans h72
  refine j_runA hx 2 (tb := [(96, .aload_n 0), (97, .iconst 0)]) (jtb_ok (by decide +kernel)) (pc' := 98) (lv' := [(0, vR t)]) (st' := [vI (kI 0), vR t]) rfl ?_
  refine j_gd (fun h79 => ?_)
  refine j_nwA hx fwX13_52 wf816 ka816 ja816_3 h77 (by decide) nr816 fr816 (by decide +kernel) (by decide +kernel) h79 ?_
  refine j_ltw rfl (fun W80 hc81 => ?_)
  have h82 : jC W80 t = 8 := (congrFun hc81 _).trans h77
  refine j_runA hx 2 (tb := [(103, .aload_n 0), (104, .iconst 0)]) (jtb_ok (by decide +kernel)) (pc' := 105) (lv' := [(0, vR t)]) (st' := [vI (kI 0), vR t]) rfl ?_
  refine j_gd (fun h84 => ?_)
  refine j_nwB hx fwX13_55 wf817 kd817 ja817_6 h82 (by decide) nr817 fr817 (by decide +kernel) (by decide +kernel) h84 ?_
  refine j_ltw rfl (fun W85 hc86 => ?_)
  have h87 : jC W85 t = 8 := (congrFun hc86 _).trans h82
  refine j_runA hx 2 (tb := [(110, .aload_n 0), (111, .iconst 0)]) (jtb_ok (by decide +kernel)) (pc' := 112) (lv' := [(0, vR t)]) (st' := [vI (kI 0), vR t]) rfl ?_
  refine j_gd (fun h89 => ?_)
  refine j_nwB hx fwX13_58 wf818 kd818 ja818_6 h87 (by decide) nr818 fr818 (by decide +kernel) (by decide +kernel) h89 ?_
  refine j_ltw rfl (fun W90 hc91 => ?_)
  have h92 : jC W90 t = 8 := (congrFun hc91 _).trans h87
  refine j_runA hx 2 (tb := [(117, .aload_n 0), (118, .iconst 0)]) (jtb_ok (by decide +kernel)) (pc' := 119) (lv' := [(0, vR t)]) (st' := [vI (kI 0), vR t]) rfl ?_
  refine j_gd (fun h94 => ?_)
  refine j_nwB hx fwX13_61 wf819 kd819 ja819_6 h92 (by decide) nr819 fr819 (by decide +kernel) (by decide +kernel) h94 ?_
  refine j_ltw rfl (fun W95 hc96 => ?_)
  have h97 : jC W95 t = 8 := (congrFun hc96 _).trans h92
  refine j_runA hx 2 (tb := [(124, .aload_n 0), (125, .iconst 0)]) (jtb_ok (by decide +kernel)) (pc' := 126) (lv' := [(0, vR t)]) (st' := [vI (kI 0), vR t]) rfl ?_
  refine j_gd (fun h99 => ?_)
  refine j_nwA hx fwX13_64 wf820 ka820 ja820_3 h97 (by decide) nr820 fr820 (by decide +kernel) (by decide +kernel) h99 ?_
  refine j_ltw rfl (fun W100 hc101 => ?_)
  have h102 : jC W100 t = 8 := (congrFun hc101 _).trans h97
  refine j_runA hx 2 (tb := [(131, .aload_n 0), (132, .iconst 0)]) (jtb_ok (by decide +kernel)) (pc' := 133) (lv' := [(0, vR t)]) (st' := [vI (kI 0), vR t]) rfl ?_
  refine j_gd (fun h104 => ?_)
  refine j_nwA hx fwX13_67 wf821 ka821 ja821_3 h102 (by decide) nr821 fr821 (by decide +kernel) (by decide +kernel) h104 ?_
  refine j_ltw rfl (fun W105 hc106 => ?_)
  have h107 : jC W105 t = 8 := (congrFun hc106 _).trans h102
  refine j_runA hx 2 (tb := [(138, .aload_n 0), (139, .iconst 0)]) (jtb_ok (by decide +kernel)) (pc' := 140) (lv' := [(0, vR t)]) (st' := [vI (kI 0), vR t]) rfl ?_
  refine j_gd (fun h109 => ?_)
  refine j_nwA hx fwX13_70 wf822 ka822 ja822_3 h107 (by decide) nr822 fr822 (by decide +kernel) (by decide +kernel) h109 ?_
  refine j_ltw rfl (fun W110 hc111 => ?_)
  have h112 : jC W110 t = 8 := (congrFun hc111 _).trans h107
  refine j_runA hx 2 (tb := [(145, .aload_n 0), (146, .iconst 0)]) (jtb_ok (by decide +kernel)) (pc' := 147) (lv' := [(0, vR t)]) (st' := [vI (kI 0), vR t]) rfl ?_
  refine j_gd (fun h114 => ?_)
  refine j_nwB hx fwX13_73 wf823 kd823 ja823_6 h112 (by decide) nr823 fr823 (by decide +kernel) (by decide +kernel) h114 ?_
  refine j_ltw rfl (fun W115 hc116 => ?_)
  have h117 : jC W115 t = 8 := (congrFun hc116 _).trans h112
  refine j_runA hx 2 (tb := [(152, .aload_n 0), (153, .iconst 0)]) (jtb_ok (by decide +kernel)) (pc' := 154) (lv' := [(0, vR t)]) (st' := [vI (kI 0), vR t]) rfl ?_
  refine j_gd (fun h119 => ?_)
  refine j_nwB hx fwX13_76 wf824 kd824 ja824_6 h117 (by decide) nr824 fr824 (by decide +kernel) (by decide +kernel) h119 ?_
  refine j_ltw rfl (fun W120 hc121 => ?_)
  have h122 : jC W120 t = 8 := (congrFun hc121 _).trans h117
  refine j_runA hx 2 (tb := [(159, .aload_n 0), (160, .iconst 0)]) (jtb_ok (by decide +kernel)) (pc' := 161) (lv' := [(0, vR t)]) (st' := [vI (kI 0), vR t]) rfl ?_
  refine j_gd (fun h124 => ?_)
  refine j_nwB hx fwX13_79 wf825 kd825 ja825_6 h122 (by decide) nr825 fr825 (by decide +kernel) (by decide +kernel) h124 ?_
  refine j_ltw rfl (fun W125 hc126 => ?_)
  have h127 : jC W125 t = 8 := (congrFun hc126 _).trans h122
  refine j_runA hx 2 (tb := [(166, .aload_n 0), (167, .iconst 0)]) (jtb_ok (by decide +kernel)) (pc' := 168) (lv' := [(0, vR t)]) (st' := [vI (kI 0), vR t]) rfl ?_
  refine j_gd (fun h129 => ?_)
  refine j_nwB hx fwX13_82 wf826 kd826 ja826_6 h127 (by decide) nr826 fr826 (by decide +kernel) (by decide +kernel) h129 ?_
  refine j_ltw rfl (fun W130 hc131 => ?_)
  have h132 : jC W130 t = 8 := (congrFun hc131 _).trans h127
  refine j_runA hx 2 (tb := [(173, .aload_n 0), (174, .iconst 0)]) (jtb_ok (by decide +kernel)) (pc' := 175) (lv' := [(0, vR t)]) (st' := [vI (kI 0), vR t]) rfl ?_
  refine j_gd (fun h134 => ?_)
  refine j_nwB hx fwX13_85 wf827 kd827 ja827_6 h132 (by decide) nr827 fr827 (by decide +kernel) (by decide +kernel) h134 ?_
  refine j_ltw rfl (fun W135 hc136 => ?_)
  have h137 : jC W135 t = 8 := (congrFun hc136 _).trans h132
  refine j_runA hx 1 (tb := [(180, .aload_n 0)]) (jtb_ok (by decide +kernel)) (pc' := 181) (lv' := [(0, vR t)]) (st' := [vR t]) rfl ?_
  refine j_gd (fun h139 => ?_)
  refine j_new hx nlX13_21 (N := 2) rfl (by decide +kernel) h139 ?_
  refine j_ltn (fun W140 => ?_)
  refine j_runA hx 1 (tb := [(184, .dup)]) (jtb_ok (by decide +kernel)) (pc' := 185) (lv' := [(0, vR t)]) (st' := [vR (jX W135), vR (jX W135), vR t]) rfl ?_
  refine j_gd (fun h142 => ?_)
  refine j_WV (j_callI (av := []) (st := [vR (jX W135), vR t]) hx hr (Or.inr ⟨_, q1164⟩) q479 rfl q480 md_fro_init np_fro_init (cro_init (jX W135) W140) (by decide) (Nat.le_of_ble_eq_true rfl) h142 (by decide) (by decide +kernel)) (fun q143 _ => ?_)
  refine j_gd (fun h145 => ?_)
  refine j_putR hx fwX13_88 (wi828 hm) kd828 h145 (by decide) (by decide +kernel) nr828 fr828 ?_
  refine j_ltw rfl (fun W146 hc147 => ?_)
  have h148 : jC W146 t = 8 := (congrFun hc147 _).trans h145
  exact j_vret hx hm (by decide +kernel) (he _)
theorem cog_init (t : Nat) (W : jW) : jM yX13_init cX13_init 1 (Option.none : Option Jvm.ClassFile.FieldType) [] 2 26 [vR t] W ((fog_init t W).bind (fun q => some (.returned none, q))) := 
  jM.of (Nat.le_of_ble_eq_true rfl) (fun x hx hm hr => wog_init ⟨hx, hm, hr, fun _ => rfl⟩ W)
def hwr_init (x : jCx) (en : (jW) → Option (Outcome × jW)) (t : Nat) (a1 : Nat) : Prop :=
  jOK x RX14 cX14_init 2 ∧
  jMt x "<init>" (Option.none : Option Jvm.ClassFile.FieldType) [] ∧
  jRm x 2 24 ∧
  (∀ q : jW, en q = some (.returned none, q))
theorem wwr_init {x : jCx} {en : (jW) → Option (Outcome × jW)} {t : Nat} {a1 : Nat} (h : hwr_init x en t a1) (W : jW) : jJ x 2 0 [(0, vR t), (1, vR a1)] [] W (fwr_init t a1 W) en := by
  have h0 := h
  obtain ⟨hx, hm, hr, he⟩ := h0
  unfold fwr_init
  refine j_runA hx 1 (tb := [(0, .aload_n 0)]) (jtb_ok (by decide +kernel)) (pc' := 1) (lv' := [(0, vR t), (1, vR a1)]) (st' := [vR t]) rfl ?_
  refine j_gd (fun h1 => ?_)
  refine j_WV (j_callI (av := []) (st := []) hx hr (Or.inr ⟨_, q1262⟩) q461 rfl q462 md_fsr_init np_fsr_init (csr_init t W) (by decide) (Nat.le_of_ble_eq_true rfl) h1 (by decide) (by decide +kernel)) (fun q2 _ => ?_)
  refine j_runA hx 2 (tb := [(4, .aload_n 0), (5, .iconst 0)]) (jtb_ok (by decide +kernel)) (pc' := 6) (lv' := [(0, vR t), (1, vR a1)]) (st' := [vI (kI 0), vR t]) rfl ?_
  refine j_gd (fun h4 => ?_)
  refine j_gd (fun h5 => ?_)
  refine j_nwA hx fwX14_9 wf905 ka905 ja905_3 h5 (by decide) nr905 fr905 (by decide +kernel) (by decide +kernel) h4 ?_
  refine j_ltw rfl (fun W6 hc7 => ?_)
  have h8 : jC W6 t = 9 := (congrFun hc7 _).trans h5
  refine j_runA hx 2 (tb := [(11, .aload_n 0), (12, .iconst 0)]) (jtb_ok (by decide +kernel)) (pc' := 13) (lv' := [(0, vR t), (1, vR a1)]) (st' := [vI (kI 0), vR t]) rfl ?_
  refine j_gd (fun h10 => ?_)
  refine j_nwA hx fwX14_15 wf906 ka906 ja906_3 h8 (by decide) nr906 fr906 (by decide +kernel) (by decide +kernel) h10 ?_
  refine j_ltw rfl (fun W11 hc12 => ?_)
  have h13 : jC W11 t = 9 := (congrFun hc12 _).trans h8
  refine j_runA hx 2 (tb := [(18, .aload_n 0), (19, .iconst 0)]) (jtb_ok (by decide +kernel)) (pc' := 20) (lv' := [(0, vR t), (1, vR a1)]) (st' := [vI (kI 0), vR t]) rfl ?_
  refine j_gd (fun h15 => ?_)
  refine j_nwA hx fwX14_18 wf907 ka907 ja907_5 h13 (by decide) nr907 fr907 (by decide +kernel) (by decide +kernel) h15 ?_
  refine j_ltw rfl (fun W16 hc17 => ?_)
  have h18 : jC W16 t = 9 := (congrFun hc17 _).trans h13
  refine j_runA hx 2 (tb := [(25, .aload_n 0), (26, .iconst 0)]) (jtb_ok (by decide +kernel)) (pc' := 27) (lv' := [(0, vR t), (1, vR a1)]) (st' := [vI (kI 0), vR t]) rfl ?_
  refine j_gd (fun h20 => ?_)
  refine j_nwA hx fwX14_22 wf908 ka908 ja908_3 h18 (by decide) nr908 fr908 (by decide +kernel) (by decide +kernel) h20 ?_
  refine j_ltw rfl (fun W21 hc22 => ?_)
  have h23 : jC W21 t = 9 := (congrFun hc22 _).trans h18
  refine j_runA hx 1 (tb := [(32, .aload_n 0)]) (jtb_ok (by decide +kernel)) (pc' := 33) (lv' := [(0, vR t), (1, vR a1)]) (st' := [vR t]) rfl ?_
  refine j_ldc hx (v := (kI 60000)) (jkc q1263 (by decide +kernel)) (by decide +kernel) ?_
  refine j_gd (fun h25 => ?_)
  refine j_nwA hx fwX14_26 (wi913 hm) ka913 ja913_4 h23 (by decide) nr913 fr913 (by decide +kernel) (by decide +kernel) h25 ?_
  refine j_ltw rfl (fun W26 hc27 => ?_)
  have h28 : jC W26 t = 9 := (congrFun hc27 _).trans h23
  refine j_runA hx 2 (tb := [(40, .aload_n 0), (41, .aload_n 1)]) (jtb_ok (by decide +kernel)) (pc' := 42) (lv' := [(0, vR t), (1, vR a1)]) (st' := [vR a1, vR t]) rfl ?_
  refine j_putR hx fwX14_30 (wi900 hm) kd900 h28 (by decide) (by decide +kernel) nr900 fr900 ?_
  refine j_ltw rfl (fun W30 hc31 => ?_)
  have h32 : jC W30 t = 9 := (congrFun hc31 _).trans h28
  exact j_vret hx hm (by decide +kernel) (he _)
theorem cwr_init (t : Nat) (a1 : Nat) (W : jW) : jM yX14_init cX14_init 2 (Option.none : Option Jvm.ClassFile.FieldType) [] 2 24 [vR t, vR a1] W ((fwr_init t a1 W).bind (fun q => some (.returned none, q))) := 
  jM.of (Nat.le_of_ble_eq_true rfl) (fun x hx hm hr => wwr_init ⟨hx, hm, hr, fun _ => rfl⟩ W)
def hha_init (x : jCx) (en : (jW) → Option (Outcome × jW)) (t : Nat) : Prop :=
  jOK x RX16 cX16_init 1 ∧
  jMt x "<init>" (Option.none : Option Jvm.ClassFile.FieldType) [] ∧
  jRm x 8 121 ∧
  (∀ q : jW, en q = some (.returned none, q))
theorem wha_init {x : jCx} {en : (jW) → Option (Outcome × jW)} {t : Nat} (h : hha_init x en t) (W : jW) : jJ x 1 0 [(0, vR t)] [] W (fha_init t W) en := by
  have h0 := h
  obtain ⟨hx, hm, hr, he⟩ := h0
  unfold fha_init
  refine j_runA hx 1 (tb := [(0, .aload_n 0)]) (jtb_ok (by decide +kernel)) (pc' := 1) (lv' := [(0, vR t)]) (st' := [vR t]) rfl ?_
  refine j_gd (fun h1 => ?_)
  refine j_obj hx hr q1409 h1 q264 q265 (by decide +kernel) (by decide) (Nat.le_of_ble_eq_true rfl) ?_
  refine j_runA hx 1 (tb := [(4, .aload_n 0)]) (jtb_ok (by decide +kernel)) (pc' := 5) (lv' := [(0, vR t)]) (st' := [vR t]) rfl ?_
  refine j_gd (fun h2 => ?_)
  refine j_ise (i1 := 7) (i2 := 9) hx hr q1410 q1411 (by decide +kernel) (by decide +kernel) (by decide +kernel) h2 (by decide) (Nat.le_of_ble_eq_true rfl) ?_
  refine j_ltn (fun W3 => ?_)
  refine j_gd (fun h5 => ?_)
  refine j_putR hx fwX16_10 (wi1101 hm) kd1101 h5 (by decide) (by decide +kernel) nr1101 fr1101 ?_
  refine j_ltw rfl (fun W6 hc7 => ?_)
  have h8 : jC W6 t = 11 := (congrFun hc7 _).trans h5
  exact j_vret hx hm (by decide +kernel) (he _)
theorem cha_init (t : Nat) (W : jW) : jM yX16_init cX16_init 1 (Option.none : Option Jvm.ClassFile.FieldType) [] 8 121 [vR t] W ((fha_init t W).bind (fun q => some (.returned none, q))) := 
  jM.of (Nat.le_of_ble_eq_true rfl) (fun x hx hm hr => wha_init ⟨hx, hm, hr, fun _ => rfl⟩ W)
def hme_init (x : jCx) (en : (jW) → Option (Outcome × jW)) (t : Nat) (a1 : Nat) (a2 : Nat) : Prop :=
  jOK x RX17 cX17_init 3 ∧
  jMt x "<init>" (Option.none : Option Jvm.ClassFile.FieldType) [] ∧
  jRm x 1 12 ∧
  (∀ q : jW, en q = some (.returned none, q))
theorem wme_init {x : jCx} {en : (jW) → Option (Outcome × jW)} {t : Nat} {a1 : Nat} {a2 : Nat} (h : hme_init x en t a1 a2) (W : jW) : jJ x 3 0 [(0, vR t), (1, vR a1), (2, vR a2)] [] W (fme_init t a1 a2 W) en := by
  have h0 := h
  obtain ⟨hx, hm, hr, he⟩ := h0
  unfold fme_init
  refine j_runA hx 1 (tb := [(0, .aload_n 0)]) (jtb_ok (by decide +kernel)) (pc' := 1) (lv' := [(0, vR t), (1, vR a1), (2, vR a2)]) (st' := [vR t]) rfl ?_
  refine j_gd (fun h1 => ?_)
  refine j_obj hx hr q1425 h1 q264 q265 (by decide +kernel) (by decide) (Nat.le_of_ble_eq_true rfl) ?_
  refine j_runA hx 1 (tb := [(4, .aload_n 0)]) (jtb_ok (by decide +kernel)) (pc' := 5) (lv' := [(0, vR t), (1, vR a1), (2, vR a2)]) (st' := [vR t]) rfl ?_
  refine j_ldc hx (v := (kI 125536)) (jkc q1426 (by decide +kernel)) (by decide +kernel) ?_
  refine j_gd (fun h2 => ?_)
  refine j_gd (fun h3 => ?_)
  refine j_nwA hx fwX17_12 (wi1202 hm) ka1202 ja1202_4 h3 (by decide) nr1202 fr1202 (by decide +kernel) (by decide +kernel) h2 ?_
  refine j_ltw rfl (fun W4 hc5 => ?_)
  have h6 : jC W4 t = 12 := (congrFun hc5 _).trans h3
  refine j_runA hx 2 (tb := [(12, .aload_n 0), (13, .iconst 5)]) (jtb_ok (by decide +kernel)) (pc' := 14) (lv' := [(0, vR t), (1, vR a1), (2, vR a2)]) (st' := [vI (kI 5), vR t]) rfl ?_
  refine j_gd (fun h8 => ?_)
  refine j_nwA hx fwX17_16 (wi1203 hm) ka1203 ja1203_3 h6 (by decide) nr1203 fr1203 (by decide +kernel) (by decide +kernel) h8 ?_
  refine j_ltw rfl (fun W9 hc10 => ?_)
  have h11 : jC W9 t = 12 := (congrFun hc10 _).trans h6
  refine j_runA hx 2 (tb := [(19, .aload_n 0), (20, .iconst 5)]) (jtb_ok (by decide +kernel)) (pc' := 21) (lv' := [(0, vR t), (1, vR a1), (2, vR a2)]) (st' := [vI (kI 5), vR t]) rfl ?_
  refine j_gd (fun h13 => ?_)
  refine j_nwA hx fwX17_20 (wi1204 hm) ka1204 ja1204_3 h11 (by decide) nr1204 fr1204 (by decide +kernel) (by decide +kernel) h13 ?_
  refine j_ltw rfl (fun W14 hc15 => ?_)
  have h16 : jC W14 t = 12 := (congrFun hc15 _).trans h11
  refine j_runA hx 2 (tb := [(26, .aload_n 0), (27, .sipush 15708)]) (jtb_ok (by decide +kernel)) (pc' := 30) (lv' := [(0, vR t), (1, vR a1), (2, vR a2)]) (st' := [vI (kI 15708), vR t]) rfl ?_
  refine j_gd (fun h18 => ?_)
  refine j_nwA hx fwX17_23 (wi1205 hm) ka1205 ja1205_4 h16 (by decide) nr1205 fr1205 (by decide +kernel) (by decide +kernel) h18 ?_
  refine j_ltw rfl (fun W19 hc20 => ?_)
  have h21 : jC W19 t = 12 := (congrFun hc20 _).trans h16
  refine j_runA hx 2 (tb := [(35, .aload_n 0), (36, .sipush 15708)]) (jtb_ok (by decide +kernel)) (pc' := 39) (lv' := [(0, vR t), (1, vR a1), (2, vR a2)]) (st' := [vI (kI 15708), vR t]) rfl ?_
  refine j_gd (fun h23 => ?_)
  refine j_nwA hx fwX17_26 (wi1206 hm) ka1206 ja1206_3 h21 (by decide) nr1206 fr1206 (by decide +kernel) (by decide +kernel) h23 ?_
  refine j_ltw rfl (fun W24 hc25 => ?_)
  have h26 : jC W24 t = 12 := (congrFun hc25 _).trans h21
  refine j_runA hx 2 (tb := [(44, .aload_n 0), (45, .aload_n 1)]) (jtb_ok (by decide +kernel)) (pc' := 46) (lv' := [(0, vR t), (1, vR a1), (2, vR a2)]) (st' := [vR a1, vR t]) rfl ?_
  refine j_putR hx fwX17_29 (wi1200 hm) kd1200 h26 (by decide) (by decide +kernel) nr1200 fr1200 ?_
  refine j_ltw rfl (fun W28 hc29 => ?_)
  have h30 : jC W28 t = 12 := (congrFun hc29 _).trans h26
  refine j_runA hx 2 (tb := [(49, .aload_n 0), (50, .aload_n 2)]) (jtb_ok (by decide +kernel)) (pc' := 51) (lv' := [(0, vR t), (1, vR a1), (2, vR a2)]) (st' := [vR a2, vR t]) rfl ?_
  refine j_putR hx fwX17_33 (wi1201 hm) kd1201 h30 (by decide) (by decide +kernel) nr1201 fr1201 ?_
  refine j_ltw rfl (fun W32 hc33 => ?_)
  have h34 : jC W32 t = 12 := (congrFun hc33 _).trans h30
  exact j_vret hx hm (by decide +kernel) (he _)
theorem cme_init (t : Nat) (a1 : Nat) (a2 : Nat) (W : jW) : jM yX17_init cX17_init 3 (Option.none : Option Jvm.ClassFile.FieldType) [] 1 12 [vR t, vR a1, vR a2] W ((fme_init t a1 a2 W).bind (fun q => some (.returned none, q))) := 
  jM.of (Nat.le_of_ble_eq_true rfl) (fun x hx hm hr => wme_init ⟨hx, hm, hr, fun _ => rfl⟩ W)
def hma_init (x : jCx) (en : (jW) → Option (Outcome × jW)) (t : Nat) (a1 : Int32) (a2 : Nat) (a3 : Nat) (a4 : Nat) : Prop :=
  jOK x RX15 cX15_init 5 ∧
  jMt x "<init>" (Option.none : Option Jvm.ClassFile.FieldType) [] ∧
  jRm x 9 135 ∧
  (∀ q : jW, en q = some (.returned none, q))
theorem wma_init {x : jCx} {en : (jW) → Option (Outcome × jW)} {t : Nat} {a1 : Int32} {a2 : Nat} {a3 : Nat} {a4 : Nat} (h : hma_init x en t a1 a2 a3 a4) (W : jW) : jJ x 5 0 [(0, vR t), (1, vI a1), (2, vR a2), (3, vR a3), (4, vR a4)] [] W (fma_init t a1 a2 a3 a4 W) en := by
  have h0 := h
  obtain ⟨hx, hm, hr, he⟩ := h0
  unfold fma_init
  refine j_runA hx 1 (tb := [(0, .aload_n 0)]) (jtb_ok (by decide +kernel)) (pc' := 1) (lv' := [(0, vR t), (1, vI a1), (2, vR a2), (3, vR a3), (4, vR a4)]) (st' := [vR t]) rfl ?_
  refine j_gd (fun h1 => ?_)
  refine j_obj hx hr q1403 h1 q264 q265 (by decide +kernel) (by decide) (Nat.le_of_ble_eq_true rfl) ?_
  refine j_runA hx 1 (tb := [(4, .aload_n 0)]) (jtb_ok (by decide +kernel)) (pc' := 5) (lv' := [(0, vR t), (1, vI a1), (2, vR a2), (3, vR a3), (4, vR a4)]) (st' := [vR t]) rfl ?_
  refine j_gd (fun h2 => ?_)
  refine j_new hx nlX15_9 (N := 2) rfl (by decide +kernel) h2 ?_
  refine j_ltn (fun W3 => ?_)
  refine j_runA hx 1 (tb := [(8, .dup)]) (jtb_ok (by decide +kernel)) (pc' := 9) (lv' := [(0, vR t), (1, vI a1), (2, vR a2), (3, vR a3), (4, vR a4)]) (st' := [vR (jX W), vR (jX W), vR t]) rfl ?_
  refine j_gd (fun h5 => ?_)
  refine j_WV (j_callI (av := []) (st := [vR (jX W), vR t]) hx hr (Or.inr ⟨_, q1406⟩) q1407 rfl q1408 md_fha_init np_fha_init (cha_init (jX W) W3) (by decide) (Nat.le_of_ble_eq_true rfl) h5 (by decide) (by decide +kernel)) (fun q6 _ => ?_)
  refine j_gd (fun h8 => ?_)
  refine j_putR hx fwX15_12 (wi1004 hm) kd1004 h8 (by decide) (by decide +kernel) nr1004 fr1004 ?_
  refine j_ltw rfl (fun W9 hc10 => ?_)
  have h11 : jC W9 t = 10 := (congrFun hc10 _).trans h8
  refine j_runA hx 2 (tb := [(15, .aload_n 0), (16, .bipush 32)]) (jtb_ok (by decide +kernel)) (pc' := 18) (lv' := [(0, vR t), (1, vI a1), (2, vR a2), (3, vR a3), (4, vR a4)]) (st' := [vI (kI 32), vR t]) rfl ?_
  refine j_gd (fun h13 => ?_)
  refine j_nwB hx fwX15_18 (wi1007 hm) kd1007 ja1007_6 h11 (by decide) nr1007 fr1007 (by decide +kernel) (by decide +kernel) h13 ?_
  refine j_ltw rfl (fun W14 hc15 => ?_)
  have h16 : jC W14 t = 10 := (congrFun hc15 _).trans h11
  refine j_runA hx 2 (tb := [(23, .aload_n 0), (24, .bipush 32)]) (jtb_ok (by decide +kernel)) (pc' := 26) (lv' := [(0, vR t), (1, vI a1), (2, vR a2), (3, vR a3), (4, vR a4)]) (st' := [vI (kI 32), vR t]) rfl ?_
  refine j_gd (fun h18 => ?_)
  refine j_nwA hx fwX15_22 (wi1008 hm) ka1008 ja1008_3 h16 (by decide) nr1008 fr1008 (by decide +kernel) (by decide +kernel) h18 ?_
  refine j_ltw rfl (fun W19 hc20 => ?_)
  have h21 : jC W19 t = 10 := (congrFun hc20 _).trans h16
  refine j_runA hx 2 (tb := [(31, .aload_n 0), (32, .bipush 32)]) (jtb_ok (by decide +kernel)) (pc' := 34) (lv' := [(0, vR t), (1, vI a1), (2, vR a2), (3, vR a3), (4, vR a4)]) (st' := [vI (kI 32), vR t]) rfl ?_
  refine j_gd (fun h23 => ?_)
  refine j_nwA hx fwX15_26 (wi1009 hm) ka1009 ja1009_3 h21 (by decide) nr1009 fr1009 (by decide +kernel) (by decide +kernel) h23 ?_
  refine j_ltw rfl (fun W24 hc25 => ?_)
  have h26 : jC W24 t = 10 := (congrFun hc25 _).trans h21
  refine j_runA hx 2 (tb := [(39, .aload_n 0), (40, .sipush 4096)]) (jtb_ok (by decide +kernel)) (pc' := 43) (lv' := [(0, vR t), (1, vI a1), (2, vR a2), (3, vR a3), (4, vR a4)]) (st' := [vI (kI 4096), vR t]) rfl ?_
  refine j_gd (fun h28 => ?_)
  refine j_nwA hx fwX15_29 (wi1020 hm) ka1020 ja1020_3 h26 (by decide) nr1020 fr1020 (by decide +kernel) (by decide +kernel) h28 ?_
  refine j_ltw rfl (fun W29 hc30 => ?_)
  have h31 : jC W29 t = 10 := (congrFun hc30 _).trans h26
  refine j_runA hx 2 (tb := [(48, .aload_n 0), (49, .sipush 800)]) (jtb_ok (by decide +kernel)) (pc' := 52) (lv' := [(0, vR t), (1, vI a1), (2, vR a2), (3, vR a3), (4, vR a4)]) (st' := [vI (kI 800), vR t]) rfl ?_
  refine j_gd (fun h33 => ?_)
  refine j_nwB hx fwX15_32 (wi1021 hm) kd1021 ja1021_6 h31 (by decide) nr1021 fr1021 (by decide +kernel) (by decide +kernel) h33 ?_
  refine j_ltw rfl (fun W34 hc35 => ?_)
  have h36 : jC W34 t = 10 := (congrFun hc35 _).trans h31
  refine j_runA hx 2 (tb := [(57, .aload_n 0), (58, .sipush 16384)]) (jtb_ok (by decide +kernel)) (pc' := 61) (lv' := [(0, vR t), (1, vI a1), (2, vR a2), (3, vR a3), (4, vR a4)]) (st' := [vI (kI 16384), vR t]) rfl ?_
  refine j_gd (fun h38 => ?_)
  refine j_nwA hx fwX15_35 (wi1022 hm) ka1022 ja1022_4 h36 (by decide) nr1022 fr1022 (by decide +kernel) (by decide +kernel) h38 ?_
  refine j_ltw rfl (fun W39 hc40 => ?_)
  have h41 : jC W39 t = 10 := (congrFun hc40 _).trans h36
  refine j_runA hx 2 (tb := [(66, .aload_n 0), (67, .iload_n 1)]) (jtb_ok (by decide +kernel)) (pc' := 68) (lv' := [(0, vR t), (1, vI a1), (2, vR a2), (3, vR a3), (4, vR a4)]) (st' := [vI a1, vR t]) rfl ?_
  refine j_putI hx fwX15_39 (wi1000 hm) kd1000 h41 (by decide) (by decide +kernel) (ni1000 _) (fi1000 _) ?_
  refine j_ltw rfl (fun W43 hc44 => ?_)
  have h45 : jC W43 t = 10 := (congrFun hc44 _).trans h41
  refine j_runA hx 2 (tb := [(71, .aload_n 0), (72, .aload_n 2)]) (jtb_ok (by decide +kernel)) (pc' := 73) (lv' := [(0, vR t), (1, vI a1), (2, vR a2), (3, vR a3), (4, vR a4)]) (st' := [vR a2, vR t]) rfl ?_
  refine j_putR hx fwX15_43 (wi1001 hm) kd1001 h45 (by decide) (by decide +kernel) nr1001 fr1001 ?_
  refine j_ltw rfl (fun W47 hc48 => ?_)
  have h49 : jC W47 t = 10 := (congrFun hc48 _).trans h45
  refine j_runA hx 2 (tb := [(76, .aload_n 0), (77, .aload_n 3)]) (jtb_ok (by decide +kernel)) (pc' := 78) (lv' := [(0, vR t), (1, vI a1), (2, vR a2), (3, vR a3), (4, vR a4)]) (st' := [vR a3, vR t]) rfl ?_
  refine j_putR hx fwX15_47 (wi1002 hm) kd1002 h49 (by decide) (by decide +kernel) nr1002 fr1002 ?_
  refine j_ltw rfl (fun W51 hc52 => ?_)
  have h53 : jC W51 t = 10 := (congrFun hc52 _).trans h49
  refine j_runA hx 2 (tb := [(81, .aload_n 0), (82, .aload 4)]) (jtb_ok (by decide +kernel)) (pc' := 84) (lv' := [(0, vR t), (1, vI a1), (2, vR a2), (3, vR a3), (4, vR a4)]) (st' := [vR a4, vR t]) rfl ?_
  refine j_putR hx fwX15_51 (wi1003 hm) kd1003 h53 (by decide) (by decide +kernel) nr1003 fr1003 ?_
  refine j_ltw rfl (fun W55 hc56 => ?_)
  have h57 : jC W55 t = 10 := (congrFun hc56 _).trans h53
  refine j_runA hx 1 (tb := [(87, .aload_n 0)]) (jtb_ok (by decide +kernel)) (pc' := 88) (lv' := [(0, vR t), (1, vI a1), (2, vR a2), (3, vR a3), (4, vR a4)]) (st' := [vR t]) rfl ?_
  refine j_gd (fun h59 => ?_)
  refine j_new hx nlX15_55 (N := 7) rfl (by decide +kernel) h59 ?_
  refine j_ltn (fun W60 => ?_)
  refine j_runA hx 3 (tb := [(91, .dup), (92, .aload_n 2), (93, .aload_n 0)]) (jtb_ok (by decide +kernel)) (pc' := 94) (lv' := [(0, vR t), (1, vI a1), (2, vR a2), (3, vR a3), (4, vR a4)]) (st' := [vR t, vR a2, vR (jX W55), vR (jX W55), vR t]) rfl ?_
  refine j_gd (fun h62 => ?_)
  refine j_getR hx flX15_12 kl1004 h62 (by decide) (by decide +kernel) ?_
  refine j_gd (fun h63 => ?_)
  refine j_WV (j_callI (av := [vR a2, vR (jR W60 1004 t)]) (st := [vR (jX W55), vR t]) hx hr (Or.inl q1422) q1423 rfl q1424 md_fme_init np_fme_init (cme_init (jX W55) a2 (jR W60 1004 t) W60) (by decide) (Nat.le_of_ble_eq_true rfl) h63 (by decide) (by decide +kernel)) (fun q64 _ => ?_)
  refine j_gd (fun h66 => ?_)
  refine j_putR hx fwX15_60 (wi1005 hm) kd1005 h66 (by decide) (by decide +kernel) nr1005 fr1005 ?_
  refine j_ltw rfl (fun W67 hc68 => ?_)
  have h69 : jC W67 t = 10 := (congrFun hc68 _).trans h66
  exact j_vret hx hm (by decide +kernel) (he _)
theorem cma_init (t : Nat) (a1 : Int32) (a2 : Nat) (a3 : Nat) (a4 : Nat) (W : jW) : jM yX15_init cX15_init 5 (Option.none : Option Jvm.ClassFile.FieldType) [] 9 135 [vR t, vI a1, vR a2, vR a3, vR a4] W ((fma_init t a1 a2 a3 a4 W).bind (fun q => some (.returned none, q))) := 
  jM.of (Nat.le_of_ble_eq_true rfl) (fun x hx hm hr => wma_init ⟨hx, hm, hr, fun _ => rfl⟩ W)
def hcl_forgetRuns (x : jCx) (en : (fcl_forgetRuns_S ⊕ (jW)) → Option (Outcome × jW)) (t : Nat) : Prop :=
  jOK x RX0 cX0_forgetRuns 2 ∧
  jMt x "forgetRuns" (Option.none : Option Jvm.ClassFile.FieldType) [] ∧
  jRm x 0 0 ∧
  (∀ q : jW, en (.inr q) = some (.returned none, q)) ∧
  (∀ (l1 : Int32) (W : jW), jJ x 2 2 [(0, vR t), (1, vI l1)] [] W (some (.inl (l1, W))) en)
theorem wcl_forgetRuns_2 {x : jCx} {en : (fcl_forgetRuns_S ⊕ (jW)) → Option (Outcome × jW)} {t : Nat} (h : hcl_forgetRuns x en t) (l1 : Int32) (W : jW) : jJ x 2 2 [(0, vR t), (1, vI l1)] [] W (fcl_forgetRuns_2 t l1 W) en := by
  have h0 := h
  obtain ⟨hx, hm, hr, he, k2⟩ := h0
  unfold fcl_forgetRuns_2
  refine j_runA hx 2 (tb := [(2, .iload_n 1), (3, .iconst 3)]) (jtb_ok (by decide +kernel)) (pc' := 4) (lv' := [(0, vR t), (1, vI l1)]) (st' := [vI (kI 3), vI l1]) rfl ?_
  refine j_icmp_ge hx (off := 19) (tgt := 23) (by decide +kernel) (by decide) (fun _ => ?_) (fun _ => ?_)
  · exact j_vret hx hm (by decide +kernel) (he _)
  refine j_runA hx 1 (tb := [(7, .aload_n 0)]) (jtb_ok (by decide +kernel)) (pc' := 8) (lv' := [(0, vR t), (1, vI l1)]) (st' := [vR t]) rfl ?_
  refine j_gd (fun h2 => ?_)
  refine j_getR hx flX0_51 kl114 h2 (by decide) (by decide +kernel) ?_
  refine j_runA hx 1 (tb := [(11, .iload_n 1)]) (jtb_ok (by decide +kernel)) (pc' := 12) (lv' := [(0, vR t), (1, vI l1)]) (st' := [vI l1, vR (jR W 114 t)]) rfl ?_
  refine j_gd (fun h3 => ?_)
  refine j_aald hx (f := 114) (o := t) kd114 rfl (by decide +kernel) h3 ?_
  refine j_runA hx 1 (tb := [(13, .iconst 0)]) (jtb_ok (by decide +kernel)) (pc' := 14) (lv' := [(0, vR t), (1, vI l1)]) (st' := [vI (kI 0), vR (jE W 114 t (ix l1))]) rfl ?_
  refine j_gd (fun h4 => ?_)
  refine j_putI hx fwX0_185 wf1023 kd1023 h4 (by decide) (by decide +kernel) (nz1023 jz0) (fz1023 jz0) ?_
  refine j_ltw rfl (fun W5 hc6 => ?_)
  have h7 : jC W5 t = 1 := (congrFun hc6 _).trans h2
  have h8 : jC W5 (jE W 114 t (ix l1)) = 10 := (congrFun hc6 _).trans h4
  refine j_runA hx 1 (tb := [(17, .iinc 1 1)]) (jtb_ok (by decide +kernel)) (pc' := 20) (lv' := [(1, vI (l1 + (kI 1))), (0, vR t)]) (st' := []) rfl ?_
  refine j_let (v := (l1 + (kI 1))) (lv := fun v10 => [(1, vI v10), (0, vR t)]) (st := fun _ => []) (fun v10 => ?_)
  refine j_goto hx (off := -18) (by decide +kernel) (tgt := 2) (by decide) ?_
  refine j_lv (lv' := [(0, vR t), (1, vI v10)]) ⟨rfl, rfl, trivial⟩ ?_
  exact k2 v10 W5
theorem wcl_forgetRuns {x : jCx} {en : (fcl_forgetRuns_S ⊕ (jW)) → Option (Outcome × jW)} {t : Nat} (h : hcl_forgetRuns x en t) (W : jW) : jJ x 2 0 [(0, vR t)] [] W (fcl_forgetRuns_0 t W) en := by
  have h0 := h
  obtain ⟨hx, hm, hr, he, k2⟩ := h0
  unfold fcl_forgetRuns_0
  refine j_runA hx 2 (tb := [(0, .iconst 0), (1, .istore_n 1)]) (jtb_ok (by decide +kernel)) (pc' := 2) (lv' := [(1, vI (kI 0)), (0, vR t)]) (st' := []) rfl ?_
  refine j_lv (lv' := [(0, vR t), (1, vI (kI 0))]) ⟨rfl, rfl, trivial⟩ ?_
  exact k2 (kI 0) W
theorem ccl_forgetRuns (t : Nat) (W : jW) : jM yX0_forgetRuns cX0_forgetRuns 2 (Option.none : Option Jvm.ClassFile.FieldType) [] 0 0 [vR t] W ((fcl_forgetRuns t W).bind (fun q => some (.returned none, q))) := by
  refine jM.of (Nat.le_of_ble_eq_true rfl) (fun x hx hm hr => ?_)
  refine j_begin (P := (fun s => (2, [(0, vR t), (1, vI s.1)], s.2))) (fun en he hk => ?_)
  have h : hcl_forgetRuns x en t := ⟨hx, hm, hr, fun q => he _, fun l1 W => hk (l1, W)⟩
  exact ⟨fun s => wcl_forgetRuns_2 h s.1 s.2, wcl_forgetRuns h W⟩
