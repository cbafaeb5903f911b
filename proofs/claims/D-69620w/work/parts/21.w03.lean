/-! ===== walks: fsh_sections fsh_symbolAt fsh_symbolCount fsh_valueOf fsh_end fsh_isText fsh_symbols fsh_fixCount fsh_fixAt fsh_fixType ===== -/
set_option maxRecDepth 100000
def hsh_sections (x : jCx) (en : (fsh_sections_S ⊕ ((Nat × jW) ⊕ jW)) → Option (Outcome × jW)) (t : Nat) : Prop :=
  jOK x RX3 cX3_sections 6 ∧
  jMt x "sections" (Option.none : Option Jvm.ClassFile.FieldType) [] ∧
  jRm x 7 106 ∧
  (∀ q : jW, en (.inr (.inr q)) = some (.returned none, q)) ∧
  (∀ z : Nat × jW, en (.inr (.inl z)) = some (.threw (z.1 - 1), z.2)) ∧
  (∀ (l1 : Int32) (W : jW), jJ x 6 2 [(0, vR t), (1, vI l1)] [] W (some (.inl (.inl (l1, W)))) en) ∧
  (∀ (l1 : Int32) (W : jW), jJ x 6 65 [(0, vR t), (1, vI l1)] [] W (some (.inl (.inr (.inl (l1, W))))) en) ∧
  (∀ (l1 : Int32) (l2 : Int32) (l3 : Int32) (W : jW), jJ x 6 100 [(0, vR t), (1, vI l1), (2, vI l2), (3, vI l3)] [] W (some (.inl (.inr (.inr (.inl (l1, l2, l3, W)))))) en) ∧
  (∀ (l4 : Int32) (W : jW), jJ x 6 342 [(0, vR t), (4, vI l4)] [] W (some (.inl (.inr (.inr (.inr (.inl (l4, W))))))) en) ∧
  (∀ (l4 : Int32) (W : jW), jJ x 6 400 [(0, vR t), (4, vI l4)] [] W (some (.inl (.inr (.inr (.inr (.inr (.inl (l4, W)))))))) en) ∧
  (∀ (l4 : Int32) (W : jW), jJ x 6 482 [(0, vR t), (4, vI l4)] [] W (some (.inl (.inr (.inr (.inr (.inr (.inr (.inl (l4, W))))))))) en) ∧
  (∀ (l4 : Int32) (l5 : Int32) (W : jW), jJ x 6 494 [(0, vR t), (4, vI l4), (5, vI l5)] [] W (some (.inl (.inr (.inr (.inr (.inr (.inr (.inr (.inl (l4, l5, W)))))))))) en) ∧
  (∀ (l4 : Int32) (W : jW), jJ x 6 541 [(0, vR t), (4, vI l4)] [] W (some (.inl (.inr (.inr (.inr (.inr (.inr (.inr (.inr (.inl (l4, W))))))))))) en) ∧
  (∀ (l4 : Int32) (W : jW), jJ x 6 636 [(0, vR t), (4, vI l4)] [] W (some (.inl (.inr (.inr (.inr (.inr (.inr (.inr (.inr (.inr (.inl (l4, W)))))))))))) en) ∧
  (∀ (l4 : Int32) (W : jW), jJ x 6 724 [(0, vR t), (4, vI l4)] [] W (some (.inl (.inr (.inr (.inr (.inr (.inr (.inr (.inr (.inr (.inr (l4, W)))))))))))) en)
theorem wsh_sections_35 {x : jCx} {en : (fsh_sections_S ⊕ ((Nat × jW) ⊕ jW)) → Option (Outcome × jW)} {t : Nat} (h : hsh_sections x en t) (l1 : Int32) (s0 : Int32) (s1 : Nat) (W : jW) : jJ x 6 35 [(0, vR t), (1, vI l1)] [vI s0, vR s1] W (fsh_sections_35 t l1 s0 s1 W) en := by
  have h0 := h
  obtain ⟨hx, hm, hr, he, ht, k2, k65, k100, k342, k400, k482, k494, k541, k636, k724⟩ := h0
  unfold fsh_sections_35
  refine j_runA hx 2 (tb := [(35, .iconst 3), (36, .aload_n 0)]) (jtb_ok (by decide +kernel)) (pc' := 37) (lv' := [(0, vR t), (1, vI l1)]) (st' := [vR t, vI (kI 3), vI s0, vR s1]) rfl ?_
  refine j_gd (fun h17 => ?_)
  refine j_getI hx flX3_143 kd405 h17 (by decide) (by decide +kernel) ?_
  refine j_gd (fun h18 => ?_)
  refine j_EV (j_callV (av := [vI s0, vI (kI 3), vI (jI W 405 t)]) (st := []) hx hr (Or.inl q757) q758 q759 rfl md_ftr_must np_ftr_must (ctr_must s1 s0 (kI 3) (jI W 405 t) W) (by decide) (Nat.le_of_ble_eq_true rfl) h18 (by decide) (by decide +kernel)) (fun z _ r h9 => j_upE hm hx (ht z) h9) (fun q19 _ => ?_)
  refine j_runA hx 1 (tb := [(43, .iinc 1 8)]) (jtb_ok (by decide +kernel)) (pc' := 46) (lv' := [(1, vI (l1 + (kI 8))), (0, vR t)]) (st' := []) rfl ?_
  refine j_let (v := (l1 + (kI 8))) (lv := fun v21 => [(1, vI v21), (0, vR t)]) (st := fun _ => []) (fun v21 => ?_)
  refine j_goto hx (off := -44) (by decide +kernel) (tgt := 2) (by decide) ?_
  refine j_lv (lv' := [(0, vR t), (1, vI v21)]) ⟨rfl, rfl, trivial⟩ ?_
  exact k2 v21 q19
theorem wsh_sections_142 {x : jCx} {en : (fsh_sections_S ⊕ ((Nat × jW) ⊕ jW)) → Option (Outcome × jW)} {t : Nat} (h : hsh_sections x en t) (l1 : Int32) (l2 : Int32) (l3 : Int32) (W : jW) : jJ x 6 142 [(0, vR t), (1, vI l1), (2, vI l2), (3, vI l3)] [] W (fsh_sections_142 t l1 l2 l3 W) en := by
  have h0 := h
  obtain ⟨hx, hm, hr, he, ht, k2, k65, k100, k342, k400, k482, k494, k541, k636, k724⟩ := h0
  unfold fsh_sections_142
  refine j_runA hx 1 (tb := [(142, .iinc 3 1)]) (jtb_ok (by decide +kernel)) (pc' := 145) (lv' := [(3, vI (l3 + (kI 1))), (0, vR t), (1, vI l1), (2, vI l2)]) (st' := []) rfl ?_
  refine j_let (v := (l3 + (kI 1))) (lv := fun v52 => [(3, vI v52), (0, vR t), (1, vI l1), (2, vI l2)]) (st := fun _ => []) (fun v52 => ?_)
  refine j_goto hx (off := -45) (by decide +kernel) (tgt := 100) (by decide) ?_
  refine j_lv (lv' := [(0, vR t), (1, vI l1), (2, vI l2), (3, vI v52)]) ⟨rfl, rfl, rfl, rfl, trivial⟩ ?_
  exact k100 l1 l2 v52 W
theorem wsh_sections_124 {x : jCx} {en : (fsh_sections_S ⊕ ((Nat × jW) ⊕ jW)) → Option (Outcome × jW)} {t : Nat} (h : hsh_sections x en t) (l1 : Int32) (l2 : Int32) (l3 : Int32) (W : jW) : jJ x 6 124 [(0, vR t), (1, vI l1), (2, vI l2), (3, vI l3)] [] W (fsh_sections_124 t l1 l2 l3 W) en := by
  have h0 := h
  obtain ⟨hx, hm, hr, he, ht, k2, k65, k100, k342, k400, k482, k494, k541, k636, k724⟩ := h0
  unfold fsh_sections_124
  refine j_runA hx 1 (tb := [(124, .aload_n 0)]) (jtb_ok (by decide +kernel)) (pc' := 125) (lv' := [(0, vR t), (1, vI l1), (2, vI l2), (3, vI l3)]) (st' := [vR t]) rfl ?_
  refine j_gd (fun h44 => ?_)
  refine j_getR hx flX3_25 kl411 h44 (by decide) (by decide +kernel) ?_
  refine j_runA hx 1 (tb := [(128, .iload_n 3)]) (jtb_ok (by decide +kernel)) (pc' := 129) (lv' := [(0, vR t), (1, vI l1), (2, vI l2), (3, vI l3)]) (st' := [vI l3, vR (jR W 411 t)]) rfl ?_
  refine j_gd (fun h45 => ?_)
  refine j_iald hx (f := 411) (o := t) kd411 rfl (by decide +kernel) h45 ?_
  refine j_runA hx 1 (tb := [(130, .iconst 2)]) (jtb_ok (by decide +kernel)) (pc' := 131) (lv' := [(0, vR t), (1, vI l1), (2, vI l2), (3, vI l3)]) (st' := [vI (kI 2), vI (jA W 411 t (ix l3))]) rfl ?_
  refine j_icmp_ne hx (off := 11) (tgt := 142) (by decide +kernel) (by decide) (fun _ => ?_) (fun _ => ?_)
  · exact wsh_sections_142 h l1 l2 l3 W
  refine j_runA hx 2 (tb := [(134, .aload_n 0), (135, .iload_n 3)]) (jtb_ok (by decide +kernel)) (pc' := 136) (lv' := [(0, vR t), (1, vI l1), (2, vI l2), (3, vI l3)]) (st' := [vI l3, vR t]) rfl ?_
  refine j_putI hx fwX3_170 wf419 kd419 h44 (by decide) (by decide +kernel) (ni419 _) (fi419 _) ?_
  refine j_ltw rfl (fun W46 hc47 => ?_)
  have h48 : jC W46 t = 4 := (congrFun hc47 _).trans h44
  refine j_runA hx 1 (tb := [(139, .iinc 2 1)]) (jtb_ok (by decide +kernel)) (pc' := 142) (lv' := [(2, vI (l2 + (kI 1))), (0, vR t), (1, vI l1), (3, vI l3)]) (st' := []) rfl ?_
  refine j_let (v := (l2 + (kI 1))) (lv := fun v50 => [(2, vI v50), (0, vR t), (1, vI l1), (3, vI l3)]) (st := fun _ => []) (fun v50 => ?_)
  refine j_lv (lv' := [(0, vR t), (1, vI l1), (2, vI v50), (3, vI l3)]) ⟨rfl, rfl, rfl, rfl, trivial⟩ ?_
  exact wsh_sections_142 h l1 v50 l3 W46
theorem wsh_sections_378 {x : jCx} {en : (fsh_sections_S ⊕ ((Nat × jW) ⊕ jW)) → Option (Outcome × jW)} {t : Nat} (h : hsh_sections x en t) (l4 : Int32) (s0 : Int32) (s1 : Nat) (W : jW) : jJ x 6 378 [(0, vR t), (4, vI l4)] [vI s0, vR s1] W (fsh_sections_378 t l4 s0 s1 W) en := by
  have h0 := h
  obtain ⟨hx, hm, hr, he, ht, k2, k65, k100, k342, k400, k482, k494, k541, k636, k724⟩ := h0
  unfold fsh_sections_378
  refine j_runA hx 3 (tb := [(378, .iconst 3), (379, .aload_n 0), (380, .iload 4)]) (jtb_ok (by decide +kernel)) (pc' := 382) (lv' := [(0, vR t), (4, vI l4)]) (st' := [vI l4, vR t, vI (kI 3), vI s0, vR s1]) rfl ?_
  refine j_gd (fun h95 => ?_)
  refine j_OI (j_callV (av := [vI l4]) (st := [vI (kI 3), vI s0, vR s1]) hx hr (Or.inl q837) q838 q839 rfl md_fsh_headOf np_fsh_headOf (csh_headOf t l4 W) (by decide) (Nat.le_of_ble_eq_true rfl) h95 (by decide) (by decide +kernel)) (fun q96 _ => ?_)
  refine j_runA hx 2 (tb := [(385, .bipush 16), (387, .iadd)]) (jtb_ok (by decide +kernel)) (pc' := 388) (lv' := [(0, vR t), (4, vI l4)]) (st' := [vI (q96 + (kI 16)), vI (kI 3), vI s0, vR s1]) rfl ?_
  refine j_gd (fun h97 => ?_)
  refine j_EV (j_callV (av := [vI s0, vI (kI 3), vI (q96 + (kI 16))]) (st := []) hx hr (Or.inl q757) q758 q759 rfl md_ftr_must np_ftr_must (ctr_must s1 s0 (kI 3) (q96 + (kI 16)) W) (by decide) (Nat.le_of_ble_eq_true rfl) h97 (by decide) (by decide +kernel)) (fun z _ r h9 => j_upE hm hx (ht z) h9) (fun q98 _ => ?_)
  refine j_runA hx 1 (tb := [(391, .iinc 4 1)]) (jtb_ok (by decide +kernel)) (pc' := 394) (lv' := [(4, vI (l4 + (kI 1))), (0, vR t)]) (st' := []) rfl ?_
  refine j_let (v := (l4 + (kI 1))) (lv := fun v100 => [(4, vI v100), (0, vR t)]) (st := fun _ => []) (fun v100 => ?_)
  refine j_goto hx (off := -52) (by decide +kernel) (tgt := 342) (by decide) ?_
  refine j_lv (lv' := [(0, vR t), (4, vI v100)]) ⟨rfl, rfl, trivial⟩ ?_
  exact k342 v100 q98
theorem wsh_sections_373 {x : jCx} {en : (fsh_sections_S ⊕ ((Nat × jW) ⊕ jW)) → Option (Outcome × jW)} {t : Nat} (h : hsh_sections x en t) (l4 : Int32) (s0 : Nat) (W : jW) : jJ x 6 373 [(0, vR t), (4, vI l4)] [vR s0] W (fsh_sections_373 t l4 s0 W) en := by
  have h0 := h
  obtain ⟨hx, hm, hr, he, ht, k2, k65, k100, k342, k400, k482, k494, k541, k636, k724⟩ := h0
  unfold fsh_sections_373
  refine j_runA hx 1 (tb := [(373, .iconst 1)]) (jtb_ok (by decide +kernel)) (pc' := 374) (lv' := [(0, vR t), (4, vI l4)]) (st' := [vI (kI 1), vR s0]) rfl ?_
  refine j_goto hx (off := 4) (by decide +kernel) (tgt := 378) (by decide) ?_
  exact wsh_sections_378 h l4 (kI 1) s0 W
theorem wsh_sections_460 {x : jCx} {en : (fsh_sections_S ⊕ ((Nat × jW) ⊕ jW)) → Option (Outcome × jW)} {t : Nat} (h : hsh_sections x en t) (l4 : Int32) (s0 : Int32) (s1 : Nat) (W : jW) : jJ x 6 460 [(0, vR t), (4, vI l4)] [vI s0, vR s1] W (fsh_sections_460 t l4 s0 s1 W) en := by
  have h0 := h
  obtain ⟨hx, hm, hr, he, ht, k2, k65, k100, k342, k400, k482, k494, k541, k636, k724⟩ := h0
  unfold fsh_sections_460
  refine j_runA hx 3 (tb := [(460, .iconst 3), (461, .aload_n 0), (462, .iload 4)]) (jtb_ok (by decide +kernel)) (pc' := 464) (lv' := [(0, vR t), (4, vI l4)]) (st' := [vI l4, vR t, vI (kI 3), vI s0, vR s1]) rfl ?_
  refine j_gd (fun h111 => ?_)
  refine j_OI (j_callV (av := [vI l4]) (st := [vI (kI 3), vI s0, vR s1]) hx hr (Or.inl q837) q838 q839 rfl md_fsh_headOf np_fsh_headOf (csh_headOf t l4 W) (by decide) (Nat.le_of_ble_eq_true rfl) h111 (by decide) (by decide +kernel)) (fun q112 _ => ?_)
  refine j_runA hx 2 (tb := [(467, .bipush 24), (469, .iadd)]) (jtb_ok (by decide +kernel)) (pc' := 470) (lv' := [(0, vR t), (4, vI l4)]) (st' := [vI (q112 + (kI 24)), vI (kI 3), vI s0, vR s1]) rfl ?_
  refine j_gd (fun h113 => ?_)
  refine j_EV (j_callV (av := [vI s0, vI (kI 3), vI (q112 + (kI 24))]) (st := []) hx hr (Or.inl q757) q758 q759 rfl md_ftr_must np_ftr_must (ctr_must s1 s0 (kI 3) (q112 + (kI 24)) W) (by decide) (Nat.le_of_ble_eq_true rfl) h113 (by decide) (by decide +kernel)) (fun z _ r h9 => j_upE hm hx (ht z) h9) (fun q114 _ => ?_)
  refine j_runA hx 1 (tb := [(473, .iinc 4 1)]) (jtb_ok (by decide +kernel)) (pc' := 476) (lv' := [(4, vI (l4 + (kI 1))), (0, vR t)]) (st' := []) rfl ?_
  refine j_let (v := (l4 + (kI 1))) (lv := fun v116 => [(4, vI v116), (0, vR t)]) (st := fun _ => []) (fun v116 => ?_)
  refine j_goto hx (off := -76) (by decide +kernel) (tgt := 400) (by decide) ?_
  refine j_lv (lv' := [(0, vR t), (4, vI v116)]) ⟨rfl, rfl, trivial⟩ ?_
  exact k400 v116 q114
theorem wsh_sections_455 {x : jCx} {en : (fsh_sections_S ⊕ ((Nat × jW) ⊕ jW)) → Option (Outcome × jW)} {t : Nat} (h : hsh_sections x en t) (l4 : Int32) (s0 : Nat) (W : jW) : jJ x 6 455 [(0, vR t), (4, vI l4)] [vR s0] W (fsh_sections_455 t l4 s0 W) en := by
  have h0 := h
  obtain ⟨hx, hm, hr, he, ht, k2, k65, k100, k342, k400, k482, k494, k541, k636, k724⟩ := h0
  unfold fsh_sections_455
  refine j_runA hx 1 (tb := [(455, .iconst 1)]) (jtb_ok (by decide +kernel)) (pc' := 456) (lv' := [(0, vR t), (4, vI l4)]) (st' := [vI (kI 1), vR s0]) rfl ?_
  refine j_goto hx (off := 4) (by decide +kernel) (tgt := 460) (by decide) ?_
  exact wsh_sections_460 h l4 (kI 1) s0 W
theorem wsh_sections_494 {x : jCx} {en : (fsh_sections_S ⊕ ((Nat × jW) ⊕ jW)) → Option (Outcome × jW)} {t : Nat} (h : hsh_sections x en t) (l4 : Int32) (l5 : Int32) (W : jW) : jJ x 6 494 [(0, vR t), (4, vI l4), (5, vI l5)] [] W (fsh_sections_494 t l4 l5 W) en := by
  have h0 := h
  obtain ⟨hx, hm, hr, he, ht, k2, k65, k100, k342, k400, k482, k494, k541, k636, k724⟩ := h0
  unfold fsh_sections_494
  refine j_runA hx 2 (tb := [(494, .iload 5), (496, .iload 4)]) (jtb_ok (by decide +kernel)) (pc' := 498) (lv' := [(0, vR t), (4, vI l4), (5, vI l5)]) (st' := [vI l4, vI l5]) rfl ?_
  refine j_icmp_ge hx (off := 34) (tgt := 532) (by decide +kernel) (by decide) (fun _ => ?_) (fun _ => ?_)
  · refine j_runA hx 1 (tb := [(532, .iinc 4 1)]) (jtb_ok (by decide +kernel)) (pc' := 535) (lv' := [(4, vI (l4 + (kI 1))), (0, vR t), (5, vI l5)]) (st' := []) rfl ?_
    refine j_let (v := (l4 + (kI 1))) (lv := fun v121 => [(4, vI v121), (0, vR t), (5, vI l5)]) (st := fun _ => []) (fun v121 => ?_)
    refine j_goto hx (off := -53) (by decide +kernel) (tgt := 482) (by decide) ?_
    refine j_lv (lv' := [(0, vR t), (4, vI v121)]) ⟨rfl, rfl, trivial⟩ ?_
    exact k482 v121 W
  refine j_runA hx 1 (tb := [(501, .aload_n 0)]) (jtb_ok (by decide +kernel)) (pc' := 502) (lv' := [(0, vR t), (4, vI l4), (5, vI l5)]) (st' := [vR t]) rfl ?_
  refine j_gd (fun h122 => ?_)
  refine j_getR hx flX3_53 kl400 h122 (by decide) (by decide +kernel) ?_
  refine j_runA hx 3 (tb := [(505, .aload_n 0), (506, .iload 5), (508, .iload 4)]) (jtb_ok (by decide +kernel)) (pc' := 510) (lv' := [(0, vR t), (4, vI l4), (5, vI l5)]) (st' := [vI l4, vI l5, vR t, vR (jR W 400 t)]) rfl ?_
  refine j_OI (j_callV (av := [vI l5, vI l4]) (st := [vR (jR W 400 t)]) hx hr (Or.inl q859) q861 qs8 rfl md_fsh_areApart np_fsh_areApart (csh_areApart t l5 l4 W) (by decide) (Nat.le_of_ble_eq_true rfl) h122 (by decide) (by decide +kernel)) (fun q123 _ => ?_)
  refine j_runA hx 3 (tb := [(513, .iconst 3), (514, .aload_n 0), (515, .iload 4)]) (jtb_ok (by decide +kernel)) (pc' := 517) (lv' := [(0, vR t), (4, vI l4), (5, vI l5)]) (st' := [vI l4, vR t, vI (kI 3), vI q123, vR (jR W 400 t)]) rfl ?_
  refine j_OI (j_callV (av := [vI l4]) (st := [vI (kI 3), vI q123, vR (jR W 400 t)]) hx hr (Or.inl q837) q838 q839 rfl md_fsh_headOf np_fsh_headOf (csh_headOf t l4 W) (by decide) (Nat.le_of_ble_eq_true rfl) h122 (by decide) (by decide +kernel)) (fun q124 _ => ?_)
  refine j_runA hx 2 (tb := [(520, .bipush 24), (522, .iadd)]) (jtb_ok (by decide +kernel)) (pc' := 523) (lv' := [(0, vR t), (4, vI l4), (5, vI l5)]) (st' := [vI (q124 + (kI 24)), vI (kI 3), vI q123, vR (jR W 400 t)]) rfl ?_
  refine j_gd (fun h125 => ?_)
  refine j_EV (j_callV (av := [vI q123, vI (kI 3), vI (q124 + (kI 24))]) (st := []) hx hr (Or.inl q757) q758 q759 rfl md_ftr_must np_ftr_must (ctr_must (jR W 400 t) q123 (kI 3) (q124 + (kI 24)) W) (by decide) (Nat.le_of_ble_eq_true rfl) h125 (by decide) (by decide +kernel)) (fun z _ r h9 => j_upE hm hx (ht z) h9) (fun q126 _ => ?_)
  refine j_runA hx 1 (tb := [(526, .iinc 5 1)]) (jtb_ok (by decide +kernel)) (pc' := 529) (lv' := [(5, vI (l5 + (kI 1))), (0, vR t), (4, vI l4)]) (st' := []) rfl ?_
  refine j_let (v := (l5 + (kI 1))) (lv := fun v128 => [(5, vI v128), (0, vR t), (4, vI l4)]) (st := fun _ => []) (fun v128 => ?_)
  refine j_goto hx (off := -35) (by decide +kernel) (tgt := 494) (by decide) ?_
  refine j_lv (lv' := [(0, vR t), (4, vI l4), (5, vI v128)]) ⟨rfl, rfl, rfl, trivial⟩ ?_
  exact k494 l4 v128 q126
theorem wsh_sections_606 {x : jCx} {en : (fsh_sections_S ⊕ ((Nat × jW) ⊕ jW)) → Option (Outcome × jW)} {t : Nat} (h : hsh_sections x en t) (l4 : Int32) (s0 : Int32) (W : jW) : jJ x 6 606 [(0, vR t), (4, vI l4)] [vI s0] W (fsh_sections_606 t l4 s0 W) en := by
  have h0 := h
  obtain ⟨hx, hm, hr, he, ht, k2, k65, k100, k342, k400, k482, k494, k541, k636, k724⟩ := h0
  unfold fsh_sections_606
  refine j_runA hx 2 (tb := [(606, .istore 5), (608, .aload_n 0)]) (jtb_ok (by decide +kernel)) (pc' := 609) (lv' := [(5, vI s0), (0, vR t), (4, vI l4)]) (st' := [vR t]) rfl ?_
  refine j_gd (fun h137 => ?_)
  refine j_getR hx flX3_53 kl400 h137 (by decide) (by decide +kernel) ?_
  refine j_runA hx 4 (tb := [(612, .iload 5), (614, .iconst 3), (615, .aload_n 0), (616, .iload 4)]) (jtb_ok (by decide +kernel)) (pc' := 618) (lv' := [(5, vI s0), (0, vR t), (4, vI l4)]) (st' := [vI l4, vR t, vI (kI 3), vI s0, vR (jR W 400 t)]) rfl ?_
  refine j_OI (j_callV (av := [vI l4]) (st := [vI (kI 3), vI s0, vR (jR W 400 t)]) hx hr (Or.inl q837) q838 q839 rfl md_fsh_headOf np_fsh_headOf (csh_headOf t l4 W) (by decide) (Nat.le_of_ble_eq_true rfl) h137 (by decide) (by decide +kernel)) (fun q138 _ => ?_)
  refine j_runA hx 2 (tb := [(621, .bipush 40), (623, .iadd)]) (jtb_ok (by decide +kernel)) (pc' := 624) (lv' := [(5, vI s0), (0, vR t), (4, vI l4)]) (st' := [vI (q138 + (kI 40)), vI (kI 3), vI s0, vR (jR W 400 t)]) rfl ?_
  refine j_gd (fun h139 => ?_)
  refine j_EV (j_callV (av := [vI s0, vI (kI 3), vI (q138 + (kI 40))]) (st := []) hx hr (Or.inl q757) q758 q759 rfl md_ftr_must np_ftr_must (ctr_must (jR W 400 t) s0 (kI 3) (q138 + (kI 40)) W) (by decide) (Nat.le_of_ble_eq_true rfl) h139 (by decide) (by decide +kernel)) (fun z _ r h9 => j_upE hm hx (ht z) h9) (fun q140 _ => ?_)
  refine j_runA hx 1 (tb := [(627, .iinc 4 1)]) (jtb_ok (by decide +kernel)) (pc' := 630) (lv' := [(4, vI (l4 + (kI 1))), (5, vI s0), (0, vR t)]) (st' := []) rfl ?_
  refine j_let (v := (l4 + (kI 1))) (lv := fun v142 => [(4, vI v142), (5, vI s0), (0, vR t)]) (st := fun _ => []) (fun v142 => ?_)
  refine j_goto hx (off := -89) (by decide +kernel) (tgt := 541) (by decide) ?_
  refine j_lv (lv' := [(0, vR t), (4, vI v142)]) ⟨rfl, rfl, trivial⟩ ?_
  exact k541 v142 q140
theorem wsh_sections_601 {x : jCx} {en : (fsh_sections_S ⊕ ((Nat × jW) ⊕ jW)) → Option (Outcome × jW)} {t : Nat} (h : hsh_sections x en t) (l4 : Int32) (W : jW) : jJ x 6 601 [(0, vR t), (4, vI l4)] [] W (fsh_sections_601 t l4 W) en := by
  have h0 := h
  obtain ⟨hx, hm, hr, he, ht, k2, k65, k100, k342, k400, k482, k494, k541, k636, k724⟩ := h0
  unfold fsh_sections_601
  refine j_runA hx 1 (tb := [(601, .iconst 1)]) (jtb_ok (by decide +kernel)) (pc' := 602) (lv' := [(0, vR t), (4, vI l4)]) (st' := [vI (kI 1)]) rfl ?_
  refine j_goto hx (off := 4) (by decide +kernel) (tgt := 606) (by decide) ?_
  exact wsh_sections_606 h l4 (kI 1) W
theorem wsh_sections_674 {x : jCx} {en : (fsh_sections_S ⊕ ((Nat × jW) ⊕ jW)) → Option (Outcome × jW)} {t : Nat} (h : hsh_sections x en t) (l4 : Int32) (s0 : Int32) (s1 : Nat) (W : jW) : jJ x 6 674 [(0, vR t), (4, vI l4)] [vI s0, vR s1] W (fsh_sections_674 t l4 s0 s1 W) en := by
  have h0 := h
  obtain ⟨hx, hm, hr, he, ht, k2, k65, k100, k342, k400, k482, k494, k541, k636, k724⟩ := h0
  unfold fsh_sections_674
  refine j_runA hx 3 (tb := [(674, .iconst 3), (675, .aload_n 0), (676, .iload 4)]) (jtb_ok (by decide +kernel)) (pc' := 678) (lv' := [(0, vR t), (4, vI l4)]) (st' := [vI l4, vR t, vI (kI 3), vI s0, vR s1]) rfl ?_
  refine j_gd (fun h150 => ?_)
  refine j_OI (j_callV (av := [vI l4]) (st := [vI (kI 3), vI s0, vR s1]) hx hr (Or.inl q837) q838 q839 rfl md_fsh_headOf np_fsh_headOf (csh_headOf t l4 W) (by decide) (Nat.le_of_ble_eq_true rfl) h150 (by decide) (by decide +kernel)) (fun q151 _ => ?_)
  refine j_runA hx 2 (tb := [(681, .bipush 44), (683, .iadd)]) (jtb_ok (by decide +kernel)) (pc' := 684) (lv' := [(0, vR t), (4, vI l4)]) (st' := [vI (q151 + (kI 44)), vI (kI 3), vI s0, vR s1]) rfl ?_
  refine j_gd (fun h152 => ?_)
  refine j_EV (j_callV (av := [vI s0, vI (kI 3), vI (q151 + (kI 44))]) (st := []) hx hr (Or.inl q757) q758 q759 rfl md_ftr_must np_ftr_must (ctr_must s1 s0 (kI 3) (q151 + (kI 44)) W) (by decide) (Nat.le_of_ble_eq_true rfl) h152 (by decide) (by decide +kernel)) (fun z _ r h9 => j_upE hm hx (ht z) h9) (fun q153 _ => ?_)
  refine j_runA hx 1 (tb := [(687, .iinc 4 1)]) (jtb_ok (by decide +kernel)) (pc' := 690) (lv' := [(4, vI (l4 + (kI 1))), (0, vR t)]) (st' := []) rfl ?_
  refine j_let (v := (l4 + (kI 1))) (lv := fun v155 => [(4, vI v155), (0, vR t)]) (st := fun _ => []) (fun v155 => ?_)
  refine j_goto hx (off := -54) (by decide +kernel) (tgt := 636) (by decide) ?_
  refine j_lv (lv' := [(0, vR t), (4, vI v155)]) ⟨rfl, rfl, trivial⟩ ?_
  exact k636 v155 q153
theorem wsh_sections_669 {x : jCx} {en : (fsh_sections_S ⊕ ((Nat × jW) ⊕ jW)) → Option (Outcome × jW)} {t : Nat} (h : hsh_sections x en t) (l4 : Int32) (s0 : Nat) (W : jW) : jJ x 6 669 [(0, vR t), (4, vI l4)] [vR s0] W (fsh_sections_669 t l4 s0 W) en := by
  have h0 := h
  obtain ⟨hx, hm, hr, he, ht, k2, k65, k100, k342, k400, k482, k494, k541, k636, k724⟩ := h0
  unfold fsh_sections_669
  refine j_runA hx 1 (tb := [(669, .iconst 1)]) (jtb_ok (by decide +kernel)) (pc' := 670) (lv' := [(0, vR t), (4, vI l4)]) (st' := [vI (kI 1), vR s0]) rfl ?_
  refine j_goto hx (off := 4) (by decide +kernel) (tgt := 674) (by decide) ?_
  exact wsh_sections_674 h l4 (kI 1) s0 W
theorem wsh_sections_724 {x : jCx} {en : (fsh_sections_S ⊕ ((Nat × jW) ⊕ jW)) → Option (Outcome × jW)} {t : Nat} (h : hsh_sections x en t) (l4 : Int32) (W : jW) : jJ x 6 724 [(0, vR t), (4, vI l4)] [] W (fsh_sections_724 t l4 W) en := by
  have h0 := h
  obtain ⟨hx, hm, hr, he, ht, k2, k65, k100, k342, k400, k482, k494, k541, k636, k724⟩ := h0
  unfold fsh_sections_724
  refine j_runA hx 2 (tb := [(724, .iload 4), (726, .aload_n 0)]) (jtb_ok (by decide +kernel)) (pc' := 727) (lv' := [(0, vR t), (4, vI l4)]) (st' := [vR t, vI l4]) rfl ?_
  refine j_gd (fun h162 => ?_)
  refine j_getI hx flX3_78 kd403 h162 (by decide) (by decide +kernel) ?_
  refine j_icmp_ge hx (off := 55) (tgt := 785) (by decide +kernel) (by decide) (fun _ => ?_) (fun _ => ?_)
  · exact j_vret hx hm (by decide +kernel) (he _)
  refine j_runA hx 1 (tb := [(733, .aload_n 0)]) (jtb_ok (by decide +kernel)) (pc' := 734) (lv' := [(0, vR t), (4, vI l4)]) (st' := [vR t]) rfl ?_
  refine j_getR hx flX3_53 kl400 h162 (by decide) (by decide +kernel) ?_
  refine j_runA hx 1 (tb := [(737, .aload_n 0)]) (jtb_ok (by decide +kernel)) (pc' := 738) (lv' := [(0, vR t), (4, vI l4)]) (st' := [vR t, vR (jR W 400 t)]) rfl ?_
  refine j_getR hx flX3_57 kl401 h162 (by decide) (by decide +kernel) ?_
  refine j_runA hx 2 (tb := [(741, .aload_n 0), (742, .iload 4)]) (jtb_ok (by decide +kernel)) (pc' := 744) (lv' := [(0, vR t), (4, vI l4)]) (st' := [vI l4, vR t, vR (jR W 401 t), vR (jR W 400 t)]) rfl ?_
  refine j_OI (j_callV (av := [vI l4]) (st := [vR (jR W 401 t), vR (jR W 400 t)]) hx hr (Or.inl q837) q838 q839 rfl md_fsh_headOf np_fsh_headOf (csh_headOf t l4 W) (by decide) (Nat.le_of_ble_eq_true rfl) h162 (by decide) (by decide +kernel)) (fun q163 _ => ?_)
  refine j_gd (fun h164 => ?_)
  refine j_OI (h164.elim (fun hh => j_callU (av := [vI q163]) (st := [vR (jR W 400 t)]) hx hr q808 q769 (hde_fsr_word) (by decide) q768 q770 rfl md_fsr_word np_fsr_word (csr_word (jR W 401 t) q163 W) (by decide) (Nat.le_of_ble_eq_true rfl) hh (by decide) (by decide +kernel)) (fun hh => j_callU (av := [vI q163]) (st := [vR (jR W 400 t)]) hx hr q808 q769 (hde_fsr_word) (by decide) q768 q771 rfl md_fsr_word np_fsr_word (csr_word (jR W 401 t) q163 W) (by decide) (Nat.le_of_ble_eq_true rfl) hh (by decide) (by decide +kernel))) (fun q165 _ => ?_)
  refine j_runA hx 1 (tb := [(750, .i2l)]) (jtb_ok (by decide +kernel)) (pc' := 751) (lv' := [(0, vR t), (4, vI l4)]) (st' := [vL q165.toInt64, vR (jR W 400 t)]) rfl ?_
  refine j_ldc2 hx (v := (kJ 4294967295)) (jkd2 q809 (by decide +kernel)) (by decide +kernel) ?_
  refine j_runA hx 3 (tb := [(754, .land), (755, .lconst 0), (756, .aload_n 0)]) (jtb_ok (by decide +kernel)) (pc' := 757) (lv' := [(0, vR t), (4, vI l4)]) (st' := [vR t, vL (kJ 0), vL (q165.toInt64 &&& (kJ 4294967295)), vR (jR W 400 t)]) rfl ?_
  refine j_getR hx flX3_37 kl415 h162 (by decide) (by decide +kernel) ?_
  refine j_runA hx 1 (tb := [(760, .aload_n 0)]) (jtb_ok (by decide +kernel)) (pc' := 761) (lv' := [(0, vR t), (4, vI l4)]) (st' := [vR t, vR (jR W 415 t), vL (kJ 0), vL (q165.toInt64 &&& (kJ 4294967295)), vR (jR W 400 t)]) rfl ?_
  refine j_getI hx flX3_138 kd406 h162 (by decide) (by decide +kernel) ?_
  refine j_gd (fun h166 => ?_)
  refine j_iald hx (f := 415) (o := t) kd415 rfl (by decide +kernel) h166 ?_
  refine j_runA hx 1 (tb := [(765, .i2l)]) (jtb_ok (by decide +kernel)) (pc' := 766) (lv' := [(0, vR t), (4, vI l4)]) (st' := [vL ((jA W 415 t (ix (jI W 406 t))).toInt64), vL (kJ 0), vL (q165.toInt64 &&& (kJ 4294967295)), vR (jR W 400 t)]) rfl ?_
  refine j_TI (j_callS (av := [vL (q165.toInt64 &&& (kJ 4294967295)), vL (kJ 0), vL ((jA W 415 t (ix (jI W 406 t))).toInt64)]) (st := [vR (jR W 400 t)]) hx hr (Or.inr ⟨_, q871⟩) q872 q226 md_fcl_isIn np_fcl_isIn (ccl_isIn (q165.toInt64 &&& (kJ 4294967295)) (kJ 0) ((jA W 415 t (ix (jI W 406 t))).toInt64) W) (by decide) (Nat.le_of_ble_eq_true rfl) (by decide +kernel)) ?_
  refine j_runA hx 3 (tb := [(769, .iconst 3), (770, .aload_n 0), (771, .iload 4)]) (jtb_ok (by decide +kernel)) (pc' := 773) (lv' := [(0, vR t), (4, vI l4)]) (st' := [vI l4, vR t, vI (kI 3), vI (fcl_isIn (q165.toInt64 &&& (kJ 4294967295)) (kJ 0) ((jA W 415 t (ix (jI W 406 t))).toInt64)), vR (jR W 400 t)]) rfl ?_
  refine j_OI (j_callV (av := [vI l4]) (st := [vI (kI 3), vI (fcl_isIn (q165.toInt64 &&& (kJ 4294967295)) (kJ 0) ((jA W 415 t (ix (jI W 406 t))).toInt64)), vR (jR W 400 t)]) hx hr (Or.inl q837) q838 q839 rfl md_fsh_headOf np_fsh_headOf (csh_headOf t l4 W) (by decide) (Nat.le_of_ble_eq_true rfl) h162 (by decide) (by decide +kernel)) (fun q167 _ => ?_)
  refine j_gd (fun h168 => ?_)
  refine j_EV (j_callV (av := [vI (fcl_isIn (q165.toInt64 &&& (kJ 4294967295)) (kJ 0) ((jA W 415 t (ix (jI W 406 t))).toInt64)), vI (kI 3), vI q167]) (st := []) hx hr (Or.inl q757) q758 q759 rfl md_ftr_must np_ftr_must (ctr_must (jR W 400 t) (fcl_isIn (q165.toInt64 &&& (kJ 4294967295)) (kJ 0) ((jA W 415 t (ix (jI W 406 t))).toInt64)) (kI 3) q167 W) (by decide) (Nat.le_of_ble_eq_true rfl) h168 (by decide) (by decide +kernel)) (fun z _ r h9 => j_upE hm hx (ht z) h9) (fun q169 _ => ?_)
  refine j_runA hx 1 (tb := [(779, .iinc 4 1)]) (jtb_ok (by decide +kernel)) (pc' := 782) (lv' := [(4, vI (l4 + (kI 1))), (0, vR t)]) (st' := []) rfl ?_
  refine j_let (v := (l4 + (kI 1))) (lv := fun v171 => [(4, vI v171), (0, vR t)]) (st := fun _ => []) (fun v171 => ?_)
  refine j_goto hx (off := -58) (by decide +kernel) (tgt := 724) (by decide) ?_
  refine j_lv (lv' := [(0, vR t), (4, vI v171)]) ⟨rfl, rfl, trivial⟩ ?_
  exact k724 v171 q169
theorem wsh_sections_715 {x : jCx} {en : (fsh_sections_S ⊕ ((Nat × jW) ⊕ jW)) → Option (Outcome × jW)} {t : Nat} (h : hsh_sections x en t) (s0 : Int32) (s1 : Nat) (W : jW) : jJ x 6 715 [(0, vR t)] [vI s0, vR s1] W (fsh_sections_715 t s0 s1 W) en := by
  have h0 := h
  obtain ⟨hx, hm, hr, he, ht, k2, k65, k100, k342, k400, k482, k494, k541, k636, k724⟩ := h0
  unfold fsh_sections_715
  refine j_runA hx 2 (tb := [(715, .iconst 3), (716, .bipush 62)]) (jtb_ok (by decide +kernel)) (pc' := 718) (lv' := [(0, vR t)]) (st' := [vI (kI 62), vI (kI 3), vI s0, vR s1]) rfl ?_
  refine j_gd (fun h158 => ?_)
  refine j_EV (j_callV (av := [vI s0, vI (kI 3), vI (kI 62)]) (st := []) hx hr (Or.inl q757) q758 q759 rfl md_ftr_must np_ftr_must (ctr_must s1 s0 (kI 3) (kI 62) W) (by decide) (Nat.le_of_ble_eq_true rfl) h158 (by decide) (by decide +kernel)) (fun z _ r h9 => j_upE hm hx (ht z) h9) (fun q159 _ => ?_)
  refine j_runA hx 2 (tb := [(721, .iconst 0), (722, .istore 4)]) (jtb_ok (by decide +kernel)) (pc' := 724) (lv' := [(4, vI (kI 0)), (0, vR t)]) (st' := []) rfl ?_
  refine j_lv (lv' := [(0, vR t), (4, vI (kI 0))]) ⟨rfl, rfl, trivial⟩ ?_
  exact k724 (kI 0) q159
theorem wsh_sections_636 {x : jCx} {en : (fsh_sections_S ⊕ ((Nat × jW) ⊕ jW)) → Option (Outcome × jW)} {t : Nat} (h : hsh_sections x en t) (l4 : Int32) (W : jW) : jJ x 6 636 [(0, vR t), (4, vI l4)] [] W (fsh_sections_636 t l4 W) en := by
  have h0 := h
  obtain ⟨hx, hm, hr, he, ht, k2, k65, k100, k342, k400, k482, k494, k541, k636, k724⟩ := h0
  unfold fsh_sections_636
  refine j_runA hx 2 (tb := [(636, .iload 4), (638, .aload_n 0)]) (jtb_ok (by decide +kernel)) (pc' := 639) (lv' := [(0, vR t), (4, vI l4)]) (st' := [vR t, vI l4]) rfl ?_
  refine j_gd (fun h145 => ?_)
  refine j_getI hx flX3_78 kd403 h145 (by decide) (by decide +kernel) ?_
  refine j_icmp_ge hx (off := 51) (tgt := 693) (by decide +kernel) (by decide) (fun _ => ?_) (fun _ => ?_)
  · refine j_runA hx 1 (tb := [(693, .aload_n 0)]) (jtb_ok (by decide +kernel)) (pc' := 694) (lv' := [(0, vR t), (4, vI l4)]) (st' := [vR t]) rfl ?_
    refine j_getR hx flX3_53 kl400 h145 (by decide) (by decide +kernel) ?_
    refine j_runA hx 1 (tb := [(697, .aload_n 0)]) (jtb_ok (by decide +kernel)) (pc' := 698) (lv' := [(0, vR t), (4, vI l4)]) (st' := [vR t, vR (jR W 400 t)]) rfl ?_
    refine j_getR hx flX3_25 kl411 h145 (by decide) (by decide +kernel) ?_
    refine j_runA hx 1 (tb := [(701, .aload_n 0)]) (jtb_ok (by decide +kernel)) (pc' := 702) (lv' := [(0, vR t), (4, vI l4)]) (st' := [vR t, vR (jR W 411 t), vR (jR W 400 t)]) rfl ?_
    refine j_getI hx flX3_138 kd406 h145 (by decide) (by decide +kernel) ?_
    refine j_gd (fun h146 => ?_)
    refine j_iald hx (f := 411) (o := t) kd411 rfl (by decide +kernel) h146 ?_
    refine j_runA hx 1 (tb := [(706, .iconst 3)]) (jtb_ok (by decide +kernel)) (pc' := 707) (lv' := [(0, vR t), (4, vI l4)]) (st' := [vI (kI 3), vI (jA W 411 t (ix (jI W 406 t))), vR (jR W 400 t)]) rfl ?_
    refine j_icmp_ne hx (off := 7) (tgt := 714) (by decide +kernel) (by decide) (fun _ => ?_) (fun _ => ?_)
    · refine j_runA hx 1 (tb := [(714, .iconst 0)]) (jtb_ok (by decide +kernel)) (pc' := 715) (lv' := [(0, vR t), (4, vI l4)]) (st' := [vI (kI 0), vR (jR W 400 t)]) rfl ?_
      refine j_lv (lv' := [(0, vR t)]) ⟨rfl, trivial⟩ ?_
      exact wsh_sections_715 h (kI 0) (jR W 400 t) W
    refine j_runA hx 1 (tb := [(710, .iconst 1)]) (jtb_ok (by decide +kernel)) (pc' := 711) (lv' := [(0, vR t), (4, vI l4)]) (st' := [vI (kI 1), vR (jR W 400 t)]) rfl ?_
    refine j_goto hx (off := 4) (by decide +kernel) (tgt := 715) (by decide) ?_
    refine j_lv (lv' := [(0, vR t)]) ⟨rfl, trivial⟩ ?_
    exact wsh_sections_715 h (kI 1) (jR W 400 t) W
  refine j_runA hx 1 (tb := [(645, .aload_n 0)]) (jtb_ok (by decide +kernel)) (pc' := 646) (lv' := [(0, vR t), (4, vI l4)]) (st' := [vR t]) rfl ?_
  refine j_getR hx flX3_53 kl400 h145 (by decide) (by decide +kernel) ?_
  refine j_runA hx 1 (tb := [(649, .aload_n 0)]) (jtb_ok (by decide +kernel)) (pc' := 650) (lv' := [(0, vR t), (4, vI l4)]) (st' := [vR t, vR (jR W 400 t)]) rfl ?_
  refine j_getR hx flX3_25 kl411 h145 (by decide) (by decide +kernel) ?_
  refine j_runA hx 1 (tb := [(653, .iload 4)]) (jtb_ok (by decide +kernel)) (pc' := 655) (lv' := [(0, vR t), (4, vI l4)]) (st' := [vI l4, vR (jR W 411 t), vR (jR W 400 t)]) rfl ?_
  refine j_gd (fun h147 => ?_)
  refine j_iald hx (f := 411) (o := t) kd411 rfl (by decide +kernel) h147 ?_
  refine j_runA hx 1 (tb := [(656, .iconst 4)]) (jtb_ok (by decide +kernel)) (pc' := 657) (lv' := [(0, vR t), (4, vI l4)]) (st' := [vI (kI 4), vI (jA W 411 t (ix l4)), vR (jR W 400 t)]) rfl ?_
  refine j_icmp_ne hx (off := 12) (tgt := 669) (by decide +kernel) (by decide) (fun _ => ?_) (fun _ => ?_)
  · exact wsh_sections_669 h l4 (jR W 400 t) W
  refine j_runA hx 2 (tb := [(660, .aload_n 0), (661, .iload 4)]) (jtb_ok (by decide +kernel)) (pc' := 663) (lv' := [(0, vR t), (4, vI l4)]) (st' := [vI l4, vR t, vR (jR W 400 t)]) rfl ?_
  refine j_OI (j_callV (av := [vI l4]) (st := [vR (jR W 400 t)]) hx hr (Or.inl q867) q869 qs10 rfl md_fsh_isFixed np_fsh_isFixed (csh_isFixed t l4 W) (by decide) (Nat.le_of_ble_eq_true rfl) h145 (by decide) (by decide +kernel)) (fun q148 _ => ?_)
  refine j_if_eq hx (off := 7) (tgt := 673) (by decide +kernel) (by decide) (fun _ => ?_) (fun _ => ?_)
  · refine j_runA hx 1 (tb := [(673, .iconst 0)]) (jtb_ok (by decide +kernel)) (pc' := 674) (lv' := [(0, vR t), (4, vI l4)]) (st' := [vI (kI 0), vR (jR W 400 t)]) rfl ?_
    exact wsh_sections_674 h l4 (kI 0) (jR W 400 t) W
  exact wsh_sections_669 h l4 (jR W 400 t) W
theorem wsh_sections_541 {x : jCx} {en : (fsh_sections_S ⊕ ((Nat × jW) ⊕ jW)) → Option (Outcome × jW)} {t : Nat} (h : hsh_sections x en t) (l4 : Int32) (W : jW) : jJ x 6 541 [(0, vR t), (4, vI l4)] [] W (fsh_sections_541 t l4 W) en := by
  have h0 := h
  obtain ⟨hx, hm, hr, he, ht, k2, k65, k100, k342, k400, k482, k494, k541, k636, k724⟩ := h0
  unfold fsh_sections_541
  refine j_runA hx 2 (tb := [(541, .iload 4), (543, .aload_n 0)]) (jtb_ok (by decide +kernel)) (pc' := 544) (lv' := [(0, vR t), (4, vI l4)]) (st' := [vR t, vI l4]) rfl ?_
  refine j_gd (fun h130 => ?_)
  refine j_getI hx flX3_78 kd403 h130 (by decide) (by decide +kernel) ?_
  refine j_icmp_ge hx (off := 86) (tgt := 633) (by decide +kernel) (by decide) (fun _ => ?_) (fun _ => ?_)
  · refine j_runA hx 2 (tb := [(633, .iconst 1), (634, .istore 4)]) (jtb_ok (by decide +kernel)) (pc' := 636) (lv' := [(4, vI (kI 1)), (0, vR t)]) (st' := []) rfl ?_
    refine j_lv (lv' := [(0, vR t), (4, vI (kI 1))]) ⟨rfl, rfl, trivial⟩ ?_
    exact k636 (kI 1) W
  refine j_runA hx 1 (tb := [(550, .aload_n 0)]) (jtb_ok (by decide +kernel)) (pc' := 551) (lv' := [(0, vR t), (4, vI l4)]) (st' := [vR t]) rfl ?_
  refine j_getR hx flX3_25 kl411 h130 (by decide) (by decide +kernel) ?_
  refine j_runA hx 1 (tb := [(554, .iload 4)]) (jtb_ok (by decide +kernel)) (pc' := 556) (lv' := [(0, vR t), (4, vI l4)]) (st' := [vI l4, vR (jR W 411 t)]) rfl ?_
  refine j_gd (fun h131 => ?_)
  refine j_iald hx (f := 411) (o := t) kd411 rfl (by decide +kernel) h131 ?_
  refine j_runA hx 1 (tb := [(557, .iconst 2)]) (jtb_ok (by decide +kernel)) (pc' := 558) (lv' := [(0, vR t), (4, vI l4)]) (st' := [vI (kI 2), vI (jA W 411 t (ix l4))]) rfl ?_
  refine j_icmp_ne hx (off := 18) (tgt := 576) (by decide +kernel) (by decide) (fun _ => ?_) (fun _ => ?_)
  · refine j_runA hx 1 (tb := [(576, .aload_n 0)]) (jtb_ok (by decide +kernel)) (pc' := 577) (lv' := [(0, vR t), (4, vI l4)]) (st' := [vR t]) rfl ?_
    refine j_getR hx flX3_25 kl411 h130 (by decide) (by decide +kernel) ?_
    refine j_runA hx 1 (tb := [(580, .iload 4)]) (jtb_ok (by decide +kernel)) (pc' := 582) (lv' := [(0, vR t), (4, vI l4)]) (st' := [vI l4, vR (jR W 411 t)]) rfl ?_
    refine j_gd (fun h132 => ?_)
    refine j_iald hx (f := 411) (o := t) kd411 rfl (by decide +kernel) h132 ?_
    refine j_runA hx 1 (tb := [(583, .iconst 4)]) (jtb_ok (by decide +kernel)) (pc' := 584) (lv' := [(0, vR t), (4, vI l4)]) (st' := [vI (kI 4), vI (jA W 411 t (ix l4))]) rfl ?_
    refine j_icmp_ne hx (off := 17) (tgt := 601) (by decide +kernel) (by decide) (fun _ => ?_) (fun _ => ?_)
    · exact wsh_sections_601 h l4 W
    refine j_runA hx 1 (tb := [(587, .aload_n 0)]) (jtb_ok (by decide +kernel)) (pc' := 588) (lv' := [(0, vR t), (4, vI l4)]) (st' := [vR t]) rfl ?_
    refine j_getR hx flX3_40 kl416 h130 (by decide) (by decide +kernel) ?_
    refine j_runA hx 1 (tb := [(591, .iload 4)]) (jtb_ok (by decide +kernel)) (pc' := 593) (lv' := [(0, vR t), (4, vI l4)]) (st' := [vI l4, vR (jR W 416 t)]) rfl ?_
    refine j_gd (fun h133 => ?_)
    refine j_iald hx (f := 416) (o := t) kd416 rfl (by decide +kernel) h133 ?_
    refine j_runA hx 1 (tb := [(594, .aload_n 0)]) (jtb_ok (by decide +kernel)) (pc' := 595) (lv' := [(0, vR t), (4, vI l4)]) (st' := [vR t, vI (jA W 416 t (ix l4))]) rfl ?_
    refine j_getI hx flX3_170 kd419 h130 (by decide) (by decide +kernel) ?_
    refine j_icmp_ne hx (off := 7) (tgt := 605) (by decide +kernel) (by decide) (fun _ => ?_) (fun _ => ?_)
    · refine j_runA hx 1 (tb := [(605, .iconst 0)]) (jtb_ok (by decide +kernel)) (pc' := 606) (lv' := [(0, vR t), (4, vI l4)]) (st' := [vI (kI 0)]) rfl ?_
      exact wsh_sections_606 h l4 (kI 0) W
    exact wsh_sections_601 h l4 W
  refine j_runA hx 2 (tb := [(561, .aload_n 0), (562, .aload_n 0)]) (jtb_ok (by decide +kernel)) (pc' := 563) (lv' := [(0, vR t), (4, vI l4)]) (st' := [vR t, vR t]) rfl ?_
  refine j_getR hx flX3_40 kl416 h130 (by decide) (by decide +kernel) ?_
  refine j_runA hx 1 (tb := [(566, .iload 4)]) (jtb_ok (by decide +kernel)) (pc' := 568) (lv' := [(0, vR t), (4, vI l4)]) (st' := [vI l4, vR (jR W 416 t), vR t]) rfl ?_
  refine j_gd (fun h134 => ?_)
  refine j_iald hx (f := 416) (o := t) kd416 rfl (by decide +kernel) h134 ?_
  refine j_runA hx 1 (tb := [(569, .iconst 3)]) (jtb_ok (by decide +kernel)) (pc' := 570) (lv' := [(0, vR t), (4, vI l4)]) (st' := [vI (kI 3), vI (jA W 416 t (ix l4)), vR t]) rfl ?_
  refine j_OI (j_callV (av := [vI (jA W 416 t (ix l4)), vI (kI 3)]) (st := []) hx hr (Or.inl q863) q865 qs9 rfl md_fsh_isOf np_fsh_isOf (csh_isOf t (jA W 416 t (ix l4)) (kI 3) W) (by decide) (Nat.le_of_ble_eq_true rfl) h130 (by decide) (by decide +kernel)) (fun q135 _ => ?_)
  refine j_goto hx (off := 33) (by decide +kernel) (tgt := 606) (by decide) ?_
  exact wsh_sections_606 h l4 q135 W
theorem wsh_sections_482 {x : jCx} {en : (fsh_sections_S ⊕ ((Nat × jW) ⊕ jW)) → Option (Outcome × jW)} {t : Nat} (h : hsh_sections x en t) (l4 : Int32) (W : jW) : jJ x 6 482 [(0, vR t), (4, vI l4)] [] W (fsh_sections_482 t l4 W) en := by
  have h0 := h
  obtain ⟨hx, hm, hr, he, ht, k2, k65, k100, k342, k400, k482, k494, k541, k636, k724⟩ := h0
  unfold fsh_sections_482
  refine j_runA hx 2 (tb := [(482, .iload 4), (484, .aload_n 0)]) (jtb_ok (by decide +kernel)) (pc' := 485) (lv' := [(0, vR t), (4, vI l4)]) (st' := [vR t, vI l4]) rfl ?_
  refine j_gd (fun h119 => ?_)
  refine j_getI hx flX3_78 kd403 h119 (by decide) (by decide +kernel) ?_
  refine j_icmp_ge hx (off := 50) (tgt := 538) (by decide +kernel) (by decide) (fun _ => ?_) (fun _ => ?_)
  · refine j_runA hx 2 (tb := [(538, .iconst 1), (539, .istore 4)]) (jtb_ok (by decide +kernel)) (pc' := 541) (lv' := [(4, vI (kI 1)), (0, vR t)]) (st' := []) rfl ?_
    refine j_lv (lv' := [(0, vR t), (4, vI (kI 1))]) ⟨rfl, rfl, trivial⟩ ?_
    exact k541 (kI 1) W
  refine j_runA hx 2 (tb := [(491, .iconst 1), (492, .istore 5)]) (jtb_ok (by decide +kernel)) (pc' := 494) (lv' := [(5, vI (kI 1)), (0, vR t), (4, vI l4)]) (st' := []) rfl ?_
  refine j_lv (lv' := [(0, vR t), (4, vI l4), (5, vI (kI 1))]) ⟨rfl, rfl, rfl, trivial⟩ ?_
  exact k494 l4 (kI 1) W
theorem wsh_sections_400 {x : jCx} {en : (fsh_sections_S ⊕ ((Nat × jW) ⊕ jW)) → Option (Outcome × jW)} {t : Nat} (h : hsh_sections x en t) (l4 : Int32) (W : jW) : jJ x 6 400 [(0, vR t), (4, vI l4)] [] W (fsh_sections_400 t l4 W) en := by
  have h0 := h
  obtain ⟨hx, hm, hr, he, ht, k2, k65, k100, k342, k400, k482, k494, k541, k636, k724⟩ := h0
  unfold fsh_sections_400
  refine j_runA hx 2 (tb := [(400, .iload 4), (402, .aload_n 0)]) (jtb_ok (by decide +kernel)) (pc' := 403) (lv' := [(0, vR t), (4, vI l4)]) (st' := [vR t, vI l4]) rfl ?_
  refine j_gd (fun h103 => ?_)
  refine j_getI hx flX3_78 kd403 h103 (by decide) (by decide +kernel) ?_
  refine j_icmp_ge hx (off := 73) (tgt := 479) (by decide +kernel) (by decide) (fun _ => ?_) (fun _ => ?_)
  · refine j_runA hx 2 (tb := [(479, .iconst 1), (480, .istore 4)]) (jtb_ok (by decide +kernel)) (pc' := 482) (lv' := [(4, vI (kI 1)), (0, vR t)]) (st' := []) rfl ?_
    refine j_lv (lv' := [(0, vR t), (4, vI (kI 1))]) ⟨rfl, rfl, trivial⟩ ?_
    exact k482 (kI 1) W
  refine j_runA hx 1 (tb := [(409, .aload_n 0)]) (jtb_ok (by decide +kernel)) (pc' := 410) (lv' := [(0, vR t), (4, vI l4)]) (st' := [vR t]) rfl ?_
  refine j_getR hx flX3_53 kl400 h103 (by decide) (by decide +kernel) ?_
  refine j_runA hx 2 (tb := [(413, .aload_n 0), (414, .iload 4)]) (jtb_ok (by decide +kernel)) (pc' := 416) (lv' := [(0, vR t), (4, vI l4)]) (st' := [vI l4, vR t, vR (jR W 400 t)]) rfl ?_
  refine j_OI (j_callV (av := [vI l4]) (st := [vR (jR W 400 t)]) hx hr (Or.inl q845) q846 q847 rfl md_fsh_isCode np_fsh_isCode (csh_isCode t l4 W) (by decide) (Nat.le_of_ble_eq_true rfl) h103 (by decide) (by decide +kernel)) (fun q104 _ => ?_)
  refine j_if_ne hx (off := 36) (tgt := 455) (by decide +kernel) (by decide) (fun _ => ?_) (fun _ => ?_)
  · exact wsh_sections_455 h l4 (jR W 400 t) W
  refine j_runA hx 2 (tb := [(422, .aload_n 0), (423, .iload 4)]) (jtb_ok (by decide +kernel)) (pc' := 425) (lv' := [(0, vR t), (4, vI l4)]) (st' := [vI l4, vR t, vR (jR W 400 t)]) rfl ?_
  refine j_OI (j_callV (av := [vI l4]) (st := [vR (jR W 400 t)]) hx hr (Or.inl q851) q852 q853 rfl md_fsh_isData np_fsh_isData (csh_isData t l4 W) (by decide) (Nat.le_of_ble_eq_true rfl) h103 (by decide) (by decide +kernel)) (fun q105 _ => ?_)
  refine j_if_ne hx (off := 27) (tgt := 455) (by decide +kernel) (by decide) (fun _ => ?_) (fun _ => ?_)
  · exact wsh_sections_455 h l4 (jR W 400 t) W
  refine j_runA hx 1 (tb := [(431, .aload_n 0)]) (jtb_ok (by decide +kernel)) (pc' := 432) (lv' := [(0, vR t), (4, vI l4)]) (st' := [vR t, vR (jR W 400 t)]) rfl ?_
  refine j_getR hx flX3_34 kl414 h103 (by decide) (by decide +kernel) ?_
  refine j_runA hx 1 (tb := [(435, .iload 4)]) (jtb_ok (by decide +kernel)) (pc' := 437) (lv' := [(0, vR t), (4, vI l4)]) (st' := [vI l4, vR (jR W 414 t), vR (jR W 400 t)]) rfl ?_
  refine j_gd (fun h106 => ?_)
  refine j_iald hx (f := 414) (o := t) kd414 rfl (by decide +kernel) h106 ?_
  refine j_runA hx 1 (tb := [(438, .aload_n 0)]) (jtb_ok (by decide +kernel)) (pc' := 439) (lv' := [(0, vR t), (4, vI l4)]) (st' := [vR t, vI (jA W 414 t (ix l4)), vR (jR W 400 t)]) rfl ?_
  refine j_OI (j_callV (av := []) (st := [vI (jA W 414 t (ix l4)), vR (jR W 400 t)]) hx hr (Or.inl q850) q789 q790 rfl md_fsh_textOffset np_fsh_textOffset (csh_textOffset t W) (by decide) (Nat.le_of_ble_eq_true rfl) h103 (by decide) (by decide +kernel)) (fun q107 _ => ?_)
  refine j_runA hx 1 (tb := [(442, .aload_n 0)]) (jtb_ok (by decide +kernel)) (pc' := 443) (lv' := [(0, vR t), (4, vI l4)]) (st' := [vR t, vI q107, vI (jA W 414 t (ix l4)), vR (jR W 400 t)]) rfl ?_
  refine j_getR hx flX3_22 kl410 h103 (by decide) (by decide +kernel) ?_
  refine j_runA hx 1 (tb := [(446, .aload_n 0)]) (jtb_ok (by decide +kernel)) (pc' := 447) (lv' := [(0, vR t), (4, vI l4)]) (st' := [vR t, vR (jR W 410 t), vI q107, vI (jA W 414 t (ix l4)), vR (jR W 400 t)]) rfl ?_
  refine j_OI (j_callV (av := []) (st := [vR (jR W 410 t), vI q107, vI (jA W 414 t (ix l4)), vR (jR W 400 t)]) hx hr (Or.inl q792) q793 q794 rfl md_fsh_last np_fsh_last (csh_last t W) (by decide) (Nat.le_of_ble_eq_true rfl) h103 (by decide) (by decide +kernel)) (fun q108 _ => ?_)
  refine j_gd (fun h109 => ?_)
  refine j_iald hx (f := 410) (o := t) kd410 rfl (by decide +kernel) h109 ?_
  refine j_runA hx 1 (tb := [(451, .iadd)]) (jtb_ok (by decide +kernel)) (pc' := 452) (lv' := [(0, vR t), (4, vI l4)]) (st' := [vI (q107 + (jA W 410 t (ix q108))), vI (jA W 414 t (ix l4)), vR (jR W 400 t)]) rfl ?_
  refine j_icmp_lt hx (off := 7) (tgt := 459) (by decide +kernel) (by decide) (fun _ => ?_) (fun _ => ?_)
  · refine j_runA hx 1 (tb := [(459, .iconst 0)]) (jtb_ok (by decide +kernel)) (pc' := 460) (lv' := [(0, vR t), (4, vI l4)]) (st' := [vI (kI 0), vR (jR W 400 t)]) rfl ?_
    exact wsh_sections_460 h l4 (kI 0) (jR W 400 t) W
  exact wsh_sections_455 h l4 (jR W 400 t) W
theorem wsh_sections_342 {x : jCx} {en : (fsh_sections_S ⊕ ((Nat × jW) ⊕ jW)) → Option (Outcome × jW)} {t : Nat} (h : hsh_sections x en t) (l4 : Int32) (W : jW) : jJ x 6 342 [(0, vR t), (4, vI l4)] [] W (fsh_sections_342 t l4 W) en := by
  have h0 := h
  obtain ⟨hx, hm, hr, he, ht, k2, k65, k100, k342, k400, k482, k494, k541, k636, k724⟩ := h0
  unfold fsh_sections_342
  refine j_runA hx 2 (tb := [(342, .iload 4), (344, .aload_n 0)]) (jtb_ok (by decide +kernel)) (pc' := 345) (lv' := [(0, vR t), (4, vI l4)]) (st' := [vR t, vI l4]) rfl ?_
  refine j_gd (fun h91 => ?_)
  refine j_getI hx flX3_78 kd403 h91 (by decide) (by decide +kernel) ?_
  refine j_icmp_ge hx (off := 49) (tgt := 397) (by decide +kernel) (by decide) (fun _ => ?_) (fun _ => ?_)
  · refine j_runA hx 2 (tb := [(397, .iconst 1), (398, .istore 4)]) (jtb_ok (by decide +kernel)) (pc' := 400) (lv' := [(4, vI (kI 1)), (0, vR t)]) (st' := []) rfl ?_
    refine j_lv (lv' := [(0, vR t), (4, vI (kI 1))]) ⟨rfl, rfl, trivial⟩ ?_
    exact k400 (kI 1) W
  refine j_runA hx 1 (tb := [(351, .aload_n 0)]) (jtb_ok (by decide +kernel)) (pc' := 352) (lv' := [(0, vR t), (4, vI l4)]) (st' := [vR t]) rfl ?_
  refine j_getR hx flX3_53 kl400 h91 (by decide) (by decide +kernel) ?_
  refine j_runA hx 2 (tb := [(355, .aload_n 0), (356, .iload 4)]) (jtb_ok (by decide +kernel)) (pc' := 358) (lv' := [(0, vR t), (4, vI l4)]) (st' := [vI l4, vR t, vR (jR W 400 t)]) rfl ?_
  refine j_OI (j_callV (av := [vI l4]) (st := [vR (jR W 400 t)]) hx hr (Or.inl q851) q852 q853 rfl md_fsh_isData np_fsh_isData (csh_isData t l4 W) (by decide) (Nat.le_of_ble_eq_true rfl) h91 (by decide) (by decide +kernel)) (fun q92 _ => ?_)
  refine j_if_eq hx (off := 12) (tgt := 373) (by decide +kernel) (by decide) (fun _ => ?_) (fun _ => ?_)
  · exact wsh_sections_373 h l4 (jR W 400 t) W
  refine j_runA hx 2 (tb := [(364, .aload_n 0), (365, .iload 4)]) (jtb_ok (by decide +kernel)) (pc' := 367) (lv' := [(0, vR t), (4, vI l4)]) (st' := [vI l4, vR t, vR (jR W 400 t)]) rfl ?_
  refine j_OI (j_callV (av := [vI l4]) (st := [vR (jR W 400 t)]) hx hr (Or.inl q855) q857 qs7 rfl md_fsh_isHeld np_fsh_isHeld (csh_isHeld t l4 W) (by decide) (Nat.le_of_ble_eq_true rfl) h91 (by decide) (by decide +kernel)) (fun q93 _ => ?_)
  refine j_if_eq hx (off := 7) (tgt := 377) (by decide +kernel) (by decide) (fun _ => ?_) (fun _ => ?_)
  · refine j_runA hx 1 (tb := [(377, .iconst 0)]) (jtb_ok (by decide +kernel)) (pc' := 378) (lv' := [(0, vR t), (4, vI l4)]) (st' := [vI (kI 0), vR (jR W 400 t)]) rfl ?_
    exact wsh_sections_378 h l4 (kI 0) (jR W 400 t) W
  exact wsh_sections_373 h l4 (jR W 400 t) W
theorem wsh_sections_331 {x : jCx} {en : (fsh_sections_S ⊕ ((Nat × jW) ⊕ jW)) → Option (Outcome × jW)} {t : Nat} (h : hsh_sections x en t) (l3 : Int32) (s0 : Int32) (s1 : Nat) (W : jW) : jJ x 6 331 [(0, vR t), (3, vI l3)] [vI s0, vR s1] W (fsh_sections_331 t l3 s0 s1 W) en := by
  have h0 := h
  obtain ⟨hx, hm, hr, he, ht, k2, k65, k100, k342, k400, k482, k494, k541, k636, k724⟩ := h0
  unfold fsh_sections_331
  refine j_runA hx 4 (tb := [(331, .iconst 3), (332, .iload_n 3), (333, .bipush 32), (335, .iadd)]) (jtb_ok (by decide +kernel)) (pc' := 336) (lv' := [(0, vR t), (3, vI l3)]) (st' := [vI (l3 + (kI 32)), vI (kI 3), vI s0, vR s1]) rfl ?_
  refine j_gd (fun h87 => ?_)
  refine j_EV (j_callV (av := [vI s0, vI (kI 3), vI (l3 + (kI 32))]) (st := []) hx hr (Or.inl q757) q758 q759 rfl md_ftr_must np_ftr_must (ctr_must s1 s0 (kI 3) (l3 + (kI 32)) W) (by decide) (Nat.le_of_ble_eq_true rfl) h87 (by decide) (by decide +kernel)) (fun z _ r h9 => j_upE hm hx (ht z) h9) (fun q88 _ => ?_)
  refine j_runA hx 2 (tb := [(339, .iconst 1), (340, .istore 4)]) (jtb_ok (by decide +kernel)) (pc' := 342) (lv' := [(4, vI (kI 1)), (0, vR t), (3, vI l3)]) (st' := []) rfl ?_
  refine j_lv (lv' := [(0, vR t), (4, vI (kI 1))]) ⟨rfl, rfl, trivial⟩ ?_
  exact k342 (kI 1) q88
theorem wsh_sections_330 {x : jCx} {en : (fsh_sections_S ⊕ ((Nat × jW) ⊕ jW)) → Option (Outcome × jW)} {t : Nat} (h : hsh_sections x en t) (l3 : Int32) (s0 : Nat) (W : jW) : jJ x 6 330 [(0, vR t), (3, vI l3)] [vR s0] W (fsh_sections_330 t l3 s0 W) en := by
  have h0 := h
  obtain ⟨hx, hm, hr, he, ht, k2, k65, k100, k342, k400, k482, k494, k541, k636, k724⟩ := h0
  unfold fsh_sections_330
  refine j_runA hx 1 (tb := [(330, .iconst 0)]) (jtb_ok (by decide +kernel)) (pc' := 331) (lv' := [(0, vR t), (3, vI l3)]) (st' := [vI (kI 0), vR s0]) rfl ?_
  exact wsh_sections_331 h l3 (kI 0) s0 W
theorem wsh_sections_279 {x : jCx} {en : (fsh_sections_S ⊕ ((Nat × jW) ⊕ jW)) → Option (Outcome × jW)} {t : Nat} (h : hsh_sections x en t) (l3 : Int32) (s0 : Int32) (s1 : Nat) (W : jW) : jJ x 6 279 [(0, vR t), (3, vI l3)] [vI s0, vR s1] W (fsh_sections_279 t l3 s0 s1 W) en := by
  have h0 := h
  obtain ⟨hx, hm, hr, he, ht, k2, k65, k100, k342, k400, k482, k494, k541, k636, k724⟩ := h0
  unfold fsh_sections_279
  refine j_runA hx 4 (tb := [(279, .iconst 3), (280, .iload_n 3), (281, .bipush 24), (283, .iadd)]) (jtb_ok (by decide +kernel)) (pc' := 284) (lv' := [(0, vR t), (3, vI l3)]) (st' := [vI (l3 + (kI 24)), vI (kI 3), vI s0, vR s1]) rfl ?_
  refine j_gd (fun h77 => ?_)
  refine j_EV (j_callV (av := [vI s0, vI (kI 3), vI (l3 + (kI 24))]) (st := []) hx hr (Or.inl q757) q758 q759 rfl md_ftr_must np_ftr_must (ctr_must s1 s0 (kI 3) (l3 + (kI 24)) W) (by decide) (Nat.le_of_ble_eq_true rfl) h77 (by decide) (by decide +kernel)) (fun z _ r h9 => j_upE hm hx (ht z) h9) (fun q78 _ => ?_)
  refine j_runA hx 1 (tb := [(287, .aload_n 0)]) (jtb_ok (by decide +kernel)) (pc' := 288) (lv' := [(0, vR t), (3, vI l3)]) (st' := [vR t]) rfl ?_
  refine j_gd (fun h80 => ?_)
  refine j_getR hx flX3_53 kl400 h80 (by decide) (by decide +kernel) ?_
  refine j_runA hx 1 (tb := [(291, .aload_n 0)]) (jtb_ok (by decide +kernel)) (pc' := 292) (lv' := [(0, vR t), (3, vI l3)]) (st' := [vR t, vR (jR q78 400 t)]) rfl ?_
  refine j_getR hx flX3_37 kl415 h80 (by decide) (by decide +kernel) ?_
  refine j_runA hx 1 (tb := [(295, .aload_n 0)]) (jtb_ok (by decide +kernel)) (pc' := 296) (lv' := [(0, vR t), (3, vI l3)]) (st' := [vR t, vR (jR q78 415 t), vR (jR q78 400 t)]) rfl ?_
  refine j_getI hx flX3_167 kd418 h80 (by decide) (by decide +kernel) ?_
  refine j_gd (fun h81 => ?_)
  refine j_iald hx (f := 415) (o := t) kd415 rfl (by decide +kernel) h81 ?_
  refine j_runA hx 1 (tb := [(300, .aload_n 0)]) (jtb_ok (by decide +kernel)) (pc' := 301) (lv' := [(0, vR t), (3, vI l3)]) (st' := [vR t, vI (jA q78 415 t (ix (jI q78 418 t))), vR (jR q78 400 t)]) rfl ?_
  refine j_getR hx flX3_22 kl410 h80 (by decide) (by decide +kernel) ?_
  refine j_runA hx 1 (tb := [(304, .aload_n 0)]) (jtb_ok (by decide +kernel)) (pc' := 305) (lv' := [(0, vR t), (3, vI l3)]) (st' := [vR t, vR (jR q78 410 t), vI (jA q78 415 t (ix (jI q78 418 t))), vR (jR q78 400 t)]) rfl ?_
  refine j_OI (j_callV (av := []) (st := [vR (jR q78 410 t), vI (jA q78 415 t (ix (jI q78 418 t))), vR (jR q78 400 t)]) hx hr (Or.inl q792) q793 q794 rfl md_fsh_last np_fsh_last (csh_last t q78) (by decide) (Nat.le_of_ble_eq_true rfl) h80 (by decide) (by decide +kernel)) (fun q82 _ => ?_)
  refine j_gd (fun h83 => ?_)
  refine j_iald hx (f := 410) (o := t) kd410 rfl (by decide +kernel) h83 ?_
  refine j_icmp_ne hx (off := 21) (tgt := 330) (by decide +kernel) (by decide) (fun _ => ?_) (fun _ => ?_)
  · exact wsh_sections_330 h l3 (jR q78 400 t) q78
  refine j_runA hx 1 (tb := [(312, .aload_n 0)]) (jtb_ok (by decide +kernel)) (pc' := 313) (lv' := [(0, vR t), (3, vI l3)]) (st' := [vR t, vR (jR q78 400 t)]) rfl ?_
  refine j_getR hx flX3_22 kl410 h80 (by decide) (by decide +kernel) ?_
  refine j_runA hx 1 (tb := [(316, .aload_n 0)]) (jtb_ok (by decide +kernel)) (pc' := 317) (lv' := [(0, vR t), (3, vI l3)]) (st' := [vR t, vR (jR q78 410 t), vR (jR q78 400 t)]) rfl ?_
  refine j_OI (j_callV (av := []) (st := [vR (jR q78 410 t), vR (jR q78 400 t)]) hx hr (Or.inl q792) q793 q794 rfl md_fsh_last np_fsh_last (csh_last t q78) (by decide) (Nat.le_of_ble_eq_true rfl) h80 (by decide) (by decide +kernel)) (fun q84 _ => ?_)
  refine j_gd (fun h85 => ?_)
  refine j_iald hx (f := 410) (o := t) kd410 rfl (by decide +kernel) h85 ?_
  refine j_runA hx 1 (tb := [(321, .iconst 4)]) (jtb_ok (by decide +kernel)) (pc' := 322) (lv' := [(0, vR t), (3, vI l3)]) (st' := [vI (kI 4), vI (jA q78 410 t (ix q84)), vR (jR q78 400 t)]) rfl ?_
  refine j_irem hx (by decide +kernel) (by decide +kernel) ?_
  refine j_if_ne hx (off := 7) (tgt := 330) (by decide +kernel) (by decide) (fun _ => ?_) (fun _ => ?_)
  · exact wsh_sections_330 h l3 (jR q78 400 t) q78
  refine j_runA hx 1 (tb := [(326, .iconst 1)]) (jtb_ok (by decide +kernel)) (pc' := 327) (lv' := [(0, vR t), (3, vI l3)]) (st' := [vI (kI 1), vR (jR q78 400 t)]) rfl ?_
  refine j_goto hx (off := 4) (by decide +kernel) (tgt := 331) (by decide) ?_
  exact wsh_sections_331 h l3 (kI 1) (jR q78 400 t) q78
theorem wsh_sections_246 {x : jCx} {en : (fsh_sections_S ⊕ ((Nat × jW) ⊕ jW)) → Option (Outcome × jW)} {t : Nat} (h : hsh_sections x en t) (l3 : Int32) (s0 : Int32) (s1 : Nat) (W : jW) : jJ x 6 246 [(0, vR t), (3, vI l3)] [vI s0, vR s1] W (fsh_sections_246 t l3 s0 s1 W) en := by
  have h0 := h
  obtain ⟨hx, hm, hr, he, ht, k2, k65, k100, k342, k400, k482, k494, k541, k636, k724⟩ := h0
  unfold fsh_sections_246
  refine j_runA hx 4 (tb := [(246, .iconst 3), (247, .iload_n 3), (248, .bipush 16), (250, .iadd)]) (jtb_ok (by decide +kernel)) (pc' := 251) (lv' := [(0, vR t), (3, vI l3)]) (st' := [vI (l3 + (kI 16)), vI (kI 3), vI s0, vR s1]) rfl ?_
  refine j_gd (fun h70 => ?_)
  refine j_EV (j_callV (av := [vI s0, vI (kI 3), vI (l3 + (kI 16))]) (st := []) hx hr (Or.inl q757) q758 q759 rfl md_ftr_must np_ftr_must (ctr_must s1 s0 (kI 3) (l3 + (kI 16)) W) (by decide) (Nat.le_of_ble_eq_true rfl) h70 (by decide) (by decide +kernel)) (fun z _ r h9 => j_upE hm hx (ht z) h9) (fun q71 _ => ?_)
  refine j_runA hx 1 (tb := [(254, .aload_n 0)]) (jtb_ok (by decide +kernel)) (pc' := 255) (lv' := [(0, vR t), (3, vI l3)]) (st' := [vR t]) rfl ?_
  refine j_gd (fun h73 => ?_)
  refine j_getR hx flX3_53 kl400 h73 (by decide) (by decide +kernel) ?_
  refine j_runA hx 1 (tb := [(258, .aload_n 0)]) (jtb_ok (by decide +kernel)) (pc' := 259) (lv' := [(0, vR t), (3, vI l3)]) (st' := [vR t, vR (jR q71 400 t)]) rfl ?_
  refine j_getR hx flX3_34 kl414 h73 (by decide) (by decide +kernel) ?_
  refine j_runA hx 1 (tb := [(262, .aload_n 0)]) (jtb_ok (by decide +kernel)) (pc' := 263) (lv' := [(0, vR t), (3, vI l3)]) (st' := [vR t, vR (jR q71 414 t), vR (jR q71 400 t)]) rfl ?_
  refine j_getI hx flX3_167 kd418 h73 (by decide) (by decide +kernel) ?_
  refine j_gd (fun h74 => ?_)
  refine j_iald hx (f := 414) (o := t) kd414 rfl (by decide +kernel) h74 ?_
  refine j_runA hx 1 (tb := [(267, .aload_n 0)]) (jtb_ok (by decide +kernel)) (pc' := 268) (lv' := [(0, vR t), (3, vI l3)]) (st' := [vR t, vI (jA q71 414 t (ix (jI q71 418 t))), vR (jR q71 400 t)]) rfl ?_
  refine j_OI (j_callV (av := []) (st := [vI (jA q71 414 t (ix (jI q71 418 t))), vR (jR q71 400 t)]) hx hr (Or.inl q850) q789 q790 rfl md_fsh_textOffset np_fsh_textOffset (csh_textOffset t q71) (by decide) (Nat.le_of_ble_eq_true rfl) h73 (by decide) (by decide +kernel)) (fun q75 _ => ?_)
  refine j_icmp_ne hx (off := 7) (tgt := 278) (by decide +kernel) (by decide) (fun _ => ?_) (fun _ => ?_)
  · refine j_runA hx 1 (tb := [(278, .iconst 0)]) (jtb_ok (by decide +kernel)) (pc' := 279) (lv' := [(0, vR t), (3, vI l3)]) (st' := [vI (kI 0), vR (jR q71 400 t)]) rfl ?_
    exact wsh_sections_279 h l3 (kI 0) (jR q71 400 t) q71
  refine j_runA hx 1 (tb := [(274, .iconst 1)]) (jtb_ok (by decide +kernel)) (pc' := 275) (lv' := [(0, vR t), (3, vI l3)]) (st' := [vI (kI 1), vR (jR q71 400 t)]) rfl ?_
  refine j_goto hx (off := 4) (by decide +kernel) (tgt := 279) (by decide) ?_
  exact wsh_sections_279 h l3 (kI 1) (jR q71 400 t) q71
theorem wsh_sections_245 {x : jCx} {en : (fsh_sections_S ⊕ ((Nat × jW) ⊕ jW)) → Option (Outcome × jW)} {t : Nat} (h : hsh_sections x en t) (l3 : Int32) (s0 : Nat) (W : jW) : jJ x 6 245 [(0, vR t), (3, vI l3)] [vR s0] W (fsh_sections_245 t l3 s0 W) en := by
  have h0 := h
  obtain ⟨hx, hm, hr, he, ht, k2, k65, k100, k342, k400, k482, k494, k541, k636, k724⟩ := h0
  unfold fsh_sections_245
  refine j_runA hx 1 (tb := [(245, .iconst 0)]) (jtb_ok (by decide +kernel)) (pc' := 246) (lv' := [(0, vR t), (3, vI l3)]) (st' := [vI (kI 0), vR s0]) rfl ?_
  exact wsh_sections_246 h l3 (kI 0) s0 W
theorem wsh_sections_182 {x : jCx} {en : (fsh_sections_S ⊕ ((Nat × jW) ⊕ jW)) → Option (Outcome × jW)} {t : Nat} (h : hsh_sections x en t) (s0 : Int32) (s1 : Nat) (W : jW) : jJ x 6 182 [(0, vR t)] [vI s0, vR s1] W (fsh_sections_182 t s0 s1 W) en := by
  have h0 := h
  obtain ⟨hx, hm, hr, he, ht, k2, k65, k100, k342, k400, k482, k494, k541, k636, k724⟩ := h0
  unfold fsh_sections_182
  refine j_runA hx 2 (tb := [(182, .iconst 3), (183, .bipush 60)]) (jtb_ok (by decide +kernel)) (pc' := 185) (lv' := [(0, vR t)]) (st' := [vI (kI 60), vI (kI 3), vI s0, vR s1]) rfl ?_
  refine j_gd (fun h59 => ?_)
  refine j_EV (j_callV (av := [vI s0, vI (kI 3), vI (kI 60)]) (st := []) hx hr (Or.inl q757) q758 q759 rfl md_ftr_must np_ftr_must (ctr_must s1 s0 (kI 3) (kI 60) W) (by decide) (Nat.le_of_ble_eq_true rfl) h59 (by decide) (by decide +kernel)) (fun z _ r h9 => j_upE hm hx (ht z) h9) (fun q60 _ => ?_)
  refine j_runA hx 2 (tb := [(188, .aload_n 0), (189, .aload_n 0)]) (jtb_ok (by decide +kernel)) (pc' := 190) (lv' := [(0, vR t)]) (st' := [vR t, vR t]) rfl ?_
  refine j_gd (fun h62 => ?_)
  refine j_getI hx flX3_167 kd418 h62 (by decide) (by decide +kernel) ?_
  refine j_OI (j_callV (av := [vI (jI q60 418 t)]) (st := []) hx hr (Or.inl q837) q838 q839 rfl md_fsh_headOf np_fsh_headOf (csh_headOf t (jI q60 418 t) q60) (by decide) (Nat.le_of_ble_eq_true rfl) h62 (by decide) (by decide +kernel)) (fun q63 _ => ?_)
  refine j_runA hx 2 (tb := [(196, .istore_n 3), (197, .aload_n 0)]) (jtb_ok (by decide +kernel)) (pc' := 198) (lv' := [(3, vI q63), (0, vR t)]) (st' := [vR t]) rfl ?_
  refine j_getR hx flX3_53 kl400 h62 (by decide) (by decide +kernel) ?_
  refine j_runA hx 1 (tb := [(201, .aload_n 0)]) (jtb_ok (by decide +kernel)) (pc' := 202) (lv' := [(3, vI q63), (0, vR t)]) (st' := [vR t, vR (jR q60 400 t)]) rfl ?_
  refine j_getR hx flX3_31 kl413 h62 (by decide) (by decide +kernel) ?_
  refine j_runA hx 1 (tb := [(205, .aload_n 0)]) (jtb_ok (by decide +kernel)) (pc' := 206) (lv' := [(3, vI q63), (0, vR t)]) (st' := [vR t, vR (jR q60 413 t), vR (jR q60 400 t)]) rfl ?_
  refine j_getI hx flX3_167 kd418 h62 (by decide) (by decide +kernel) ?_
  refine j_gd (fun h64 => ?_)
  refine j_lald hx (f := 413) (o := t) kd413 rfl (by decide +kernel) h64 ?_
  refine j_runA hx 1 (tb := [(210, .aload_n 0)]) (jtb_ok (by decide +kernel)) (pc' := 211) (lv' := [(3, vI q63), (0, vR t)]) (st' := [vR t, vL (jB q60 413 t (ix (jI q60 418 t))), vR (jR q60 400 t)]) rfl ?_
  refine j_getR hx flX3_15 kl408 h62 (by decide) (by decide +kernel) ?_
  refine j_runA hx 1 (tb := [(214, .aload_n 0)]) (jtb_ok (by decide +kernel)) (pc' := 215) (lv' := [(3, vI q63), (0, vR t)]) (st' := [vR t, vR (jR q60 408 t), vL (jB q60 413 t (ix (jI q60 418 t))), vR (jR q60 400 t)]) rfl ?_
  refine j_OI (j_callV (av := []) (st := [vR (jR q60 408 t), vL (jB q60 413 t (ix (jI q60 418 t))), vR (jR q60 400 t)]) hx hr (Or.inl q792) q793 q794 rfl md_fsh_last np_fsh_last (csh_last t q60) (by decide) (Nat.le_of_ble_eq_true rfl) h62 (by decide) (by decide +kernel)) (fun q65 _ => ?_)
  refine j_gd (fun h66 => ?_)
  refine j_lald hx (f := 408) (o := t) kd408 rfl (by decide +kernel) h66 ?_
  refine j_lcmp_ne hx (off := 25) (tgt := 245) (by decide +kernel) (by decide +kernel) (by decide) (fun _ => ?_) (fun _ => ?_)
  · refine j_lv (lv' := [(0, vR t), (3, vI q63)]) ⟨rfl, rfl, trivial⟩ ?_
    exact wsh_sections_245 h q63 (jR q60 400 t) q60
  refine j_runA hx 1 (tb := [(223, .aload_n 0)]) (jtb_ok (by decide +kernel)) (pc' := 224) (lv' := [(3, vI q63), (0, vR t)]) (st' := [vR t, vR (jR q60 400 t)]) rfl ?_
  refine j_getR hx flX3_15 kl408 h62 (by decide) (by decide +kernel) ?_
  refine j_runA hx 1 (tb := [(227, .aload_n 0)]) (jtb_ok (by decide +kernel)) (pc' := 228) (lv' := [(3, vI q63), (0, vR t)]) (st' := [vR t, vR (jR q60 408 t), vR (jR q60 400 t)]) rfl ?_
  refine j_OI (j_callV (av := []) (st := [vR (jR q60 408 t), vR (jR q60 400 t)]) hx hr (Or.inl q792) q793 q794 rfl md_fsh_last np_fsh_last (csh_last t q60) (by decide) (Nat.le_of_ble_eq_true rfl) h62 (by decide) (by decide +kernel)) (fun q67 _ => ?_)
  refine j_gd (fun h68 => ?_)
  refine j_lald hx (f := 408) (o := t) kd408 rfl (by decide +kernel) h68 ?_
  refine j_ldc2 hx (v := (kJ 4)) (jkd2 q849 (by decide +kernel)) (by decide +kernel) ?_
  refine j_lrem hx (by decide +kernel) (by decide +kernel) ?_
  refine j_runA hx 1 (tb := [(236, .lconst 0)]) (jtb_ok (by decide +kernel)) (pc' := 237) (lv' := [(3, vI q63), (0, vR t)]) (st' := [vL (kJ 0), vL (lrm (jB q60 408 t (ix q67)) (kJ 4)), vR (jR q60 400 t)]) rfl ?_
  refine j_lcmp_ne hx (off := 7) (tgt := 245) (by decide +kernel) (by decide +kernel) (by decide) (fun _ => ?_) (fun _ => ?_)
  · refine j_lv (lv' := [(0, vR t), (3, vI q63)]) ⟨rfl, rfl, trivial⟩ ?_
    exact wsh_sections_245 h q63 (jR q60 400 t) q60
  refine j_runA hx 1 (tb := [(241, .iconst 1)]) (jtb_ok (by decide +kernel)) (pc' := 242) (lv' := [(3, vI q63), (0, vR t)]) (st' := [vI (kI 1), vR (jR q60 400 t)]) rfl ?_
  refine j_goto hx (off := 4) (by decide +kernel) (tgt := 246) (by decide) ?_
  refine j_lv (lv' := [(0, vR t), (3, vI q63)]) ⟨rfl, rfl, trivial⟩ ?_
  exact wsh_sections_246 h q63 (kI 1) (jR q60 400 t) q60
theorem wsh_sections_162 {x : jCx} {en : (fsh_sections_S ⊕ ((Nat × jW) ⊕ jW)) → Option (Outcome × jW)} {t : Nat} (h : hsh_sections x en t) (l2 : Int32) (s0 : Int32) (s1 : Nat) (W : jW) : jJ x 6 162 [(0, vR t), (2, vI l2)] [vI s0, vR s1] W (fsh_sections_162 t l2 s0 s1 W) en := by
  have h0 := h
  obtain ⟨hx, hm, hr, he, ht, k2, k65, k100, k342, k400, k482, k494, k541, k636, k724⟩ := h0
  unfold fsh_sections_162
  refine j_runA hx 2 (tb := [(162, .iconst 3), (163, .bipush 60)]) (jtb_ok (by decide +kernel)) (pc' := 165) (lv' := [(0, vR t), (2, vI l2)]) (st' := [vI (kI 60), vI (kI 3), vI s0, vR s1]) rfl ?_
  refine j_gd (fun h54 => ?_)
  refine j_EV (j_callV (av := [vI s0, vI (kI 3), vI (kI 60)]) (st := []) hx hr (Or.inl q757) q758 q759 rfl md_ftr_must np_ftr_must (ctr_must s1 s0 (kI 3) (kI 60) W) (by decide) (Nat.le_of_ble_eq_true rfl) h54 (by decide) (by decide +kernel)) (fun z _ r h9 => j_upE hm hx (ht z) h9) (fun q55 _ => ?_)
  refine j_runA hx 1 (tb := [(168, .aload_n 0)]) (jtb_ok (by decide +kernel)) (pc' := 169) (lv' := [(0, vR t), (2, vI l2)]) (st' := [vR t]) rfl ?_
  refine j_gd (fun h57 => ?_)
  refine j_getR hx flX3_53 kl400 h57 (by decide) (by decide +kernel) ?_
  refine j_runA hx 2 (tb := [(172, .iload_n 2), (173, .iconst 1)]) (jtb_ok (by decide +kernel)) (pc' := 174) (lv' := [(0, vR t), (2, vI l2)]) (st' := [vI (kI 1), vI l2, vR (jR q55 400 t)]) rfl ?_
  refine j_icmp_ne hx (off := 7) (tgt := 181) (by decide +kernel) (by decide) (fun _ => ?_) (fun _ => ?_)
  · refine j_runA hx 1 (tb := [(181, .iconst 0)]) (jtb_ok (by decide +kernel)) (pc' := 182) (lv' := [(0, vR t), (2, vI l2)]) (st' := [vI (kI 0), vR (jR q55 400 t)]) rfl ?_
    refine j_lv (lv' := [(0, vR t)]) ⟨rfl, trivial⟩ ?_
    exact wsh_sections_182 h (kI 0) (jR q55 400 t) q55
  refine j_runA hx 1 (tb := [(177, .iconst 1)]) (jtb_ok (by decide +kernel)) (pc' := 178) (lv' := [(0, vR t), (2, vI l2)]) (st' := [vI (kI 1), vR (jR q55 400 t)]) rfl ?_
  refine j_goto hx (off := 4) (by decide +kernel) (tgt := 182) (by decide) ?_
  refine j_lv (lv' := [(0, vR t)]) ⟨rfl, trivial⟩ ?_
  exact wsh_sections_182 h (kI 1) (jR q55 400 t) q55
theorem wsh_sections_100 {x : jCx} {en : (fsh_sections_S ⊕ ((Nat × jW) ⊕ jW)) → Option (Outcome × jW)} {t : Nat} (h : hsh_sections x en t) (l1 : Int32) (l2 : Int32) (l3 : Int32) (W : jW) : jJ x 6 100 [(0, vR t), (1, vI l1), (2, vI l2), (3, vI l3)] [] W (fsh_sections_100 t l1 l2 l3 W) en := by
  have h0 := h
  obtain ⟨hx, hm, hr, he, ht, k2, k65, k100, k342, k400, k482, k494, k541, k636, k724⟩ := h0
  unfold fsh_sections_100
  refine j_runA hx 2 (tb := [(100, .iload_n 3), (101, .aload_n 0)]) (jtb_ok (by decide +kernel)) (pc' := 102) (lv' := [(0, vR t), (1, vI l1), (2, vI l2), (3, vI l3)]) (st' := [vR t, vI l3]) rfl ?_
  refine j_gd (fun h36 => ?_)
  refine j_getI hx flX3_78 kd403 h36 (by decide) (by decide +kernel) ?_
  refine j_icmp_ge hx (off := 43) (tgt := 148) (by decide +kernel) (by decide) (fun _ => ?_) (fun _ => ?_)
  · refine j_runA hx 1 (tb := [(148, .aload_n 0)]) (jtb_ok (by decide +kernel)) (pc' := 149) (lv' := [(0, vR t), (1, vI l1), (2, vI l2), (3, vI l3)]) (st' := [vR t]) rfl ?_
    refine j_getR hx flX3_53 kl400 h36 (by decide) (by decide +kernel) ?_
    refine j_runA hx 2 (tb := [(152, .iload_n 1), (153, .iconst 1)]) (jtb_ok (by decide +kernel)) (pc' := 154) (lv' := [(0, vR t), (1, vI l1), (2, vI l2), (3, vI l3)]) (st' := [vI (kI 1), vI l1, vR (jR W 400 t)]) rfl ?_
    refine j_icmp_ne hx (off := 7) (tgt := 161) (by decide +kernel) (by decide) (fun _ => ?_) (fun _ => ?_)
    · refine j_runA hx 1 (tb := [(161, .iconst 0)]) (jtb_ok (by decide +kernel)) (pc' := 162) (lv' := [(0, vR t), (1, vI l1), (2, vI l2), (3, vI l3)]) (st' := [vI (kI 0), vR (jR W 400 t)]) rfl ?_
      refine j_lv (lv' := [(0, vR t), (2, vI l2)]) ⟨rfl, rfl, trivial⟩ ?_
      exact wsh_sections_162 h l2 (kI 0) (jR W 400 t) W
    refine j_runA hx 1 (tb := [(157, .iconst 1)]) (jtb_ok (by decide +kernel)) (pc' := 158) (lv' := [(0, vR t), (1, vI l1), (2, vI l2), (3, vI l3)]) (st' := [vI (kI 1), vR (jR W 400 t)]) rfl ?_
    refine j_goto hx (off := 4) (by decide +kernel) (tgt := 162) (by decide) ?_
    refine j_lv (lv' := [(0, vR t), (2, vI l2)]) ⟨rfl, rfl, trivial⟩ ?_
    exact wsh_sections_162 h l2 (kI 1) (jR W 400 t) W
  refine j_runA hx 2 (tb := [(108, .aload_n 0), (109, .iload_n 3)]) (jtb_ok (by decide +kernel)) (pc' := 110) (lv' := [(0, vR t), (1, vI l1), (2, vI l2), (3, vI l3)]) (st' := [vI l3, vR t]) rfl ?_
  refine j_OI (j_callV (av := [vI l3]) (st := []) hx hr (Or.inl q845) q846 q847 rfl md_fsh_isCode np_fsh_isCode (csh_isCode t l3 W) (by decide) (Nat.le_of_ble_eq_true rfl) h36 (by decide) (by decide +kernel)) (fun q37 _ => ?_)
  refine j_if_eq hx (off := 11) (tgt := 124) (by decide +kernel) (by decide) (fun _ => ?_) (fun _ => ?_)
  · exact wsh_sections_124 h l1 l2 l3 W
  refine j_runA hx 2 (tb := [(116, .aload_n 0), (117, .iload_n 3)]) (jtb_ok (by decide +kernel)) (pc' := 118) (lv' := [(0, vR t), (1, vI l1), (2, vI l2), (3, vI l3)]) (st' := [vI l3, vR t]) rfl ?_
  refine j_putI hx fwX3_167 wf418 kd418 h36 (by decide) (by decide +kernel) (ni418 _) (fi418 _) ?_
  refine j_ltw rfl (fun W38 hc39 => ?_)
  have h40 : jC W38 t = 4 := (congrFun hc39 _).trans h36
  refine j_runA hx 1 (tb := [(121, .iinc 1 1)]) (jtb_ok (by decide +kernel)) (pc' := 124) (lv' := [(1, vI (l1 + (kI 1))), (0, vR t), (2, vI l2), (3, vI l3)]) (st' := []) rfl ?_
  refine j_let (v := (l1 + (kI 1))) (lv := fun v42 => [(1, vI v42), (0, vR t), (2, vI l2), (3, vI l3)]) (st := fun _ => []) (fun v42 => ?_)
  refine j_lv (lv' := [(0, vR t), (1, vI v42), (2, vI l2), (3, vI l3)]) ⟨rfl, rfl, rfl, rfl, trivial⟩ ?_
  exact wsh_sections_124 h v42 l2 l3 W38
theorem wsh_sections_65 {x : jCx} {en : (fsh_sections_S ⊕ ((Nat × jW) ⊕ jW)) → Option (Outcome × jW)} {t : Nat} (h : hsh_sections x en t) (l1 : Int32) (W : jW) : jJ x 6 65 [(0, vR t), (1, vI l1)] [] W (fsh_sections_65 t l1 W) en := by
  have h0 := h
  obtain ⟨hx, hm, hr, he, ht, k2, k65, k100, k342, k400, k482, k494, k541, k636, k724⟩ := h0
  unfold fsh_sections_65
  refine j_runA hx 2 (tb := [(65, .iload_n 1), (66, .aload_n 0)]) (jtb_ok (by decide +kernel)) (pc' := 67) (lv' := [(0, vR t), (1, vI l1)]) (st' := [vR t, vI l1]) rfl ?_
  refine j_gd (fun h23 => ?_)
  refine j_getI hx flX3_78 kd403 h23 (by decide) (by decide +kernel) ?_
  refine j_icmp_ge hx (off := 14) (tgt := 84) (by decide +kernel) (by decide) (fun _ => ?_) (fun _ => ?_)
  · refine j_runA hx 2 (tb := [(84, .aload_n 0), (85, .iconst 0)]) (jtb_ok (by decide +kernel)) (pc' := 86) (lv' := [(0, vR t), (1, vI l1)]) (st' := [vI (kI 0), vR t]) rfl ?_
    refine j_putI hx fwX3_167 wf418 kd418 h23 (by decide) (by decide +kernel) (ni418 _) (fi418 _) ?_
    refine j_ltw rfl (fun W24 hc25 => ?_)
    have h26 : jC W24 t = 4 := (congrFun hc25 _).trans h23
    refine j_runA hx 2 (tb := [(89, .aload_n 0), (90, .iconst 0)]) (jtb_ok (by decide +kernel)) (pc' := 91) (lv' := [(0, vR t), (1, vI l1)]) (st' := [vI (kI 0), vR t]) rfl ?_
    refine j_putI hx fwX3_170 wf419 kd419 h26 (by decide) (by decide +kernel) (ni419 _) (fi419 _) ?_
    refine j_ltw rfl (fun W28 hc29 => ?_)
    have h30 : jC W28 t = 4 := (congrFun hc29 _).trans h26
    refine j_runA hx 6 (tb := [(94, .iconst 0), (95, .istore_n 1), (96, .iconst 0), (97, .istore_n 2), (98, .iconst 1), (99, .istore_n 3)]) (jtb_ok (by decide +kernel)) (pc' := 100) (lv' := [(3, vI (kI 1)), (2, vI (kI 0)), (1, vI (kI 0)), (0, vR t)]) (st' := []) rfl ?_
    refine j_lv (lv' := [(0, vR t), (1, vI (kI 0)), (2, vI (kI 0)), (3, vI (kI 1))]) ⟨rfl, rfl, rfl, rfl, trivial⟩ ?_
    exact k100 (kI 0) (kI 0) (kI 1) W28
  refine j_runA hx 2 (tb := [(73, .aload_n 0), (74, .iload_n 1)]) (jtb_ok (by decide +kernel)) (pc' := 75) (lv' := [(0, vR t), (1, vI l1)]) (st' := [vI l1, vR t]) rfl ?_
  refine j_EV (j_callV (av := [vI l1]) (st := []) hx hr (Or.inl q833) q835 qs6 rfl md_fsh_section np_fsh_section (csh_section t l1 W) (by decide) (Nat.le_of_ble_eq_true rfl) h23 (by decide) (by decide +kernel)) (fun z _ r h9 => j_upE hm hx (ht z) h9) (fun q32 _ => ?_)
  refine j_runA hx 1 (tb := [(78, .iinc 1 1)]) (jtb_ok (by decide +kernel)) (pc' := 81) (lv' := [(1, vI (l1 + (kI 1))), (0, vR t)]) (st' := []) rfl ?_
  refine j_let (v := (l1 + (kI 1))) (lv := fun v34 => [(1, vI v34), (0, vR t)]) (st := fun _ => []) (fun v34 => ?_)
  refine j_goto hx (off := -16) (by decide +kernel) (tgt := 65) (by decide) ?_
  refine j_lv (lv' := [(0, vR t), (1, vI v34)]) ⟨rfl, rfl, trivial⟩ ?_
  exact k65 v34 q32
theorem wsh_sections_2 {x : jCx} {en : (fsh_sections_S ⊕ ((Nat × jW) ⊕ jW)) → Option (Outcome × jW)} {t : Nat} (h : hsh_sections x en t) (l1 : Int32) (W : jW) : jJ x 6 2 [(0, vR t), (1, vI l1)] [] W (fsh_sections_2 t l1 W) en := by
  have h0 := h
  obtain ⟨hx, hm, hr, he, ht, k2, k65, k100, k342, k400, k482, k494, k541, k636, k724⟩ := h0
  unfold fsh_sections_2
  refine j_runA hx 2 (tb := [(2, .iload_n 1), (3, .bipush 64)]) (jtb_ok (by decide +kernel)) (pc' := 5) (lv' := [(0, vR t), (1, vI l1)]) (st' := [vI (kI 64), vI l1]) rfl ?_
  refine j_icmp_ge hx (off := 44) (tgt := 49) (by decide +kernel) (by decide) (fun _ => ?_) (fun _ => ?_)
  · refine j_runA hx 1 (tb := [(49, .aload_n 0)]) (jtb_ok (by decide +kernel)) (pc' := 50) (lv' := [(0, vR t), (1, vI l1)]) (st' := [vR t]) rfl ?_
    refine j_gd (fun h2 => ?_)
    refine j_getR hx flX3_25 kl411 h2 (by decide) (by decide +kernel) ?_
    refine j_runA hx 2 (tb := [(53, .iconst 0), (54, .iconst 0)]) (jtb_ok (by decide +kernel)) (pc' := 55) (lv' := [(0, vR t), (1, vI l1)]) (st' := [vI (kI 0), vI (kI 0), vR (jR W 411 t)]) rfl ?_
    refine j_gd (fun h3 => ?_)
    refine j_iast hx (f := 411) (o := t) kd411 rfl (by decide +kernel) h3 ?_
    refine j_ltw rfl (fun W4 hc5 => ?_)
    have h6 : jC W4 t = 4 := (congrFun hc5 _).trans h2
    refine j_runA hx 1 (tb := [(56, .aload_n 0)]) (jtb_ok (by decide +kernel)) (pc' := 57) (lv' := [(0, vR t), (1, vI l1)]) (st' := [vR t]) rfl ?_
    refine j_getR hx flX3_37 kl415 h6 (by decide) (by decide +kernel) ?_
    refine j_runA hx 2 (tb := [(60, .iconst 0), (61, .iconst 0)]) (jtb_ok (by decide +kernel)) (pc' := 62) (lv' := [(0, vR t), (1, vI l1)]) (st' := [vI (kI 0), vI (kI 0), vR (jR W4 415 t)]) rfl ?_
    refine j_gd (fun h8 => ?_)
    refine j_iast hx (f := 415) (o := t) kd415 rfl (by decide +kernel) h8 ?_
    refine j_ltw rfl (fun W9 hc10 => ?_)
    have h11 : jC W9 t = 4 := (congrFun hc10 _).trans h6
    refine j_runA hx 2 (tb := [(63, .iconst 1), (64, .istore_n 1)]) (jtb_ok (by decide +kernel)) (pc' := 65) (lv' := [(1, vI (kI 1)), (0, vR t)]) (st' := []) rfl ?_
    refine j_lv (lv' := [(0, vR t), (1, vI (kI 1))]) ⟨rfl, rfl, trivial⟩ ?_
    exact k65 (kI 1) W9
  refine j_runA hx 1 (tb := [(8, .aload_n 0)]) (jtb_ok (by decide +kernel)) (pc' := 9) (lv' := [(0, vR t), (1, vI l1)]) (st' := [vR t]) rfl ?_
  refine j_gd (fun h13 => ?_)
  refine j_getR hx flX3_53 kl400 h13 (by decide) (by decide +kernel) ?_
  refine j_runA hx 1 (tb := [(12, .aload_n 0)]) (jtb_ok (by decide +kernel)) (pc' := 13) (lv' := [(0, vR t), (1, vI l1)]) (st' := [vR t, vR (jR W 400 t)]) rfl ?_
  refine j_getR hx flX3_57 kl401 h13 (by decide) (by decide +kernel) ?_
  refine j_runA hx 1 (tb := [(16, .aload_n 0)]) (jtb_ok (by decide +kernel)) (pc' := 17) (lv' := [(0, vR t), (1, vI l1)]) (st' := [vR t, vR (jR W 401 t), vR (jR W 400 t)]) rfl ?_
  refine j_getI hx flX3_143 kd405 h13 (by decide) (by decide +kernel) ?_
  refine j_runA hx 2 (tb := [(20, .iload_n 1), (21, .iadd)]) (jtb_ok (by decide +kernel)) (pc' := 22) (lv' := [(0, vR t), (1, vI l1)]) (st' := [vI ((jI W 405 t) + l1), vR (jR W 401 t), vR (jR W 400 t)]) rfl ?_
  refine j_gd (fun h14 => ?_)
  refine j_OL (h14.elim (fun hh => j_callU (av := [vI ((jI W 405 t) + l1)]) (st := [vR (jR W 400 t)]) hx hr q761 q763 (hde_fsr_pair) (by decide) q762 q764 rfl md_fsr_pair np_fsr_pair (csr_pair (jR W 401 t) ((jI W 405 t) + l1) W) (by decide) (Nat.le_of_ble_eq_true rfl) hh (by decide) (by decide +kernel)) (fun hh => j_callU (av := [vI ((jI W 405 t) + l1)]) (st := [vR (jR W 400 t)]) hx hr q761 q763 (hde_fsr_pair) (by decide) q762 q765 rfl md_fsr_pair np_fsr_pair (csr_pair (jR W 401 t) ((jI W 405 t) + l1) W) (by decide) (Nat.le_of_ble_eq_true rfl) hh (by decide) (by decide +kernel))) (fun q15 _ => ?_)
  refine j_runA hx 1 (tb := [(25, .lconst 0)]) (jtb_ok (by decide +kernel)) (pc' := 26) (lv' := [(0, vR t), (1, vI l1)]) (st' := [vL (kJ 0), vL q15, vR (jR W 400 t)]) rfl ?_
  refine j_lcmp_ne hx (off := 7) (tgt := 34) (by decide +kernel) (by decide +kernel) (by decide) (fun _ => ?_) (fun _ => ?_)
  · refine j_runA hx 1 (tb := [(34, .iconst 0)]) (jtb_ok (by decide +kernel)) (pc' := 35) (lv' := [(0, vR t), (1, vI l1)]) (st' := [vI (kI 0), vR (jR W 400 t)]) rfl ?_
    exact wsh_sections_35 h l1 (kI 0) (jR W 400 t) W
  refine j_runA hx 1 (tb := [(30, .iconst 1)]) (jtb_ok (by decide +kernel)) (pc' := 31) (lv' := [(0, vR t), (1, vI l1)]) (st' := [vI (kI 1), vR (jR W 400 t)]) rfl ?_
  refine j_goto hx (off := 4) (by decide +kernel) (tgt := 35) (by decide) ?_
  exact wsh_sections_35 h l1 (kI 1) (jR W 400 t) W
theorem wsh_sections {x : jCx} {en : (fsh_sections_S ⊕ ((Nat × jW) ⊕ jW)) → Option (Outcome × jW)} {t : Nat} (h : hsh_sections x en t) (W : jW) : jJ x 6 0 [(0, vR t)] [] W (fsh_sections_0 t W) en := by
  have h0 := h
  obtain ⟨hx, hm, hr, he, ht, k2, k65, k100, k342, k400, k482, k494, k541, k636, k724⟩ := h0
  unfold fsh_sections_0
  refine j_runA hx 2 (tb := [(0, .iconst 0), (1, .istore_n 1)]) (jtb_ok (by decide +kernel)) (pc' := 2) (lv' := [(1, vI (kI 0)), (0, vR t)]) (st' := []) rfl ?_
  refine j_lv (lv' := [(0, vR t), (1, vI (kI 0))]) ⟨rfl, rfl, trivial⟩ ?_
  exact k2 (kI 0) W
theorem csh_sections (t : Nat) (W : jW) : jM yX3_sections cX3_sections 6 (Option.none : Option Jvm.ClassFile.FieldType) [] 7 106 [vR t] W ((fsh_sections t W).bind (fun q => some (Sum.elim (fun z => (.threw (z.1 - 1), z.2)) (fun q => (.returned none, q)) q))) := by
  refine jM.of (Nat.le_of_ble_eq_true rfl) (fun x hx hm hr => ?_)
  refine j_begin (P := (Sum.elim (fun s => (2, [(0, vR t), (1, vI s.1)], s.2)) (Sum.elim (fun s => (65, [(0, vR t), (1, vI s.1)], s.2)) (Sum.elim (fun s => (100, [(0, vR t), (1, vI s.1), (2, vI s.2.1), (3, vI s.2.2.1)], s.2.2.2)) (Sum.elim (fun s => (342, [(0, vR t), (4, vI s.1)], s.2)) (Sum.elim (fun s => (400, [(0, vR t), (4, vI s.1)], s.2)) (Sum.elim (fun s => (482, [(0, vR t), (4, vI s.1)], s.2)) (Sum.elim (fun s => (494, [(0, vR t), (4, vI s.1), (5, vI s.2.1)], s.2.2)) (Sum.elim (fun s => (541, [(0, vR t), (4, vI s.1)], s.2)) (Sum.elim (fun s => (636, [(0, vR t), (4, vI s.1)], s.2)) (fun s => (724, [(0, vR t), (4, vI s.1)], s.2)))))))))))) (fun en he hk => ?_)
  have h : hsh_sections x en t := ⟨hx, hm, hr, fun q => he _, fun z => he _, fun l1 W => hk (.inl (l1, W)), fun l1 W => hk (.inr (.inl (l1, W))), fun l1 l2 l3 W => hk (.inr (.inr (.inl (l1, l2, l3, W)))), fun l4 W => hk (.inr (.inr (.inr (.inl (l4, W))))), fun l4 W => hk (.inr (.inr (.inr (.inr (.inl (l4, W)))))), fun l4 W => hk (.inr (.inr (.inr (.inr (.inr (.inl (l4, W))))))), fun l4 l5 W => hk (.inr (.inr (.inr (.inr (.inr (.inr (.inl (l4, l5, W)))))))), fun l4 W => hk (.inr (.inr (.inr (.inr (.inr (.inr (.inr (.inl (l4, W))))))))), fun l4 W => hk (.inr (.inr (.inr (.inr (.inr (.inr (.inr (.inr (.inl (l4, W)))))))))), fun l4 W => hk (.inr (.inr (.inr (.inr (.inr (.inr (.inr (.inr (.inr (l4, W))))))))))⟩
  refine ⟨fun s => ?_, wsh_sections h W⟩
  rcases s with s | s | s | s | s | s | s | s | s | s
  · exact wsh_sections_2 h s.1 s.2
  · exact wsh_sections_65 h s.1 s.2
  · exact wsh_sections_100 h s.1 s.2.1 s.2.2.1 s.2.2.2
  · exact wsh_sections_342 h s.1 s.2
  · exact wsh_sections_400 h s.1 s.2
  · exact wsh_sections_482 h s.1 s.2
  · exact wsh_sections_494 h s.1 s.2.1 s.2.2
  · exact wsh_sections_541 h s.1 s.2
  · exact wsh_sections_636 h s.1 s.2
  · exact wsh_sections_724 h s.1 s.2
def hsh_symbolAt (x : jCx) (en : (Int32) → Option (Outcome × jW)) (t : Nat) (a1 : Int32) (W : jW) : Prop :=
  jOK x RX3 cX3_symbolAt 2 ∧
  jMt x "symbolAt" (Option.some Jvm.ClassFile.FieldType.int) [] ∧
  jRm x 0 0 ∧
  (∀ q : Int32, en q = some (.returned (some (.int q)), W))
theorem wsh_symbolAt {x : jCx} {en : (Int32) → Option (Outcome × jW)} {W : jW} {t : Nat} {a1 : Int32} (h : hsh_symbolAt x en t a1 W) : jJ x 2 0 [(0, vR t), (1, vI a1)] [] W (fsh_symbolAt t a1 W) en := by
  have h0 := h
  obtain ⟨hx, hm, hr, he⟩ := h0
  unfold fsh_symbolAt
  refine j_runA hx 1 (tb := [(0, .aload_n 0)]) (jtb_ok (by decide +kernel)) (pc' := 1) (lv' := [(0, vR t), (1, vI a1)]) (st' := [vR t]) rfl ?_
  refine j_gd (fun h1 => ?_)
  refine j_getR hx flX3_34 kl414 h1 (by decide) (by decide +kernel) ?_
  refine j_runA hx 1 (tb := [(4, .aload_n 0)]) (jtb_ok (by decide +kernel)) (pc' := 5) (lv' := [(0, vR t), (1, vI a1)]) (st' := [vR t, vR (jR W 414 t)]) rfl ?_
  refine j_getI hx flX3_170 kd419 h1 (by decide) (by decide +kernel) ?_
  refine j_gd (fun h2 => ?_)
  refine j_iald hx (f := 414) (o := t) kd414 rfl (by decide +kernel) h2 ?_
  refine j_runA hx 4 (tb := [(9, .bipush 24), (11, .iload_n 1), (12, .imul), (13, .iadd)]) (jtb_ok (by decide +kernel)) (pc' := 14) (lv' := [(0, vR t), (1, vI a1)]) (st' := [vI ((jA W 414 t (ix (jI W 419 t))) + ((kI 24) * a1))]) rfl ?_
  exact j_iret hx hm (by decide +kernel) rfl (he _)
theorem csh_symbolAt (t : Nat) (a1 : Int32) (W : jW) : jM yX3_symbolAt cX3_symbolAt 2 (Option.some Jvm.ClassFile.FieldType.int) [] 0 0 [vR t, vI a1] W ((fsh_symbolAt t a1 W).bind (fun q => some (.returned (some (.int q)), W))) := 
  jM.of (Nat.le_of_ble_eq_true rfl) (fun x hx hm hr => wsh_symbolAt ⟨hx, hm, hr, fun _ => rfl⟩)
def hsh_symbolCount (x : jCx) (en : (Int32) → Option (Outcome × jW)) (t : Nat) (W : jW) : Prop :=
  jOK x RX3 cX3_symbolCount 1 ∧
  jMt x "symbolCount" (Option.some Jvm.ClassFile.FieldType.int) [] ∧
  jRm x 0 0 ∧
  (∀ q : Int32, en q = some (.returned (some (.int q)), W))
theorem wsh_symbolCount {x : jCx} {en : (Int32) → Option (Outcome × jW)} {W : jW} {t : Nat} (h : hsh_symbolCount x en t W) : jJ x 1 0 [(0, vR t)] [] W (fsh_symbolCount t W) en := by
  have h0 := h
  obtain ⟨hx, hm, hr, he⟩ := h0
  unfold fsh_symbolCount
  refine j_runA hx 1 (tb := [(0, .aload_n 0)]) (jtb_ok (by decide +kernel)) (pc' := 1) (lv' := [(0, vR t)]) (st' := [vR t]) rfl ?_
  refine j_gd (fun h1 => ?_)
  refine j_getR hx flX3_37 kl415 h1 (by decide) (by decide +kernel) ?_
  refine j_runA hx 1 (tb := [(4, .aload_n 0)]) (jtb_ok (by decide +kernel)) (pc' := 5) (lv' := [(0, vR t)]) (st' := [vR t, vR (jR W 415 t)]) rfl ?_
  refine j_getI hx flX3_170 kd419 h1 (by decide) (by decide +kernel) ?_
  refine j_gd (fun h2 => ?_)
  refine j_iald hx (f := 415) (o := t) kd415 rfl (by decide +kernel) h2 ?_
  refine j_runA hx 1 (tb := [(9, .bipush 24)]) (jtb_ok (by decide +kernel)) (pc' := 11) (lv' := [(0, vR t)]) (st' := [vI (kI 24), vI (jA W 415 t (ix (jI W 419 t)))]) rfl ?_
  refine j_idiv hx (by decide +kernel) (by decide +kernel) ?_
  exact j_iret hx hm (by decide +kernel) rfl (he _)
theorem csh_symbolCount (t : Nat) (W : jW) : jM yX3_symbolCount cX3_symbolCount 1 (Option.some Jvm.ClassFile.FieldType.int) [] 0 0 [vR t] W ((fsh_symbolCount t W).bind (fun q => some (.returned (some (.int q)), W))) := 
  jM.of (Nat.le_of_ble_eq_true rfl) (fun x hx hm hr => wsh_symbolCount ⟨hx, hm, hr, fun _ => rfl⟩)
def hsh_valueOf (x : jCx) (en : (Int64) → Option (Outcome × jW)) (t : Nat) (a1 : Int32) (W : jW) : Prop :=
  jOK x RX3 cX3_valueOf 2 ∧
  jMt x "valueOf" (Option.some Jvm.ClassFile.FieldType.long) [] ∧
  jRm x 6 83 ∧
  (∀ q : Int64, en q = some (.returned (some (.long q)), W))
theorem wsh_valueOf {x : jCx} {en : (Int64) → Option (Outcome × jW)} {W : jW} {t : Nat} {a1 : Int32} (h : hsh_valueOf x en t a1 W) : jJ x 2 0 [(0, vR t), (1, vI a1)] [] W (fsh_valueOf t a1 W) en := by
  have h0 := h
  obtain ⟨hx, hm, hr, he⟩ := h0
  unfold fsh_valueOf
  refine j_runA hx 1 (tb := [(0, .aload_n 0)]) (jtb_ok (by decide +kernel)) (pc' := 1) (lv' := [(0, vR t), (1, vI a1)]) (st' := [vR t]) rfl ?_
  refine j_gd (fun h1 => ?_)
  refine j_getR hx flX3_57 kl401 h1 (by decide) (by decide +kernel) ?_
  refine j_runA hx 2 (tb := [(4, .aload_n 0), (5, .iload_n 1)]) (jtb_ok (by decide +kernel)) (pc' := 6) (lv' := [(0, vR t), (1, vI a1)]) (st' := [vI a1, vR t, vR (jR W 401 t)]) rfl ?_
  refine j_OI (j_callV (av := [vI a1]) (st := [vR (jR W 401 t)]) hx hr (Or.inl q879) q880 q881 rfl md_fsh_symbolAt np_fsh_symbolAt (csh_symbolAt t a1 W) (by decide) (Nat.le_of_ble_eq_true rfl) h1 (by decide) (by decide +kernel)) (fun q2 _ => ?_)
  refine j_runA hx 2 (tb := [(9, .bipush 8), (11, .iadd)]) (jtb_ok (by decide +kernel)) (pc' := 12) (lv' := [(0, vR t), (1, vI a1)]) (st' := [vI (q2 + (kI 8)), vR (jR W 401 t)]) rfl ?_
  refine j_gd (fun h3 => ?_)
  refine j_OL (h3.elim (fun hh => j_callU (av := [vI (q2 + (kI 8))]) (st := []) hx hr q761 q763 (hde_fsr_pair) (by decide) q762 q764 rfl md_fsr_pair np_fsr_pair (csr_pair (jR W 401 t) (q2 + (kI 8)) W) (by decide) (Nat.le_of_ble_eq_true rfl) hh (by decide) (by decide +kernel)) (fun hh => j_callU (av := [vI (q2 + (kI 8))]) (st := []) hx hr q761 q763 (hde_fsr_pair) (by decide) q762 q765 rfl md_fsr_pair np_fsr_pair (csr_pair (jR W 401 t) (q2 + (kI 8)) W) (by decide) (Nat.le_of_ble_eq_true rfl) hh (by decide) (by decide +kernel))) (fun q4 _ => ?_)
  exact j_lret hx hm (by decide +kernel) (he _)
theorem csh_valueOf (t : Nat) (a1 : Int32) (W : jW) : jM yX3_valueOf cX3_valueOf 2 (Option.some Jvm.ClassFile.FieldType.long) [] 6 83 [vR t, vI a1] W ((fsh_valueOf t a1 W).bind (fun q => some (.returned (some (.long q)), W))) := 
  jM.of (Nat.le_of_ble_eq_true rfl) (fun x hx hm hr => wsh_valueOf ⟨hx, hm, hr, fun _ => rfl⟩)
def hsh_end (x : jCx) (en : (Int64) → Option (Outcome × jW)) (t : Nat) (W : jW) : Prop :=
  jOK x RX3 cX3_end 1 ∧
  jMt x "end" (Option.some Jvm.ClassFile.FieldType.long) [] ∧
  jRm x 1 15 ∧
  (∀ q : Int64, en q = some (.returned (some (.long q)), W))
theorem wsh_end {x : jCx} {en : (Int64) → Option (Outcome × jW)} {W : jW} {t : Nat} (h : hsh_end x en t W) : jJ x 1 0 [(0, vR t)] [] W (fsh_end t W) en := by
  have h0 := h
  obtain ⟨hx, hm, hr, he⟩ := h0
  unfold fsh_end
  refine j_runA hx 1 (tb := [(0, .aload_n 0)]) (jtb_ok (by decide +kernel)) (pc' := 1) (lv' := [(0, vR t)]) (st' := [vR t]) rfl ?_
  refine j_gd (fun h1 => ?_)
  refine j_getR hx flX3_15 kl408 h1 (by decide) (by decide +kernel) ?_
  refine j_runA hx 1 (tb := [(4, .aload_n 0)]) (jtb_ok (by decide +kernel)) (pc' := 5) (lv' := [(0, vR t)]) (st' := [vR t, vR (jR W 408 t)]) rfl ?_
  refine j_OI (j_callV (av := []) (st := [vR (jR W 408 t)]) hx hr (Or.inl q792) q793 q794 rfl md_fsh_last np_fsh_last (csh_last t W) (by decide) (Nat.le_of_ble_eq_true rfl) h1 (by decide) (by decide +kernel)) (fun q2 _ => ?_)
  refine j_gd (fun h3 => ?_)
  refine j_lald hx (f := 408) (o := t) kd408 rfl (by decide +kernel) h3 ?_
  refine j_runA hx 1 (tb := [(9, .aload_n 0)]) (jtb_ok (by decide +kernel)) (pc' := 10) (lv' := [(0, vR t)]) (st' := [vR t, vL (jB W 408 t (ix q2))]) rfl ?_
  refine j_getR hx flX3_22 kl410 h1 (by decide) (by decide +kernel) ?_
  refine j_runA hx 1 (tb := [(13, .aload_n 0)]) (jtb_ok (by decide +kernel)) (pc' := 14) (lv' := [(0, vR t)]) (st' := [vR t, vR (jR W 410 t), vL (jB W 408 t (ix q2))]) rfl ?_
  refine j_OI (j_callV (av := []) (st := [vR (jR W 410 t), vL (jB W 408 t (ix q2))]) hx hr (Or.inl q792) q793 q794 rfl md_fsh_last np_fsh_last (csh_last t W) (by decide) (Nat.le_of_ble_eq_true rfl) h1 (by decide) (by decide +kernel)) (fun q4 _ => ?_)
  refine j_gd (fun h5 => ?_)
  refine j_iald hx (f := 410) (o := t) kd410 rfl (by decide +kernel) h5 ?_
  refine j_runA hx 2 (tb := [(18, .i2l), (19, .ladd)]) (jtb_ok (by decide +kernel)) (pc' := 20) (lv' := [(0, vR t)]) (st' := [vL ((jB W 408 t (ix q2)) + ((jA W 410 t (ix q4)).toInt64))]) rfl ?_
  exact j_lret hx hm (by decide +kernel) (he _)
theorem csh_end (t : Nat) (W : jW) : jM yX3_end cX3_end 1 (Option.some Jvm.ClassFile.FieldType.long) [] 1 15 [vR t] W ((fsh_end t W).bind (fun q => some (.returned (some (.long q)), W))) := 
  jM.of (Nat.le_of_ble_eq_true rfl) (fun x hx hm hr => wsh_end ⟨hx, hm, hr, fun _ => rfl⟩)
def hsh_isText (x : jCx) (en : (Int32) → Option (Outcome × jW)) (t : Nat) (a1 : Int64) (W : jW) : Prop :=
  jOK x RX3 cX3_isText 3 ∧
  jMt x "isText" (Option.some Jvm.ClassFile.FieldType.boolean) [] ∧
  jRm x 2 32 ∧
  (∀ q : Int32, en q = some (.returned (some (.int q)), W))
theorem wsh_isText {x : jCx} {en : (Int32) → Option (Outcome × jW)} {W : jW} {t : Nat} {a1 : Int64} (h : hsh_isText x en t a1 W) : jJ x 3 0 [(0, vR t), (1, vL a1)] [] W (fsh_isText t a1 W) en := by
  have h0 := h
  obtain ⟨hx, hm, hr, he⟩ := h0
  unfold fsh_isText
  refine j_runA hx 2 (tb := [(0, .lload_n 1), (1, .aload_n 0)]) (jtb_ok (by decide +kernel)) (pc' := 2) (lv' := [(0, vR t), (1, vL a1)]) (st' := [vR t, vL a1]) rfl ?_
  refine j_gd (fun h1 => ?_)
  refine j_getR hx flX3_15 kl408 h1 (by decide) (by decide +kernel) ?_
  refine j_runA hx 1 (tb := [(5, .aload_n 0)]) (jtb_ok (by decide +kernel)) (pc' := 6) (lv' := [(0, vR t), (1, vL a1)]) (st' := [vR t, vR (jR W 408 t), vL a1]) rfl ?_
  refine j_OI (j_callV (av := []) (st := [vR (jR W 408 t), vL a1]) hx hr (Or.inl q792) q793 q794 rfl md_fsh_last np_fsh_last (csh_last t W) (by decide) (Nat.le_of_ble_eq_true rfl) h1 (by decide) (by decide +kernel)) (fun q2 _ => ?_)
  refine j_gd (fun h3 => ?_)
  refine j_lald hx (f := 408) (o := t) kd408 rfl (by decide +kernel) h3 ?_
  refine j_runA hx 1 (tb := [(10, .aload_n 0)]) (jtb_ok (by decide +kernel)) (pc' := 11) (lv' := [(0, vR t), (1, vL a1)]) (st' := [vR t, vL (jB W 408 t (ix q2)), vL a1]) rfl ?_
  refine j_OL (j_callV (av := []) (st := [vL (jB W 408 t (ix q2)), vL a1]) hx hr (Or.inl q896) q897 q898 rfl md_fsh_end np_fsh_end (csh_end t W) (by decide) (Nat.le_of_ble_eq_true rfl) h1 (by decide) (by decide +kernel)) (fun q4 _ => ?_)
  refine j_TI (j_callS (av := [vL a1, vL (jB W 408 t (ix q2)), vL q4]) (st := []) hx hr (Or.inr ⟨_, q871⟩) q872 q226 md_fcl_isIn np_fcl_isIn (ccl_isIn a1 (jB W 408 t (ix q2)) q4 W) (by decide) (Nat.le_of_ble_eq_true rfl) (by decide +kernel)) ?_
  refine j_gd (fun h5 => ?_)
  exact j_iret hx hm (by decide +kernel) (jzn h5) (he _)
theorem csh_isText (t : Nat) (a1 : Int64) (W : jW) : jM yX3_isText cX3_isText 3 (Option.some Jvm.ClassFile.FieldType.boolean) [] 2 32 [vR t, vL a1] W ((fsh_isText t a1 W).bind (fun q => some (.returned (some (.int q)), W))) := 
  jM.of (Nat.le_of_ble_eq_true rfl) (fun x hx hm hr => wsh_isText ⟨hx, hm, hr, fun _ => rfl⟩)
def hsh_symbols (x : jCx) (en : (fsh_symbols_S ⊕ ((Nat × jW) ⊕ jW)) → Option (Outcome × jW)) (t : Nat) : Prop :=
  jOK x RX3 cX3_symbols 6 ∧
  jMt x "symbols" (Option.none : Option Jvm.ClassFile.FieldType) [] ∧
  jRm x 7 96 ∧
  (∀ q : jW, en (.inr (.inr q)) = some (.returned none, q)) ∧
  (∀ z : Nat × jW, en (.inr (.inl z)) = some (.threw (z.1 - 1), z.2)) ∧
  (∀ (l1 : Int32) (W : jW), jJ x 6 2 [(0, vR t), (1, vI l1)] [] W (some (.inl (.inl (l1, W)))) en) ∧
  (∀ (l1 : Int32) (W : jW), jJ x 6 53 [(0, vR t), (1, vI l1)] [] W (some (.inl (.inr (l1, W)))) en)
theorem wsh_symbols_36 {x : jCx} {en : (fsh_symbols_S ⊕ ((Nat × jW) ⊕ jW)) → Option (Outcome × jW)} {t : Nat} (h : hsh_symbols x en t) (l1 : Int32) (s0 : Int32) (s1 : Nat) (W : jW) : jJ x 6 36 [(0, vR t), (1, vI l1)] [vI s0, vR s1] W (fsh_symbols_36 t l1 s0 s1 W) en := by
  have h0 := h
  obtain ⟨hx, hm, hr, he, ht, k2, k53⟩ := h0
  unfold fsh_symbols_36
  refine j_runA hx 3 (tb := [(36, .iconst 4), (37, .aload_n 0), (38, .iconst 0)]) (jtb_ok (by decide +kernel)) (pc' := 39) (lv' := [(0, vR t), (1, vI l1)]) (st' := [vI (kI 0), vR t, vI (kI 4), vI s0, vR s1]) rfl ?_
  refine j_gd (fun h7 => ?_)
  refine j_OI (j_callV (av := [vI (kI 0)]) (st := [vI (kI 4), vI s0, vR s1]) hx hr (Or.inl q879) q880 q881 rfl md_fsh_symbolAt np_fsh_symbolAt (csh_symbolAt t (kI 0) W) (by decide) (Nat.le_of_ble_eq_true rfl) h7 (by decide) (by decide +kernel)) (fun q8 _ => ?_)
  refine j_gd (fun h9 => ?_)
  refine j_EV (j_callV (av := [vI s0, vI (kI 4), vI q8]) (st := []) hx hr (Or.inl q757) q758 q759 rfl md_ftr_must np_ftr_must (ctr_must s1 s0 (kI 4) q8 W) (by decide) (Nat.le_of_ble_eq_true rfl) h9 (by decide) (by decide +kernel)) (fun z _ r h9 => j_upE hm hx (ht z) h9) (fun q10 _ => ?_)
  refine j_runA hx 1 (tb := [(45, .iinc 1 8)]) (jtb_ok (by decide +kernel)) (pc' := 48) (lv' := [(1, vI (l1 + (kI 8))), (0, vR t)]) (st' := []) rfl ?_
  refine j_let (v := (l1 + (kI 8))) (lv := fun v12 => [(1, vI v12), (0, vR t)]) (st := fun _ => []) (fun v12 => ?_)
  refine j_goto hx (off := -46) (by decide +kernel) (tgt := 2) (by decide) ?_
  refine j_lv (lv' := [(0, vR t), (1, vI v12)]) ⟨rfl, rfl, trivial⟩ ?_
  exact k2 v12 q10
theorem wsh_symbols_225 {x : jCx} {en : (fsh_symbols_S ⊕ ((Nat × jW) ⊕ jW)) → Option (Outcome × jW)} {t : Nat} (h : hsh_symbols x en t) (l1 : Int32) (l2 : Int32) (s0 : Int32) (s1 : Nat) (W : jW) : jJ x 6 225 [(0, vR t), (1, vI l1), (2, vI l2)] [vI s0, vR s1] W (fsh_symbols_225 t l1 l2 s0 s1 W) en := by
  have h0 := h
  obtain ⟨hx, hm, hr, he, ht, k2, k53⟩ := h0
  unfold fsh_symbols_225
  refine j_runA hx 4 (tb := [(225, .iconst 4), (226, .iload_n 2), (227, .bipush 8), (229, .iadd)]) (jtb_ok (by decide +kernel)) (pc' := 230) (lv' := [(0, vR t), (1, vI l1), (2, vI l2)]) (st' := [vI (l2 + (kI 8)), vI (kI 4), vI s0, vR s1]) rfl ?_
  refine j_gd (fun h40 => ?_)
  refine j_EV (j_callV (av := [vI s0, vI (kI 4), vI (l2 + (kI 8))]) (st := []) hx hr (Or.inl q757) q758 q759 rfl md_ftr_must np_ftr_must (ctr_must s1 s0 (kI 4) (l2 + (kI 8)) W) (by decide) (Nat.le_of_ble_eq_true rfl) h40 (by decide) (by decide +kernel)) (fun z _ r h9 => j_upE hm hx (ht z) h9) (fun q41 _ => ?_)
  refine j_runA hx 1 (tb := [(233, .iinc 1 1)]) (jtb_ok (by decide +kernel)) (pc' := 236) (lv' := [(1, vI (l1 + (kI 1))), (0, vR t), (2, vI l2)]) (st' := []) rfl ?_
  refine j_let (v := (l1 + (kI 1))) (lv := fun v43 => [(1, vI v43), (0, vR t), (2, vI l2)]) (st := fun _ => []) (fun v43 => ?_)
  refine j_goto hx (off := -183) (by decide +kernel) (tgt := 53) (by decide) ?_
  refine j_lv (lv' := [(0, vR t), (1, vI v43)]) ⟨rfl, rfl, trivial⟩ ?_
  exact k53 v43 q41
theorem wsh_symbols_220 {x : jCx} {en : (fsh_symbols_S ⊕ ((Nat × jW) ⊕ jW)) → Option (Outcome × jW)} {t : Nat} (h : hsh_symbols x en t) (l1 : Int32) (l2 : Int32) (s0 : Nat) (W : jW) : jJ x 6 220 [(0, vR t), (1, vI l1), (2, vI l2)] [vR s0] W (fsh_symbols_220 t l1 l2 s0 W) en := by
  have h0 := h
  obtain ⟨hx, hm, hr, he, ht, k2, k53⟩ := h0
  unfold fsh_symbols_220
  refine j_runA hx 1 (tb := [(220, .iconst 1)]) (jtb_ok (by decide +kernel)) (pc' := 221) (lv' := [(0, vR t), (1, vI l1), (2, vI l2)]) (st' := [vI (kI 1), vR s0]) rfl ?_
  refine j_goto hx (off := 4) (by decide +kernel) (tgt := 225) (by decide) ?_
  exact wsh_symbols_225 h l1 l2 (kI 1) s0 W
theorem wsh_symbols_224 {x : jCx} {en : (fsh_symbols_S ⊕ ((Nat × jW) ⊕ jW)) → Option (Outcome × jW)} {t : Nat} (h : hsh_symbols x en t) (l1 : Int32) (l2 : Int32) (s0 : Nat) (W : jW) : jJ x 6 224 [(0, vR t), (1, vI l1), (2, vI l2)] [vR s0] W (fsh_symbols_224 t l1 l2 s0 W) en := by
  have h0 := h
  obtain ⟨hx, hm, hr, he, ht, k2, k53⟩ := h0
  unfold fsh_symbols_224
  refine j_runA hx 1 (tb := [(224, .iconst 0)]) (jtb_ok (by decide +kernel)) (pc' := 225) (lv' := [(0, vR t), (1, vI l1), (2, vI l2)]) (st' := [vI (kI 0), vR s0]) rfl ?_
  exact wsh_symbols_225 h l1 l2 (kI 0) s0 W
theorem wsh_symbols_163 {x : jCx} {en : (fsh_symbols_S ⊕ ((Nat × jW) ⊕ jW)) → Option (Outcome × jW)} {t : Nat} (h : hsh_symbols x en t) (l1 : Int32) (l2 : Int32) (l3 : Int32) (s0 : Int32) (s1 : Nat) (W : jW) : jJ x 6 163 [(0, vR t), (1, vI l1), (2, vI l2), (3, vI l3)] [vI s0, vR s1] W (fsh_symbols_163 t l1 l2 l3 s0 s1 W) en := by
  have h0 := h
  obtain ⟨hx, hm, hr, he, ht, k2, k53⟩ := h0
  unfold fsh_symbols_163
  refine j_runA hx 4 (tb := [(163, .iconst 4), (164, .iload_n 2), (165, .bipush 6), (167, .iadd)]) (jtb_ok (by decide +kernel)) (pc' := 168) (lv' := [(0, vR t), (1, vI l1), (2, vI l2), (3, vI l3)]) (st' := [vI (l2 + (kI 6)), vI (kI 4), vI s0, vR s1]) rfl ?_
  refine j_gd (fun h31 => ?_)
  refine j_EV (j_callV (av := [vI s0, vI (kI 4), vI (l2 + (kI 6))]) (st := []) hx hr (Or.inl q757) q758 q759 rfl md_ftr_must np_ftr_must (ctr_must s1 s0 (kI 4) (l2 + (kI 6)) W) (by decide) (Nat.le_of_ble_eq_true rfl) h31 (by decide) (by decide +kernel)) (fun z _ r h9 => j_upE hm hx (ht z) h9) (fun q32 _ => ?_)
  refine j_runA hx 2 (tb := [(171, .aload_n 0), (172, .iload_n 1)]) (jtb_ok (by decide +kernel)) (pc' := 173) (lv' := [(0, vR t), (1, vI l1), (2, vI l2), (3, vI l3)]) (st' := [vI l1, vR t]) rfl ?_
  refine j_gd (fun h34 => ?_)
  refine j_OL (j_callV (av := [vI l1]) (st := []) hx hr (Or.inl q888) q889 q890 rfl md_fsh_valueOf np_fsh_valueOf (csh_valueOf t l1 q32) (by decide) (Nat.le_of_ble_eq_true rfl) h34 (by decide) (by decide +kernel)) (fun q35 _ => ?_)
  refine j_runA hx 2 (tb := [(176, .lstore 4), (178, .aload_n 0)]) (jtb_ok (by decide +kernel)) (pc' := 179) (lv' := [(4, vL q35), (0, vR t), (1, vI l1), (2, vI l2), (3, vI l3)]) (st' := [vR t]) rfl ?_
  refine j_getR hx flX3_53 kl400 h34 (by decide) (by decide +kernel) ?_
  refine j_runA hx 2 (tb := [(182, .iload_n 3), (183, .aload_n 0)]) (jtb_ok (by decide +kernel)) (pc' := 184) (lv' := [(4, vL q35), (0, vR t), (1, vI l1), (2, vI l2), (3, vI l3)]) (st' := [vR t, vI l3, vR (jR q32 400 t)]) rfl ?_
  refine j_getI hx flX3_167 kd418 h34 (by decide) (by decide +kernel) ?_
  refine j_icmp_ne hx (off := 33) (tgt := 220) (by decide +kernel) (by decide) (fun _ => ?_) (fun _ => ?_)
  · refine j_lv (lv' := [(0, vR t), (1, vI l1), (2, vI l2)]) ⟨rfl, rfl, rfl, trivial⟩ ?_
    exact wsh_symbols_220 h l1 l2 (jR q32 400 t) q32
  refine j_runA hx 1 (tb := [(190, .lload 4)]) (jtb_ok (by decide +kernel)) (pc' := 192) (lv' := [(4, vL q35), (0, vR t), (1, vI l1), (2, vI l2), (3, vI l3)]) (st' := [vL q35, vR (jR q32 400 t)]) rfl ?_
  refine j_ldc2 hx (v := (kJ 4)) (jkd2 q849 (by decide +kernel)) (by decide +kernel) ?_
  refine j_lrem hx (by decide +kernel) (by decide +kernel) ?_
  refine j_runA hx 1 (tb := [(196, .lconst 0)]) (jtb_ok (by decide +kernel)) (pc' := 197) (lv' := [(4, vL q35), (0, vR t), (1, vI l1), (2, vI l2), (3, vI l3)]) (st' := [vL (kJ 0), vL (lrm q35 (kJ 4)), vR (jR q32 400 t)]) rfl ?_
  refine j_lcmp_ne hx (off := 26) (tgt := 224) (by decide +kernel) (by decide +kernel) (by decide) (fun _ => ?_) (fun _ => ?_)
  · refine j_lv (lv' := [(0, vR t), (1, vI l1), (2, vI l2)]) ⟨rfl, rfl, rfl, trivial⟩ ?_
    exact wsh_symbols_224 h l1 l2 (jR q32 400 t) q32
  refine j_runA hx 2 (tb := [(201, .aload_n 0), (202, .lload 4)]) (jtb_ok (by decide +kernel)) (pc' := 204) (lv' := [(4, vL q35), (0, vR t), (1, vI l1), (2, vI l2), (3, vI l3)]) (st' := [vL q35, vR t, vR (jR q32 400 t)]) rfl ?_
  refine j_OI (j_callV (av := [vL q35]) (st := [vR (jR q32 400 t)]) hx hr (Or.inl q892) q893 q894 rfl md_fsh_isText np_fsh_isText (csh_isText t q35 q32) (by decide) (Nat.le_of_ble_eq_true rfl) h34 (by decide) (by decide +kernel)) (fun q36 _ => ?_)
  refine j_if_ne hx (off := 13) (tgt := 220) (by decide +kernel) (by decide) (fun _ => ?_) (fun _ => ?_)
  · refine j_lv (lv' := [(0, vR t), (1, vI l1), (2, vI l2)]) ⟨rfl, rfl, rfl, trivial⟩ ?_
    exact wsh_symbols_220 h l1 l2 (jR q32 400 t) q32
  refine j_runA hx 2 (tb := [(210, .lload 4), (212, .aload_n 0)]) (jtb_ok (by decide +kernel)) (pc' := 213) (lv' := [(4, vL q35), (0, vR t), (1, vI l1), (2, vI l2), (3, vI l3)]) (st' := [vR t, vL q35, vR (jR q32 400 t)]) rfl ?_
  refine j_OL (j_callV (av := []) (st := [vL q35, vR (jR q32 400 t)]) hx hr (Or.inl q896) q897 q898 rfl md_fsh_end np_fsh_end (csh_end t q32) (by decide) (Nat.le_of_ble_eq_true rfl) h34 (by decide) (by decide +kernel)) (fun q37 _ => ?_)
  refine j_lcmp_ne hx (off := 7) (tgt := 224) (by decide +kernel) (by decide +kernel) (by decide) (fun _ => ?_) (fun _ => ?_)
  · refine j_lv (lv' := [(0, vR t), (1, vI l1), (2, vI l2)]) ⟨rfl, rfl, rfl, trivial⟩ ?_
    exact wsh_symbols_224 h l1 l2 (jR q32 400 t) q32
  refine j_lv (lv' := [(0, vR t), (1, vI l1), (2, vI l2)]) ⟨rfl, rfl, rfl, trivial⟩ ?_
  exact wsh_symbols_220 h l1 l2 (jR q32 400 t) q32
theorem wsh_symbols_158 {x : jCx} {en : (fsh_symbols_S ⊕ ((Nat × jW) ⊕ jW)) → Option (Outcome × jW)} {t : Nat} (h : hsh_symbols x en t) (l1 : Int32) (l2 : Int32) (l3 : Int32) (s0 : Nat) (W : jW) : jJ x 6 158 [(0, vR t), (1, vI l1), (2, vI l2), (3, vI l3)] [vR s0] W (fsh_symbols_158 t l1 l2 l3 s0 W) en := by
  have h0 := h
  obtain ⟨hx, hm, hr, he, ht, k2, k53⟩ := h0
  unfold fsh_symbols_158
  refine j_runA hx 1 (tb := [(158, .iconst 1)]) (jtb_ok (by decide +kernel)) (pc' := 159) (lv' := [(0, vR t), (1, vI l1), (2, vI l2), (3, vI l3)]) (st' := [vI (kI 1), vR s0]) rfl ?_
  refine j_goto hx (off := 4) (by decide +kernel) (tgt := 163) (by decide) ?_
  exact wsh_symbols_163 h l1 l2 l3 (kI 1) s0 W
theorem wsh_symbols_162 {x : jCx} {en : (fsh_symbols_S ⊕ ((Nat × jW) ⊕ jW)) → Option (Outcome × jW)} {t : Nat} (h : hsh_symbols x en t) (l1 : Int32) (l2 : Int32) (l3 : Int32) (s0 : Nat) (W : jW) : jJ x 6 162 [(0, vR t), (1, vI l1), (2, vI l2), (3, vI l3)] [vR s0] W (fsh_symbols_162 t l1 l2 l3 s0 W) en := by
  have h0 := h
  obtain ⟨hx, hm, hr, he, ht, k2, k53⟩ := h0
  unfold fsh_symbols_162
  refine j_runA hx 1 (tb := [(162, .iconst 0)]) (jtb_ok (by decide +kernel)) (pc' := 163) (lv' := [(0, vR t), (1, vI l1), (2, vI l2), (3, vI l3)]) (st' := [vI (kI 0), vR s0]) rfl ?_
  exact wsh_symbols_163 h l1 l2 l3 (kI 0) s0 W
theorem wsh_symbols_53 {x : jCx} {en : (fsh_symbols_S ⊕ ((Nat × jW) ⊕ jW)) → Option (Outcome × jW)} {t : Nat} (h : hsh_symbols x en t) (l1 : Int32) (W : jW) : jJ x 6 53 [(0, vR t), (1, vI l1)] [] W (fsh_symbols_53 t l1 W) en := by
  have h0 := h
  obtain ⟨hx, hm, hr, he, ht, k2, k53⟩ := h0
  unfold fsh_symbols_53
  refine j_runA hx 2 (tb := [(53, .iload_n 1), (54, .aload_n 0)]) (jtb_ok (by decide +kernel)) (pc' := 55) (lv' := [(0, vR t), (1, vI l1)]) (st' := [vR t, vI l1]) rfl ?_
  refine j_gd (fun h14 => ?_)
  refine j_OI (j_callV (av := []) (st := [vI l1]) hx hr (Or.inl q883) q884 q885 rfl md_fsh_symbolCount np_fsh_symbolCount (csh_symbolCount t W) (by decide) (Nat.le_of_ble_eq_true rfl) h14 (by decide) (by decide +kernel)) (fun q15 _ => ?_)
  refine j_icmp_ge hx (off := 181) (tgt := 239) (by decide +kernel) (by decide) (fun _ => ?_) (fun _ => ?_)
  · exact j_vret hx hm (by decide +kernel) (he _)
  refine j_runA hx 2 (tb := [(61, .aload_n 0), (62, .iload_n 1)]) (jtb_ok (by decide +kernel)) (pc' := 63) (lv' := [(0, vR t), (1, vI l1)]) (st' := [vI l1, vR t]) rfl ?_
  refine j_OI (j_callV (av := [vI l1]) (st := []) hx hr (Or.inl q879) q880 q881 rfl md_fsh_symbolAt np_fsh_symbolAt (csh_symbolAt t l1 W) (by decide) (Nat.le_of_ble_eq_true rfl) h14 (by decide) (by decide +kernel)) (fun q16 _ => ?_)
  refine j_runA hx 2 (tb := [(66, .istore_n 2), (67, .aload_n 0)]) (jtb_ok (by decide +kernel)) (pc' := 68) (lv' := [(2, vI q16), (0, vR t), (1, vI l1)]) (st' := [vR t]) rfl ?_
  refine j_getR hx flX3_53 kl400 h14 (by decide) (by decide +kernel) ?_
  refine j_runA hx 1 (tb := [(71, .aload_n 0)]) (jtb_ok (by decide +kernel)) (pc' := 72) (lv' := [(2, vI q16), (0, vR t), (1, vI l1)]) (st' := [vR t, vR (jR W 400 t)]) rfl ?_
  refine j_getR hx flX3_57 kl401 h14 (by decide) (by decide +kernel) ?_
  refine j_runA hx 1 (tb := [(75, .iload_n 2)]) (jtb_ok (by decide +kernel)) (pc' := 76) (lv' := [(2, vI q16), (0, vR t), (1, vI l1)]) (st' := [vI q16, vR (jR W 401 t), vR (jR W 400 t)]) rfl ?_
  refine j_gd (fun h17 => ?_)
  refine j_OI (h17.elim (fun hh => j_callU (av := [vI q16]) (st := [vR (jR W 400 t)]) hx hr q808 q769 (hde_fsr_word) (by decide) q768 q770 rfl md_fsr_word np_fsr_word (csr_word (jR W 401 t) q16 W) (by decide) (Nat.le_of_ble_eq_true rfl) hh (by decide) (by decide +kernel)) (fun hh => j_callU (av := [vI q16]) (st := [vR (jR W 400 t)]) hx hr q808 q769 (hde_fsr_word) (by decide) q768 q771 rfl md_fsr_word np_fsr_word (csr_word (jR W 401 t) q16 W) (by decide) (Nat.le_of_ble_eq_true rfl) hh (by decide) (by decide +kernel))) (fun q18 _ => ?_)
  refine j_runA hx 1 (tb := [(79, .i2l)]) (jtb_ok (by decide +kernel)) (pc' := 80) (lv' := [(2, vI q16), (0, vR t), (1, vI l1)]) (st' := [vL q18.toInt64, vR (jR W 400 t)]) rfl ?_
  refine j_ldc2 hx (v := (kJ 4294967295)) (jkd2 q809 (by decide +kernel)) (by decide +kernel) ?_
  refine j_runA hx 3 (tb := [(83, .land), (84, .lconst 0), (85, .aload_n 0)]) (jtb_ok (by decide +kernel)) (pc' := 86) (lv' := [(2, vI q16), (0, vR t), (1, vI l1)]) (st' := [vR t, vL (kJ 0), vL (q18.toInt64 &&& (kJ 4294967295)), vR (jR W 400 t)]) rfl ?_
  refine j_getR hx flX3_37 kl415 h14 (by decide) (by decide +kernel) ?_
  refine j_runA hx 1 (tb := [(89, .aload_n 0)]) (jtb_ok (by decide +kernel)) (pc' := 90) (lv' := [(2, vI q16), (0, vR t), (1, vI l1)]) (st' := [vR t, vR (jR W 415 t), vL (kJ 0), vL (q18.toInt64 &&& (kJ 4294967295)), vR (jR W 400 t)]) rfl ?_
  refine j_getR hx flX3_40 kl416 h14 (by decide) (by decide +kernel) ?_
  refine j_runA hx 1 (tb := [(93, .aload_n 0)]) (jtb_ok (by decide +kernel)) (pc' := 94) (lv' := [(2, vI q16), (0, vR t), (1, vI l1)]) (st' := [vR t, vR (jR W 416 t), vR (jR W 415 t), vL (kJ 0), vL (q18.toInt64 &&& (kJ 4294967295)), vR (jR W 400 t)]) rfl ?_
  refine j_getI hx flX3_170 kd419 h14 (by decide) (by decide +kernel) ?_
  refine j_gd (fun h19 => ?_)
  refine j_iald hx (f := 416) (o := t) kd416 rfl (by decide +kernel) h19 ?_
  refine j_gd (fun h20 => ?_)
  refine j_iald hx (f := 415) (o := t) kd415 rfl (by decide +kernel) h20 ?_
  refine j_runA hx 1 (tb := [(99, .i2l)]) (jtb_ok (by decide +kernel)) (pc' := 100) (lv' := [(2, vI q16), (0, vR t), (1, vI l1)]) (st' := [vL ((jA W 415 t (ix (jA W 416 t (ix (jI W 419 t))))).toInt64), vL (kJ 0), vL (q18.toInt64 &&& (kJ 4294967295)), vR (jR W 400 t)]) rfl ?_
  refine j_TI (j_callS (av := [vL (q18.toInt64 &&& (kJ 4294967295)), vL (kJ 0), vL ((jA W 415 t (ix (jA W 416 t (ix (jI W 419 t))))).toInt64)]) (st := [vR (jR W 400 t)]) hx hr (Or.inr ⟨_, q871⟩) q872 q226 md_fcl_isIn np_fcl_isIn (ccl_isIn (q18.toInt64 &&& (kJ 4294967295)) (kJ 0) ((jA W 415 t (ix (jA W 416 t (ix (jI W 419 t))))).toInt64) W) (by decide) (Nat.le_of_ble_eq_true rfl) (by decide +kernel)) ?_
  refine j_runA hx 2 (tb := [(103, .iconst 4), (104, .iload_n 2)]) (jtb_ok (by decide +kernel)) (pc' := 105) (lv' := [(2, vI q16), (0, vR t), (1, vI l1)]) (st' := [vI q16, vI (kI 4), vI (fcl_isIn (q18.toInt64 &&& (kJ 4294967295)) (kJ 0) ((jA W 415 t (ix (jA W 416 t (ix (jI W 419 t))))).toInt64)), vR (jR W 400 t)]) rfl ?_
  refine j_gd (fun h21 => ?_)
  refine j_EV (j_callV (av := [vI (fcl_isIn (q18.toInt64 &&& (kJ 4294967295)) (kJ 0) ((jA W 415 t (ix (jA W 416 t (ix (jI W 419 t))))).toInt64)), vI (kI 4), vI q16]) (st := []) hx hr (Or.inl q757) q758 q759 rfl md_ftr_must np_ftr_must (ctr_must (jR W 400 t) (fcl_isIn (q18.toInt64 &&& (kJ 4294967295)) (kJ 0) ((jA W 415 t (ix (jA W 416 t (ix (jI W 419 t))))).toInt64)) (kI 4) q16 W) (by decide) (Nat.le_of_ble_eq_true rfl) h21 (by decide) (by decide +kernel)) (fun z _ r h9 => j_upE hm hx (ht z) h9) (fun q22 _ => ?_)
  refine j_runA hx 1 (tb := [(108, .aload_n 0)]) (jtb_ok (by decide +kernel)) (pc' := 109) (lv' := [(2, vI q16), (0, vR t), (1, vI l1)]) (st' := [vR t]) rfl ?_
  refine j_gd (fun h24 => ?_)
  refine j_getR hx flX3_57 kl401 h24 (by decide) (by decide +kernel) ?_
  refine j_runA hx 3 (tb := [(112, .iload_n 2), (113, .bipush 6), (115, .iadd)]) (jtb_ok (by decide +kernel)) (pc' := 116) (lv' := [(2, vI q16), (0, vR t), (1, vI l1)]) (st' := [vI (q16 + (kI 6)), vR (jR q22 401 t)]) rfl ?_
  refine j_gd (fun h25 => ?_)
  refine j_OI (h25.elim (fun hh => j_callU (av := [vI (q16 + (kI 6))]) (st := []) hx hr q807 q775 (hde_fsr_half) (by decide) q774 q776 rfl md_fsr_half np_fsr_half (csr_half (jR q22 401 t) (q16 + (kI 6)) q22) (by decide) (Nat.le_of_ble_eq_true rfl) hh (by decide) (by decide +kernel)) (fun hh => j_callU (av := [vI (q16 + (kI 6))]) (st := []) hx hr q807 q775 (hde_fsr_half) (by decide) q774 q777 rfl md_fsr_half np_fsr_half (csr_half (jR q22 401 t) (q16 + (kI 6)) q22) (by decide) (Nat.le_of_ble_eq_true rfl) hh (by decide) (by decide +kernel))) (fun q26 _ => ?_)
  refine j_runA hx 2 (tb := [(119, .istore_n 3), (120, .aload_n 0)]) (jtb_ok (by decide +kernel)) (pc' := 121) (lv' := [(3, vI q26), (2, vI q16), (0, vR t), (1, vI l1)]) (st' := [vR t]) rfl ?_
  refine j_getR hx flX3_53 kl400 h24 (by decide) (by decide +kernel) ?_
  refine j_runA hx 1 (tb := [(124, .iload_n 3)]) (jtb_ok (by decide +kernel)) (pc' := 125) (lv' := [(3, vI q26), (2, vI q16), (0, vR t), (1, vI l1)]) (st' := [vI q26, vR (jR q22 400 t)]) rfl ?_
  refine j_if_eq hx (off := 33) (tgt := 158) (by decide +kernel) (by decide) (fun _ => ?_) (fun _ => ?_)
  · refine j_lv (lv' := [(0, vR t), (1, vI l1), (2, vI q16), (3, vI q26)]) ⟨rfl, rfl, rfl, rfl, trivial⟩ ?_
    exact wsh_symbols_158 h l1 q16 q26 (jR q22 400 t) q22
  refine j_runA hx 1 (tb := [(128, .iload_n 3)]) (jtb_ok (by decide +kernel)) (pc' := 129) (lv' := [(3, vI q26), (2, vI q16), (0, vR t), (1, vI l1)]) (st' := [vI q26, vR (jR q22 400 t)]) rfl ?_
  refine j_ldc hx (v := (kI 65521)) (jkc q887 (by decide +kernel)) (by decide +kernel) ?_
  refine j_icmp_eq hx (off := 27) (tgt := 158) (by decide +kernel) (by decide) (fun _ => ?_) (fun _ => ?_)
  · refine j_lv (lv' := [(0, vR t), (1, vI l1), (2, vI q16), (3, vI q26)]) ⟨rfl, rfl, rfl, rfl, trivial⟩ ?_
    exact wsh_symbols_158 h l1 q16 q26 (jR q22 400 t) q22
  refine j_runA hx 2 (tb := [(134, .iload_n 3), (135, .aload_n 0)]) (jtb_ok (by decide +kernel)) (pc' := 136) (lv' := [(3, vI q26), (2, vI q16), (0, vR t), (1, vI l1)]) (st' := [vR t, vI q26, vR (jR q22 400 t)]) rfl ?_
  refine j_getI hx flX3_78 kd403 h24 (by decide) (by decide +kernel) ?_
  refine j_icmp_ge hx (off := 23) (tgt := 162) (by decide +kernel) (by decide) (fun _ => ?_) (fun _ => ?_)
  · refine j_lv (lv' := [(0, vR t), (1, vI l1), (2, vI q16), (3, vI q26)]) ⟨rfl, rfl, rfl, rfl, trivial⟩ ?_
    exact wsh_symbols_162 h l1 q16 q26 (jR q22 400 t) q22
  refine j_runA hx 2 (tb := [(142, .aload_n 0), (143, .iload_n 3)]) (jtb_ok (by decide +kernel)) (pc' := 144) (lv' := [(3, vI q26), (2, vI q16), (0, vR t), (1, vI l1)]) (st' := [vI q26, vR t, vR (jR q22 400 t)]) rfl ?_
  refine j_OI (j_callV (av := [vI q26]) (st := [vR (jR q22 400 t)]) hx hr (Or.inl q845) q846 q847 rfl md_fsh_isCode np_fsh_isCode (csh_isCode t q26 q22) (by decide) (Nat.le_of_ble_eq_true rfl) h24 (by decide) (by decide +kernel)) (fun q27 _ => ?_)
  refine j_if_ne hx (off := 11) (tgt := 158) (by decide +kernel) (by decide) (fun _ => ?_) (fun _ => ?_)
  · refine j_lv (lv' := [(0, vR t), (1, vI l1), (2, vI q16), (3, vI q26)]) ⟨rfl, rfl, rfl, rfl, trivial⟩ ?_
    exact wsh_symbols_158 h l1 q16 q26 (jR q22 400 t) q22
  refine j_runA hx 2 (tb := [(150, .aload_n 0), (151, .iload_n 3)]) (jtb_ok (by decide +kernel)) (pc' := 152) (lv' := [(3, vI q26), (2, vI q16), (0, vR t), (1, vI l1)]) (st' := [vI q26, vR t, vR (jR q22 400 t)]) rfl ?_
  refine j_OI (j_callV (av := [vI q26]) (st := [vR (jR q22 400 t)]) hx hr (Or.inl q851) q852 q853 rfl md_fsh_isData np_fsh_isData (csh_isData t q26 q22) (by decide) (Nat.le_of_ble_eq_true rfl) h24 (by decide) (by decide +kernel)) (fun q28 _ => ?_)
  refine j_if_eq hx (off := 7) (tgt := 162) (by decide +kernel) (by decide) (fun _ => ?_) (fun _ => ?_)
  · refine j_lv (lv' := [(0, vR t), (1, vI l1), (2, vI q16), (3, vI q26)]) ⟨rfl, rfl, rfl, rfl, trivial⟩ ?_
    exact wsh_symbols_162 h l1 q16 q26 (jR q22 400 t) q22
  refine j_lv (lv' := [(0, vR t), (1, vI l1), (2, vI q16), (3, vI q26)]) ⟨rfl, rfl, rfl, rfl, trivial⟩ ?_
  exact wsh_symbols_158 h l1 q16 q26 (jR q22 400 t) q22
theorem wsh_symbols_2 {x : jCx} {en : (fsh_symbols_S ⊕ ((Nat × jW) ⊕ jW)) → Option (Outcome × jW)} {t : Nat} (h : hsh_symbols x en t) (l1 : Int32) (W : jW) : jJ x 6 2 [(0, vR t), (1, vI l1)] [] W (fsh_symbols_2 t l1 W) en := by
  have h0 := h
  obtain ⟨hx, hm, hr, he, ht, k2, k53⟩ := h0
  unfold fsh_symbols_2
  refine j_runA hx 2 (tb := [(2, .iload_n 1), (3, .bipush 24)]) (jtb_ok (by decide +kernel)) (pc' := 5) (lv' := [(0, vR t), (1, vI l1)]) (st' := [vI (kI 24), vI l1]) rfl ?_
  refine j_icmp_ge hx (off := 46) (tgt := 51) (by decide +kernel) (by decide) (fun _ => ?_) (fun _ => ?_)
  · refine j_runA hx 2 (tb := [(51, .iconst 1), (52, .istore_n 1)]) (jtb_ok (by decide +kernel)) (pc' := 53) (lv' := [(1, vI (kI 1)), (0, vR t)]) (st' := []) rfl ?_
    refine j_lv (lv' := [(0, vR t), (1, vI (kI 1))]) ⟨rfl, rfl, trivial⟩ ?_
    exact k53 (kI 1) W
  refine j_runA hx 1 (tb := [(8, .aload_n 0)]) (jtb_ok (by decide +kernel)) (pc' := 9) (lv' := [(0, vR t), (1, vI l1)]) (st' := [vR t]) rfl ?_
  refine j_gd (fun h2 => ?_)
  refine j_getR hx flX3_53 kl400 h2 (by decide) (by decide +kernel) ?_
  refine j_runA hx 1 (tb := [(12, .aload_n 0)]) (jtb_ok (by decide +kernel)) (pc' := 13) (lv' := [(0, vR t), (1, vI l1)]) (st' := [vR t, vR (jR W 400 t)]) rfl ?_
  refine j_getR hx flX3_57 kl401 h2 (by decide) (by decide +kernel) ?_
  refine j_runA hx 2 (tb := [(16, .aload_n 0), (17, .iconst 0)]) (jtb_ok (by decide +kernel)) (pc' := 18) (lv' := [(0, vR t), (1, vI l1)]) (st' := [vI (kI 0), vR t, vR (jR W 401 t), vR (jR W 400 t)]) rfl ?_
  refine j_OI (j_callV (av := [vI (kI 0)]) (st := [vR (jR W 401 t), vR (jR W 400 t)]) hx hr (Or.inl q879) q880 q881 rfl md_fsh_symbolAt np_fsh_symbolAt (csh_symbolAt t (kI 0) W) (by decide) (Nat.le_of_ble_eq_true rfl) h2 (by decide) (by decide +kernel)) (fun q3 _ => ?_)
  refine j_runA hx 2 (tb := [(21, .iload_n 1), (22, .iadd)]) (jtb_ok (by decide +kernel)) (pc' := 23) (lv' := [(0, vR t), (1, vI l1)]) (st' := [vI (q3 + l1), vR (jR W 401 t), vR (jR W 400 t)]) rfl ?_
  refine j_gd (fun h4 => ?_)
  refine j_OL (h4.elim (fun hh => j_callU (av := [vI (q3 + l1)]) (st := [vR (jR W 400 t)]) hx hr q761 q763 (hde_fsr_pair) (by decide) q762 q764 rfl md_fsr_pair np_fsr_pair (csr_pair (jR W 401 t) (q3 + l1) W) (by decide) (Nat.le_of_ble_eq_true rfl) hh (by decide) (by decide +kernel)) (fun hh => j_callU (av := [vI (q3 + l1)]) (st := [vR (jR W 400 t)]) hx hr q761 q763 (hde_fsr_pair) (by decide) q762 q765 rfl md_fsr_pair np_fsr_pair (csr_pair (jR W 401 t) (q3 + l1) W) (by decide) (Nat.le_of_ble_eq_true rfl) hh (by decide) (by decide +kernel))) (fun q5 _ => ?_)
  refine j_runA hx 1 (tb := [(26, .lconst 0)]) (jtb_ok (by decide +kernel)) (pc' := 27) (lv' := [(0, vR t), (1, vI l1)]) (st' := [vL (kJ 0), vL q5, vR (jR W 400 t)]) rfl ?_
  refine j_lcmp_ne hx (off := 7) (tgt := 35) (by decide +kernel) (by decide +kernel) (by decide) (fun _ => ?_) (fun _ => ?_)
  · refine j_runA hx 1 (tb := [(35, .iconst 0)]) (jtb_ok (by decide +kernel)) (pc' := 36) (lv' := [(0, vR t), (1, vI l1)]) (st' := [vI (kI 0), vR (jR W 400 t)]) rfl ?_
    exact wsh_symbols_36 h l1 (kI 0) (jR W 400 t) W
  refine j_runA hx 1 (tb := [(31, .iconst 1)]) (jtb_ok (by decide +kernel)) (pc' := 32) (lv' := [(0, vR t), (1, vI l1)]) (st' := [vI (kI 1), vR (jR W 400 t)]) rfl ?_
  refine j_goto hx (off := 4) (by decide +kernel) (tgt := 36) (by decide) ?_
  exact wsh_symbols_36 h l1 (kI 1) (jR W 400 t) W
theorem wsh_symbols {x : jCx} {en : (fsh_symbols_S ⊕ ((Nat × jW) ⊕ jW)) → Option (Outcome × jW)} {t : Nat} (h : hsh_symbols x en t) (W : jW) : jJ x 6 0 [(0, vR t)] [] W (fsh_symbols_0 t W) en := by
  have h0 := h
  obtain ⟨hx, hm, hr, he, ht, k2, k53⟩ := h0
  unfold fsh_symbols_0
  refine j_runA hx 2 (tb := [(0, .iconst 0), (1, .istore_n 1)]) (jtb_ok (by decide +kernel)) (pc' := 2) (lv' := [(1, vI (kI 0)), (0, vR t)]) (st' := []) rfl ?_
  refine j_lv (lv' := [(0, vR t), (1, vI (kI 0))]) ⟨rfl, rfl, trivial⟩ ?_
  exact k2 (kI 0) W
theorem csh_symbols (t : Nat) (W : jW) : jM yX3_symbols cX3_symbols 6 (Option.none : Option Jvm.ClassFile.FieldType) [] 7 96 [vR t] W ((fsh_symbols t W).bind (fun q => some (Sum.elim (fun z => (.threw (z.1 - 1), z.2)) (fun q => (.returned none, q)) q))) := by
  refine jM.of (Nat.le_of_ble_eq_true rfl) (fun x hx hm hr => ?_)
  refine j_begin (P := (Sum.elim (fun s => (2, [(0, vR t), (1, vI s.1)], s.2)) (fun s => (53, [(0, vR t), (1, vI s.1)], s.2)))) (fun en he hk => ?_)
  have h : hsh_symbols x en t := ⟨hx, hm, hr, fun q => he _, fun z => he _, fun l1 W => hk (.inl (l1, W)), fun l1 W => hk (.inr (l1, W))⟩
  refine ⟨fun s => ?_, wsh_symbols h W⟩
  rcases s with s | s
  · exact wsh_symbols_2 h s.1 s.2
  · exact wsh_symbols_53 h s.1 s.2
def hsh_fixCount (x : jCx) (en : (Int32) → Option (Outcome × jW)) (t : Nat) (a1 : Int32) (W : jW) : Prop :=
  jOK x RX3 cX3_fixCount 2 ∧
  jMt x "fixCount" (Option.some Jvm.ClassFile.FieldType.int) [] ∧
  jRm x 0 0 ∧
  (∀ q : Int32, en q = some (.returned (some (.int q)), W))
theorem wsh_fixCount {x : jCx} {en : (Int32) → Option (Outcome × jW)} {W : jW} {t : Nat} {a1 : Int32} (h : hsh_fixCount x en t a1 W) : jJ x 2 0 [(0, vR t), (1, vI a1)] [] W (fsh_fixCount t a1 W) en := by
  have h0 := h
  obtain ⟨hx, hm, hr, he⟩ := h0
  unfold fsh_fixCount
  refine j_runA hx 1 (tb := [(0, .aload_n 0)]) (jtb_ok (by decide +kernel)) (pc' := 1) (lv' := [(0, vR t), (1, vI a1)]) (st' := [vR t]) rfl ?_
  refine j_gd (fun h1 => ?_)
  refine j_getR hx flX3_37 kl415 h1 (by decide) (by decide +kernel) ?_
  refine j_runA hx 1 (tb := [(4, .iload_n 1)]) (jtb_ok (by decide +kernel)) (pc' := 5) (lv' := [(0, vR t), (1, vI a1)]) (st' := [vI a1, vR (jR W 415 t)]) rfl ?_
  refine j_gd (fun h2 => ?_)
  refine j_iald hx (f := 415) (o := t) kd415 rfl (by decide +kernel) h2 ?_
  refine j_runA hx 1 (tb := [(6, .bipush 24)]) (jtb_ok (by decide +kernel)) (pc' := 8) (lv' := [(0, vR t), (1, vI a1)]) (st' := [vI (kI 24), vI (jA W 415 t (ix a1))]) rfl ?_
  refine j_idiv hx (by decide +kernel) (by decide +kernel) ?_
  exact j_iret hx hm (by decide +kernel) rfl (he _)
theorem csh_fixCount (t : Nat) (a1 : Int32) (W : jW) : jM yX3_fixCount cX3_fixCount 2 (Option.some Jvm.ClassFile.FieldType.int) [] 0 0 [vR t, vI a1] W ((fsh_fixCount t a1 W).bind (fun q => some (.returned (some (.int q)), W))) := 
  jM.of (Nat.le_of_ble_eq_true rfl) (fun x hx hm hr => wsh_fixCount ⟨hx, hm, hr, fun _ => rfl⟩)
def hsh_fixAt (x : jCx) (en : (Int32) → Option (Outcome × jW)) (t : Nat) (a1 : Int32) (a2 : Int32) (W : jW) : Prop :=
  jOK x RX3 cX3_fixAt 3 ∧
  jMt x "fixAt" (Option.some Jvm.ClassFile.FieldType.int) [] ∧
  jRm x 0 0 ∧
  (∀ q : Int32, en q = some (.returned (some (.int q)), W))
theorem wsh_fixAt {x : jCx} {en : (Int32) → Option (Outcome × jW)} {W : jW} {t : Nat} {a1 : Int32} {a2 : Int32} (h : hsh_fixAt x en t a1 a2 W) : jJ x 3 0 [(0, vR t), (1, vI a1), (2, vI a2)] [] W (fsh_fixAt t a1 a2 W) en := by
  have h0 := h
  obtain ⟨hx, hm, hr, he⟩ := h0
  unfold fsh_fixAt
  refine j_runA hx 1 (tb := [(0, .aload_n 0)]) (jtb_ok (by decide +kernel)) (pc' := 1) (lv' := [(0, vR t), (1, vI a1), (2, vI a2)]) (st' := [vR t]) rfl ?_
  refine j_gd (fun h1 => ?_)
  refine j_getR hx flX3_34 kl414 h1 (by decide) (by decide +kernel) ?_
  refine j_runA hx 1 (tb := [(4, .iload_n 1)]) (jtb_ok (by decide +kernel)) (pc' := 5) (lv' := [(0, vR t), (1, vI a1), (2, vI a2)]) (st' := [vI a1, vR (jR W 414 t)]) rfl ?_
  refine j_gd (fun h2 => ?_)
  refine j_iald hx (f := 414) (o := t) kd414 rfl (by decide +kernel) h2 ?_
  refine j_runA hx 4 (tb := [(6, .bipush 24), (8, .iload_n 2), (9, .imul), (10, .iadd)]) (jtb_ok (by decide +kernel)) (pc' := 11) (lv' := [(0, vR t), (1, vI a1), (2, vI a2)]) (st' := [vI ((jA W 414 t (ix a1)) + ((kI 24) * a2))]) rfl ?_
  exact j_iret hx hm (by decide +kernel) rfl (he _)
theorem csh_fixAt (t : Nat) (a1 : Int32) (a2 : Int32) (W : jW) : jM yX3_fixAt cX3_fixAt 3 (Option.some Jvm.ClassFile.FieldType.int) [] 0 0 [vR t, vI a1, vI a2] W ((fsh_fixAt t a1 a2 W).bind (fun q => some (.returned (some (.int q)), W))) := 
  jM.of (Nat.le_of_ble_eq_true rfl) (fun x hx hm hr => wsh_fixAt ⟨hx, hm, hr, fun _ => rfl⟩)
def hsh_fixType (x : jCx) (en : (Int32) → Option (Outcome × jW)) (t : Nat) (a1 : Int32) (W : jW) : Prop :=
  jOK x RX3 cX3_fixType 2 ∧
  jMt x "fixType" (Option.some Jvm.ClassFile.FieldType.int) [] ∧
  jRm x 5 68 ∧
  (∀ q : Int32, en q = some (.returned (some (.int q)), W))
theorem wsh_fixType {x : jCx} {en : (Int32) → Option (Outcome × jW)} {W : jW} {t : Nat} {a1 : Int32} (h : hsh_fixType x en t a1 W) : jJ x 2 0 [(0, vR t), (1, vI a1)] [] W (fsh_fixType t a1 W) en := by
  have h0 := h
  obtain ⟨hx, hm, hr, he⟩ := h0
  unfold fsh_fixType
  refine j_runA hx 1 (tb := [(0, .aload_n 0)]) (jtb_ok (by decide +kernel)) (pc' := 1) (lv' := [(0, vR t), (1, vI a1)]) (st' := [vR t]) rfl ?_
  refine j_gd (fun h1 => ?_)
  refine j_getR hx flX3_57 kl401 h1 (by decide) (by decide +kernel) ?_
  refine j_runA hx 3 (tb := [(4, .iload_n 1), (5, .bipush 8), (7, .iadd)]) (jtb_ok (by decide +kernel)) (pc' := 8) (lv' := [(0, vR t), (1, vI a1)]) (st' := [vI (a1 + (kI 8)), vR (jR W 401 t)]) rfl ?_
  refine j_gd (fun h2 => ?_)
  refine j_OI (h2.elim (fun hh => j_callU (av := [vI (a1 + (kI 8))]) (st := []) hx hr q808 q769 (hde_fsr_word) (by decide) q768 q770 rfl md_fsr_word np_fsr_word (csr_word (jR W 401 t) (a1 + (kI 8)) W) (by decide) (Nat.le_of_ble_eq_true rfl) hh (by decide) (by decide +kernel)) (fun hh => j_callU (av := [vI (a1 + (kI 8))]) (st := []) hx hr q808 q769 (hde_fsr_word) (by decide) q768 q771 rfl md_fsr_word np_fsr_word (csr_word (jR W 401 t) (a1 + (kI 8)) W) (by decide) (Nat.le_of_ble_eq_true rfl) hh (by decide) (by decide +kernel))) (fun q3 _ => ?_)
  exact j_iret hx hm (by decide +kernel) rfl (he _)
theorem csh_fixType (t : Nat) (a1 : Int32) (W : jW) : jM yX3_fixType cX3_fixType 2 (Option.some Jvm.ClassFile.FieldType.int) [] 5 68 [vR t, vI a1] W ((fsh_fixType t a1 W).bind (fun q => some (.returned (some (.int q)), W))) := 
  jM.of (Nat.le_of_ble_eq_true rfl) (fun x hx hm hr => wsh_fixType ⟨hx, hm, hr, fun _ => rfl⟩)
