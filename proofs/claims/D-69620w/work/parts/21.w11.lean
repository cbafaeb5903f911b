/-! ===== walks: fog_place fog_weigh fog_sortByHeat fog_callerOf fog_join fog_leastOf fog_isDenser fog_gather ===== -/
set_option maxRecDepth 100000
def hog_place (x : jCx) (en : (fog_place_S ⊕ (jW)) → Option (Outcome × jW)) (t : Nat) (a1 : Int32) : Prop :=
  jOK x RX13 cX13_place 10 ∧
  jMt x "place" (Option.none : Option Jvm.ClassFile.FieldType) [] ∧
  jRm x 2 74 ∧
  (∀ q : jW, en (.inr q) = some (.returned none, q)) ∧
  (∀ (l2 : Int32) (l3 : Int32) (l4 : Int32) (l5 : Int32) (W : jW), jJ x 10 34 [(0, vR t), (1, vI a1), (2, vI l2), (3, vI l3), (4, vI l4), (5, vI l5)] [] W (some (.inl (.inl (l2, l3, l4, l5, W)))) en) ∧
  (∀ (l4 : Int32) (l6 : Int32) (W : jW), jJ x 10 160 [(0, vR t), (1, vI a1), (4, vI l4), (6, vI l6)] [] W (some (.inl (.inr (.inl (l4, l6, W))))) en) ∧
  (∀ (l4 : Int32) (l6 : Int32) (l7 : Int32) (l8 : Int32) (W : jW), jJ x 10 173 [(0, vR t), (1, vI a1), (4, vI l4), (6, vI l6), (7, vI l7), (8, vI l8)] [] W (some (.inl (.inr (.inr (l4, l6, l7, l8, W))))) en)
theorem wog_place_111 {x : jCx} {en : (fog_place_S ⊕ (jW)) → Option (Outcome × jW)} {t : Nat} {a1 : Int32} (h : hog_place x en t a1) (l2 : Int32) (l3 : Int32) (l4 : Int32) (l5 : Int32) (W : jW) : jJ x 10 111 [(0, vR t), (1, vI a1), (2, vI l2), (3, vI l3), (4, vI l4), (5, vI l5)] [] W (fog_place_111 t a1 l2 l3 l4 l5 W) en := by
  have h0 := h
  obtain ⟨hx, hm, hr, he, k34, k160, k173⟩ := h0
  unfold fog_place_111
  refine j_runA hx 1 (tb := [(111, .iinc 5 1)]) (jtb_ok (by decide +kernel)) (pc' := 114) (lv' := [(5, vI (l5 + (kI 1))), (0, vR t), (1, vI a1), (2, vI l2), (3, vI l3), (4, vI l4)]) (st' := []) rfl ?_
  refine j_let (v := (l5 + (kI 1))) (lv := fun v47 => [(5, vI v47), (0, vR t), (1, vI a1), (2, vI l2), (3, vI l3), (4, vI l4)]) (st := fun _ => []) (fun v47 => ?_)
  refine j_goto hx (off := -80) (by decide +kernel) (tgt := 34) (by decide) ?_
  refine j_lv (lv' := [(0, vR t), (1, vI a1), (2, vI l2), (3, vI l3), (4, vI l4), (5, vI v47)]) ⟨rfl, rfl, rfl, rfl, rfl, rfl, trivial⟩ ?_
  exact k34 l2 l3 l4 v47 W
theorem wog_place_272 {x : jCx} {en : (fog_place_S ⊕ (jW)) → Option (Outcome × jW)} {t : Nat} {a1 : Int32} (h : hog_place x en t a1) (l4 : Int32) (l6 : Int32) (l7 : Int32) (l8 : Int32) (W : jW) : jJ x 10 272 [(0, vR t), (1, vI a1), (4, vI l4), (6, vI l6), (7, vI l7), (8, vI l8)] [] W (fog_place_272 t a1 l4 l6 l7 l8 W) en := by
  have h0 := h
  obtain ⟨hx, hm, hr, he, k34, k160, k173⟩ := h0
  unfold fog_place_272
  refine j_runA hx 1 (tb := [(272, .iinc 8 1)]) (jtb_ok (by decide +kernel)) (pc' := 275) (lv' := [(8, vI (l8 + (kI 1))), (0, vR t), (1, vI a1), (4, vI l4), (6, vI l6), (7, vI l7)]) (st' := []) rfl ?_
  refine j_let (v := (l8 + (kI 1))) (lv := fun v68 => [(8, vI v68), (0, vR t), (1, vI a1), (4, vI l4), (6, vI l6), (7, vI l7)]) (st := fun _ => []) (fun v68 => ?_)
  refine j_goto hx (off := -102) (by decide +kernel) (tgt := 173) (by decide) ?_
  refine j_lv (lv' := [(0, vR t), (1, vI a1), (4, vI l4), (6, vI l6), (7, vI l7), (8, vI v68)]) ⟨rfl, rfl, rfl, rfl, rfl, rfl, trivial⟩ ?_
  exact k173 l4 l6 l7 v68 W
theorem wog_place_268 {x : jCx} {en : (fog_place_S ⊕ (jW)) → Option (Outcome × jW)} {t : Nat} {a1 : Int32} (h : hog_place x en t a1) (l4 : Int32) (l6 : Int32) (l8 : Int32) (l9 : Int32) (W : jW) : jJ x 10 268 [(0, vR t), (1, vI a1), (4, vI l4), (6, vI l6), (8, vI l8), (9, vI l9)] [] W (fog_place_268 t a1 l4 l6 l8 l9 W) en := by
  have h0 := h
  obtain ⟨hx, hm, hr, he, k34, k160, k173⟩ := h0
  unfold fog_place_268
  refine j_runA hx 2 (tb := [(268, .iload 9), (270, .istore 7)]) (jtb_ok (by decide +kernel)) (pc' := 272) (lv' := [(7, vI l9), (0, vR t), (1, vI a1), (4, vI l4), (6, vI l6), (8, vI l8), (9, vI l9)]) (st' := []) rfl ?_
  refine j_lv (lv' := [(0, vR t), (1, vI a1), (4, vI l4), (6, vI l6), (7, vI l9), (8, vI l8)]) ⟨rfl, rfl, rfl, rfl, rfl, rfl, trivial⟩ ?_
  exact wog_place_272 h l4 l6 l9 l8 W
theorem wog_place_173 {x : jCx} {en : (fog_place_S ⊕ (jW)) → Option (Outcome × jW)} {t : Nat} {a1 : Int32} (h : hog_place x en t a1) (l4 : Int32) (l6 : Int32) (l7 : Int32) (l8 : Int32) (W : jW) : jJ x 10 173 [(0, vR t), (1, vI a1), (4, vI l4), (6, vI l6), (7, vI l7), (8, vI l8)] [] W (fog_place_173 t a1 l4 l6 l7 l8 W) en := by
  have h0 := h
  obtain ⟨hx, hm, hr, he, k34, k160, k173⟩ := h0
  unfold fog_place_173
  refine j_runA hx 2 (tb := [(173, .iload 8), (175, .aload_n 0)]) (jtb_ok (by decide +kernel)) (pc' := 176) (lv' := [(0, vR t), (1, vI a1), (4, vI l4), (6, vI l6), (7, vI l7), (8, vI l8)]) (st' := [vR t, vI l8]) rfl ?_
  refine j_gd (fun h54 => ?_)
  refine j_getR hx flX13_88 kl828 h54 (by decide) (by decide +kernel) ?_
  refine j_gd (fun h55 => ?_)
  refine j_getI hx flX13_146 kd601 h55 (by decide) (by decide +kernel) ?_
  refine j_icmp_ge hx (off := 96) (tgt := 278) (by decide +kernel) (by decide) (fun _ => ?_) (fun _ => ?_)
  · refine j_runA hx 3 (tb := [(278, .aload_n 0), (279, .iload 7), (281, .iload 6)]) (jtb_ok (by decide +kernel)) (pc' := 283) (lv' := [(0, vR t), (1, vI a1), (4, vI l4), (6, vI l6), (7, vI l7), (8, vI l8)]) (st' := [vI l6, vI l7, vR t]) rfl ?_
    refine j_WI (j_callV (av := [vI l7, vI l6]) (st := []) hx hr (Or.inl q1738) q1740 qs42 rfl md_fog_putChain np_fog_putChain (cog_putChain t l7 l6 W) (by decide) (Nat.le_of_ble_eq_true rfl) h54 (by decide) (by decide +kernel)) (fun q56 _ => ?_)
    refine j_runA hx 1 (tb := [(286, .istore 6)]) (jtb_ok (by decide +kernel)) (pc' := 288) (lv' := [(6, vI q56.1), (0, vR t), (1, vI a1), (4, vI l4), (7, vI l7), (8, vI l8)]) (st' := []) rfl ?_
    refine j_goto hx (off := -128) (by decide +kernel) (tgt := 160) (by decide) ?_
    refine j_lv (lv' := [(0, vR t), (1, vI a1), (4, vI l4), (6, vI q56.1)]) ⟨rfl, rfl, rfl, rfl, trivial⟩ ?_
    exact k160 l4 q56.1 q56.2
  refine j_runA hx 1 (tb := [(185, .aload_n 0)]) (jtb_ok (by decide +kernel)) (pc' := 186) (lv' := [(0, vR t), (1, vI a1), (4, vI l4), (6, vI l6), (7, vI l7), (8, vI l8)]) (st' := [vR t]) rfl ?_
  refine j_getR hx flX13_88 kl828 h54 (by decide) (by decide +kernel) ?_
  refine j_getR hx flX13_123 kl600 h55 (by decide) (by decide +kernel) ?_
  refine j_runA hx 1 (tb := [(192, .iload 8)]) (jtb_ok (by decide +kernel)) (pc' := 194) (lv' := [(0, vR t), (1, vI a1), (4, vI l4), (6, vI l6), (7, vI l7), (8, vI l8)]) (st' := [vI l8, vR (jR W 600 (jR W 828 t))]) rfl ?_
  refine j_gd (fun h58 => ?_)
  refine j_iald hx (f := 600) (o := (jR W 828 t)) kd600 rfl (by decide +kernel) h58 ?_
  refine j_runA hx 1 (tb := [(195, .istore 9)]) (jtb_ok (by decide +kernel)) (pc' := 197) (lv' := [(9, vI (jA W 600 (jR W 828 t) (ix l8))), (0, vR t), (1, vI a1), (4, vI l4), (6, vI l6), (7, vI l7), (8, vI l8)]) (st' := []) rfl ?_
  refine j_let (v := (jA W 600 (jR W 828 t) (ix l8))) (lv := fun v59 => [(9, vI v59), (0, vR t), (1, vI a1), (4, vI l4), (6, vI l6), (7, vI l7), (8, vI l8)]) (st := fun _ => []) (fun v59 => ?_)
  refine j_runA hx 1 (tb := [(197, .aload_n 0)]) (jtb_ok (by decide +kernel)) (pc' := 198) (lv' := [(9, vI v59), (0, vR t), (1, vI a1), (4, vI l4), (6, vI l6), (7, vI l7), (8, vI l8)]) (st' := [vR t]) rfl ?_
  refine j_getR hx flX13_37 kl811 h54 (by decide) (by decide +kernel) ?_
  refine j_runA hx 1 (tb := [(201, .iload 9)]) (jtb_ok (by decide +kernel)) (pc' := 203) (lv' := [(9, vI v59), (0, vR t), (1, vI a1), (4, vI l4), (6, vI l6), (7, vI l7), (8, vI l8)]) (st' := [vI v59, vR (jR W 811 t)]) rfl ?_
  refine j_gd (fun h60 => ?_)
  refine j_zald hx (f := 811) (o := t) kd811 rfl (by decide +kernel) h60 ?_
  refine j_if_eq hx (off := 6) (tgt := 210) (by decide +kernel) (by decide) (fun _ => ?_) (fun _ => ?_)
  · refine j_runA hx 1 (tb := [(210, .iload 7)]) (jtb_ok (by decide +kernel)) (pc' := 212) (lv' := [(9, vI v59), (0, vR t), (1, vI a1), (4, vI l4), (6, vI l6), (7, vI l7), (8, vI l8)]) (st' := [vI l7]) rfl ?_
    refine j_if_lt hx (off := 56) (tgt := 268) (by decide +kernel) (by decide) (fun _ => ?_) (fun _ => ?_)
    · refine j_lv (lv' := [(0, vR t), (1, vI a1), (4, vI l4), (6, vI l6), (8, vI l8), (9, vI v59)]) ⟨rfl, rfl, rfl, rfl, rfl, rfl, trivial⟩ ?_
      exact wog_place_268 h l4 l6 l8 v59 W
    refine j_runA hx 1 (tb := [(215, .aload_n 0)]) (jtb_ok (by decide +kernel)) (pc' := 216) (lv' := [(9, vI v59), (0, vR t), (1, vI a1), (4, vI l4), (6, vI l6), (7, vI l7), (8, vI l8)]) (st' := [vR t]) rfl ?_
    refine j_getR hx flX13_73 kl823 h54 (by decide) (by decide +kernel) ?_
    refine j_runA hx 1 (tb := [(219, .iload 9)]) (jtb_ok (by decide +kernel)) (pc' := 221) (lv' := [(9, vI v59), (0, vR t), (1, vI a1), (4, vI l4), (6, vI l6), (7, vI l7), (8, vI l8)]) (st' := [vI v59, vR (jR W 823 t)]) rfl ?_
    refine j_gd (fun h61 => ?_)
    refine j_lald hx (f := 823) (o := t) kd823 rfl (by decide +kernel) h61 ?_
    refine j_runA hx 1 (tb := [(222, .aload_n 0)]) (jtb_ok (by decide +kernel)) (pc' := 223) (lv' := [(9, vI v59), (0, vR t), (1, vI a1), (4, vI l4), (6, vI l6), (7, vI l7), (8, vI l8)]) (st' := [vR t, vL (jB W 823 t (ix v59))]) rfl ?_
    refine j_getR hx flX13_73 kl823 h54 (by decide) (by decide +kernel) ?_
    refine j_runA hx 1 (tb := [(226, .iload 7)]) (jtb_ok (by decide +kernel)) (pc' := 228) (lv' := [(9, vI v59), (0, vR t), (1, vI a1), (4, vI l4), (6, vI l6), (7, vI l7), (8, vI l8)]) (st' := [vI l7, vR (jR W 823 t), vL (jB W 823 t (ix v59))]) rfl ?_
    refine j_gd (fun h62 => ?_)
    refine j_lald hx (f := 823) (o := t) kd823 rfl (by decide +kernel) h62 ?_
    refine j_lcmp_gt hx (off := 38) (tgt := 268) (by decide +kernel) (by decide +kernel) (by decide) (fun _ => ?_) (fun _ => ?_)
    · refine j_lv (lv' := [(0, vR t), (1, vI a1), (4, vI l4), (6, vI l6), (8, vI l8), (9, vI v59)]) ⟨rfl, rfl, rfl, rfl, rfl, rfl, trivial⟩ ?_
      exact wog_place_268 h l4 l6 l8 v59 W
    refine j_runA hx 1 (tb := [(233, .aload_n 0)]) (jtb_ok (by decide +kernel)) (pc' := 234) (lv' := [(9, vI v59), (0, vR t), (1, vI a1), (4, vI l4), (6, vI l6), (7, vI l7), (8, vI l8)]) (st' := [vR t]) rfl ?_
    refine j_getR hx flX13_73 kl823 h54 (by decide) (by decide +kernel) ?_
    refine j_runA hx 1 (tb := [(237, .iload 9)]) (jtb_ok (by decide +kernel)) (pc' := 239) (lv' := [(9, vI v59), (0, vR t), (1, vI a1), (4, vI l4), (6, vI l6), (7, vI l7), (8, vI l8)]) (st' := [vI v59, vR (jR W 823 t)]) rfl ?_
    refine j_gd (fun h63 => ?_)
    refine j_lald hx (f := 823) (o := t) kd823 rfl (by decide +kernel) h63 ?_
    refine j_runA hx 1 (tb := [(240, .aload_n 0)]) (jtb_ok (by decide +kernel)) (pc' := 241) (lv' := [(9, vI v59), (0, vR t), (1, vI a1), (4, vI l4), (6, vI l6), (7, vI l7), (8, vI l8)]) (st' := [vR t, vL (jB W 823 t (ix v59))]) rfl ?_
    refine j_getR hx flX13_73 kl823 h54 (by decide) (by decide +kernel) ?_
    refine j_runA hx 1 (tb := [(244, .iload 7)]) (jtb_ok (by decide +kernel)) (pc' := 246) (lv' := [(9, vI v59), (0, vR t), (1, vI a1), (4, vI l4), (6, vI l6), (7, vI l7), (8, vI l8)]) (st' := [vI l7, vR (jR W 823 t), vL (jB W 823 t (ix v59))]) rfl ?_
    refine j_gd (fun h64 => ?_)
    refine j_lald hx (f := 823) (o := t) kd823 rfl (by decide +kernel) h64 ?_
    refine j_lcmp_ne hx (off := 24) (tgt := 272) (by decide +kernel) (by decide +kernel) (by decide) (fun _ => ?_) (fun _ => ?_)
    · refine j_lv (lv' := [(0, vR t), (1, vI a1), (4, vI l4), (6, vI l6), (7, vI l7), (8, vI l8)]) ⟨rfl, rfl, rfl, rfl, rfl, rfl, trivial⟩ ?_
      exact wog_place_272 h l4 l6 l7 l8 W
    refine j_runA hx 1 (tb := [(251, .aload_n 0)]) (jtb_ok (by decide +kernel)) (pc' := 252) (lv' := [(9, vI v59), (0, vR t), (1, vI a1), (4, vI l4), (6, vI l6), (7, vI l7), (8, vI l8)]) (st' := [vR t]) rfl ?_
    refine j_getR hx flX13_70 kl822 h54 (by decide) (by decide +kernel) ?_
    refine j_runA hx 1 (tb := [(255, .iload 9)]) (jtb_ok (by decide +kernel)) (pc' := 257) (lv' := [(9, vI v59), (0, vR t), (1, vI a1), (4, vI l4), (6, vI l6), (7, vI l7), (8, vI l8)]) (st' := [vI v59, vR (jR W 822 t)]) rfl ?_
    refine j_gd (fun h65 => ?_)
    refine j_iald hx (f := 822) (o := t) kd822 rfl (by decide +kernel) h65 ?_
    refine j_runA hx 1 (tb := [(258, .aload_n 0)]) (jtb_ok (by decide +kernel)) (pc' := 259) (lv' := [(9, vI v59), (0, vR t), (1, vI a1), (4, vI l4), (6, vI l6), (7, vI l7), (8, vI l8)]) (st' := [vR t, vI (jA W 822 t (ix v59))]) rfl ?_
    refine j_getR hx flX13_70 kl822 h54 (by decide) (by decide +kernel) ?_
    refine j_runA hx 1 (tb := [(262, .iload 7)]) (jtb_ok (by decide +kernel)) (pc' := 264) (lv' := [(9, vI v59), (0, vR t), (1, vI a1), (4, vI l4), (6, vI l6), (7, vI l7), (8, vI l8)]) (st' := [vI l7, vR (jR W 822 t), vI (jA W 822 t (ix v59))]) rfl ?_
    refine j_gd (fun h66 => ?_)
    refine j_iald hx (f := 822) (o := t) kd822 rfl (by decide +kernel) h66 ?_
    refine j_icmp_ge hx (off := 7) (tgt := 272) (by decide +kernel) (by decide) (fun _ => ?_) (fun _ => ?_)
    · refine j_lv (lv' := [(0, vR t), (1, vI a1), (4, vI l4), (6, vI l6), (7, vI l7), (8, vI l8)]) ⟨rfl, rfl, rfl, rfl, rfl, rfl, trivial⟩ ?_
      exact wog_place_272 h l4 l6 l7 l8 W
    refine j_lv (lv' := [(0, vR t), (1, vI a1), (4, vI l4), (6, vI l6), (8, vI l8), (9, vI v59)]) ⟨rfl, rfl, rfl, rfl, rfl, rfl, trivial⟩ ?_
    exact wog_place_268 h l4 l6 l8 v59 W
  refine j_goto hx (off := 65) (by decide +kernel) (tgt := 272) (by decide) ?_
  refine j_lv (lv' := [(0, vR t), (1, vI a1), (4, vI l4), (6, vI l6), (7, vI l7), (8, vI l8)]) ⟨rfl, rfl, rfl, rfl, rfl, rfl, trivial⟩ ?_
  exact wog_place_272 h l4 l6 l7 l8 W
theorem wog_place_160 {x : jCx} {en : (fog_place_S ⊕ (jW)) → Option (Outcome × jW)} {t : Nat} {a1 : Int32} (h : hog_place x en t a1) (l4 : Int32) (l6 : Int32) (W : jW) : jJ x 10 160 [(0, vR t), (1, vI a1), (4, vI l4), (6, vI l6)] [] W (fog_place_160 t a1 l4 l6 W) en := by
  have h0 := h
  obtain ⟨hx, hm, hr, he, k34, k160, k173⟩ := h0
  unfold fog_place_160
  refine j_runA hx 2 (tb := [(160, .iload 6), (162, .iload 4)]) (jtb_ok (by decide +kernel)) (pc' := 164) (lv' := [(0, vR t), (1, vI a1), (4, vI l4), (6, vI l6)]) (st' := [vI l4, vI l6]) rfl ?_
  refine j_icmp_ge hx (off := 127) (tgt := 291) (by decide +kernel) (by decide) (fun _ => ?_) (fun _ => ?_)
  · exact j_vret hx hm (by decide +kernel) (he _)
  refine j_runA hx 4 (tb := [(167, .iconst (-1)), (168, .istore 7), (170, .iconst 0), (171, .istore 8)]) (jtb_ok (by decide +kernel)) (pc' := 173) (lv' := [(8, vI (kI 0)), (7, vI (kI (-1))), (0, vR t), (1, vI a1), (4, vI l4), (6, vI l6)]) (st' := []) rfl ?_
  refine j_lv (lv' := [(0, vR t), (1, vI a1), (4, vI l4), (6, vI l6), (7, vI (kI (-1))), (8, vI (kI 0))]) ⟨rfl, rfl, rfl, rfl, rfl, rfl, trivial⟩ ?_
  exact k173 l4 l6 (kI (-1)) (kI 0) W
theorem wog_place_149 {x : jCx} {en : (fog_place_S ⊕ (jW)) → Option (Outcome × jW)} {t : Nat} {a1 : Int32} (h : hog_place x en t a1) (l4 : Int32) (s0 : Int32) (W : jW) : jJ x 10 149 [(0, vR t), (1, vI a1), (4, vI l4)] [vI s0] W (fog_place_149 t a1 l4 s0 W) en := by
  have h0 := h
  obtain ⟨hx, hm, hr, he, k34, k160, k173⟩ := h0
  unfold fog_place_149
  refine j_runA hx 4 (tb := [(149, .istore 5), (151, .aload_n 0), (152, .iload 5), (154, .iconst 0)]) (jtb_ok (by decide +kernel)) (pc' := 155) (lv' := [(5, vI s0), (0, vR t), (1, vI a1), (4, vI l4)]) (st' := [vI (kI 0), vI s0, vR t]) rfl ?_
  refine j_gd (fun h49 => ?_)
  refine j_WI (j_callV (av := [vI s0, vI (kI 0)]) (st := []) hx hr (Or.inl q1738) q1740 qs42 rfl md_fog_putChain np_fog_putChain (cog_putChain t s0 (kI 0) W) (by decide) (Nat.le_of_ble_eq_true rfl) h49 (by decide) (by decide +kernel)) (fun q50 _ => ?_)
  refine j_runA hx 1 (tb := [(158, .istore 6)]) (jtb_ok (by decide +kernel)) (pc' := 160) (lv' := [(6, vI q50.1), (5, vI s0), (0, vR t), (1, vI a1), (4, vI l4)]) (st' := []) rfl ?_
  refine j_lv (lv' := [(0, vR t), (1, vI a1), (4, vI l4), (6, vI q50.1)]) ⟨rfl, rfl, rfl, rfl, trivial⟩ ?_
  exact k160 l4 q50.1 q50.2
theorem wog_place_34 {x : jCx} {en : (fog_place_S ⊕ (jW)) → Option (Outcome × jW)} {t : Nat} {a1 : Int32} (h : hog_place x en t a1) (l2 : Int32) (l3 : Int32) (l4 : Int32) (l5 : Int32) (W : jW) : jJ x 10 34 [(0, vR t), (1, vI a1), (2, vI l2), (3, vI l3), (4, vI l4), (5, vI l5)] [] W (fog_place_34 t a1 l2 l3 l4 l5 W) en := by
  have h0 := h
  obtain ⟨hx, hm, hr, he, k34, k160, k173⟩ := h0
  unfold fog_place_34
  refine j_runA hx 2 (tb := [(34, .iload 5), (36, .iload_n 3)]) (jtb_ok (by decide +kernel)) (pc' := 37) (lv' := [(0, vR t), (1, vI a1), (2, vI l2), (3, vI l3), (4, vI l4), (5, vI l5)]) (st' := [vI l3, vI l5]) rfl ?_
  refine j_icmp_ge hx (off := 80) (tgt := 117) (by decide +kernel) (by decide) (fun _ => ?_) (fun _ => ?_)
  · refine j_runA hx 1 (tb := [(117, .iload 4)]) (jtb_ok (by decide +kernel)) (pc' := 119) (lv' := [(0, vR t), (1, vI a1), (2, vI l2), (3, vI l3), (4, vI l4), (5, vI l5)]) (st' := [vI l4]) rfl ?_
    refine j_if_ne hx (off := 4) (tgt := 123) (by decide +kernel) (by decide) (fun _ => ?_) (fun _ => ?_)
    · refine j_runA hx 1 (tb := [(123, .aload_n 0)]) (jtb_ok (by decide +kernel)) (pc' := 124) (lv' := [(0, vR t), (1, vI a1), (2, vI l2), (3, vI l3), (4, vI l4), (5, vI l5)]) (st' := [vR t]) rfl ?_
      refine j_gd (fun h14 => ?_)
      refine j_getR hx flX13_17 kl806 h14 (by decide) (by decide +kernel) ?_
      refine j_runA hx 1 (tb := [(127, .iload_n 2)]) (jtb_ok (by decide +kernel)) (pc' := 128) (lv' := [(0, vR t), (1, vI a1), (2, vI l2), (3, vI l3), (4, vI l4), (5, vI l5)]) (st' := [vI l2, vR (jR W 806 t)]) rfl ?_
      refine j_gd (fun h15 => ?_)
      refine j_zald hx (f := 806) (o := t) kd806 rfl (by decide +kernel) h15 ?_
      refine j_if_eq hx (off := 11) (tgt := 140) (by decide +kernel) (by decide) (fun _ => ?_) (fun _ => ?_)
      · refine j_runA hx 1 (tb := [(140, .aload_n 0)]) (jtb_ok (by decide +kernel)) (pc' := 141) (lv' := [(0, vR t), (1, vI a1), (2, vI l2), (3, vI l3), (4, vI l4), (5, vI l5)]) (st' := [vR t]) rfl ?_
        refine j_getR hx flX13_88 kl828 h14 (by decide) (by decide +kernel) ?_
        refine j_gd (fun h16 => ?_)
        refine j_getR hx flX13_123 kl600 h16 (by decide) (by decide +kernel) ?_
        refine j_runA hx 1 (tb := [(147, .iconst 0)]) (jtb_ok (by decide +kernel)) (pc' := 148) (lv' := [(0, vR t), (1, vI a1), (2, vI l2), (3, vI l3), (4, vI l4), (5, vI l5)]) (st' := [vI (kI 0), vR (jR W 600 (jR W 828 t))]) rfl ?_
        refine j_gd (fun h17 => ?_)
        refine j_iald hx (f := 600) (o := (jR W 828 t)) kd600 rfl (by decide +kernel) h17 ?_
        refine j_lv (lv' := [(0, vR t), (1, vI a1), (4, vI l4)]) ⟨rfl, rfl, rfl, trivial⟩ ?_
        exact wog_place_149 h l4 (jA W 600 (jR W 828 t) (ix (kI 0))) W
      refine j_runA hx 2 (tb := [(132, .aload_n 0), (133, .iload_n 2)]) (jtb_ok (by decide +kernel)) (pc' := 134) (lv' := [(0, vR t), (1, vI a1), (2, vI l2), (3, vI l3), (4, vI l4), (5, vI l5)]) (st' := [vI l2, vR t]) rfl ?_
      refine j_WI (j_callV (av := [vI l2]) (st := []) hx hr (Or.inl q1721) q1723 qs39 rfl md_fog_headOf np_fog_headOf (cog_headOf t l2 W) (by decide) (Nat.le_of_ble_eq_true rfl) h14 (by decide) (by decide +kernel)) (fun q18 _ => ?_)
      refine j_goto hx (off := 12) (by decide +kernel) (tgt := 149) (by decide) ?_
      refine j_lv (lv' := [(0, vR t), (1, vI a1), (4, vI l4)]) ⟨rfl, rfl, rfl, trivial⟩ ?_
      exact wog_place_149 h l4 q18.1 q18.2
    exact j_vret hx hm (by decide +kernel) (he _)
  refine j_runA hx 1 (tb := [(40, .aload_n 0)]) (jtb_ok (by decide +kernel)) (pc' := 41) (lv' := [(0, vR t), (1, vI a1), (2, vI l2), (3, vI l3), (4, vI l4), (5, vI l5)]) (st' := [vR t]) rfl ?_
  refine j_gd (fun h20 => ?_)
  refine j_getR hx flX13_17 kl806 h20 (by decide) (by decide +kernel) ?_
  refine j_runA hx 1 (tb := [(44, .iload 5)]) (jtb_ok (by decide +kernel)) (pc' := 46) (lv' := [(0, vR t), (1, vI a1), (2, vI l2), (3, vI l3), (4, vI l4), (5, vI l5)]) (st' := [vI l5, vR (jR W 806 t)]) rfl ?_
  refine j_gd (fun h21 => ?_)
  refine j_zald hx (f := 806) (o := t) kd806 rfl (by decide +kernel) h21 ?_
  refine j_if_ne hx (off := 6) (tgt := 53) (by decide +kernel) (by decide) (fun _ => ?_) (fun _ => ?_)
  · refine j_runA hx 1 (tb := [(53, .aload_n 0)]) (jtb_ok (by decide +kernel)) (pc' := 54) (lv' := [(0, vR t), (1, vI a1), (2, vI l2), (3, vI l3), (4, vI l4), (5, vI l5)]) (st' := [vR t]) rfl ?_
    refine j_getR hx flX13_67 kl821 h20 (by decide) (by decide +kernel) ?_
    refine j_runA hx 2 (tb := [(57, .iload 5), (59, .iload 4)]) (jtb_ok (by decide +kernel)) (pc' := 61) (lv' := [(0, vR t), (1, vI a1), (2, vI l2), (3, vI l3), (4, vI l4), (5, vI l5)]) (st' := [vI l4, vI l5, vR (jR W 821 t)]) rfl ?_
    refine j_gd (fun h22 => ?_)
    refine j_iast hx (f := 821) (o := t) kd821 rfl (by decide +kernel) h22 ?_
    refine j_ltw rfl (fun W23 hc24 => ?_)
    have h25 : jC W23 t = 8 := (congrFun hc24 _).trans h20
    refine j_runA hx 1 (tb := [(62, .iinc 4 1)]) (jtb_ok (by decide +kernel)) (pc' := 65) (lv' := [(4, vI (l4 + (kI 1))), (0, vR t), (1, vI a1), (2, vI l2), (3, vI l3), (5, vI l5)]) (st' := []) rfl ?_
    refine j_let (v := (l4 + (kI 1))) (lv := fun v27 => [(4, vI v27), (0, vR t), (1, vI a1), (2, vI l2), (3, vI l3), (5, vI l5)]) (st := fun _ => []) (fun v27 => ?_)
    refine j_runA hx 2 (tb := [(65, .aload_n 0), (66, .iload 5)]) (jtb_ok (by decide +kernel)) (pc' := 68) (lv' := [(4, vI v27), (0, vR t), (1, vI a1), (2, vI l2), (3, vI l3), (5, vI l5)]) (st' := [vI l5, vR t]) rfl ?_
    refine j_WI (j_callV (av := [vI l5]) (st := []) hx hr (Or.inl q1721) q1723 qs39 rfl md_fog_headOf np_fog_headOf (cog_headOf t l5 W23) (by decide) (Nat.le_of_ble_eq_true rfl) h25 (by decide) (by decide +kernel)) (fun q28 _ => ?_)
    refine j_runA hx 3 (tb := [(71, .istore 6), (73, .aload_n 0), (74, .iload 6)]) (jtb_ok (by decide +kernel)) (pc' := 76) (lv' := [(6, vI q28.1), (4, vI v27), (0, vR t), (1, vI a1), (2, vI l2), (3, vI l3), (5, vI l5)]) (st' := [vI q28.1, vR t]) rfl ?_
    refine j_gd (fun h30 => ?_)
    refine j_OI (j_callV (av := [vI q28.1]) (st := []) hx hr (Or.inl q1734) q1736 qs41 rfl md_fog_isMet np_fog_isMet (cog_isMet t q28.1 q28.2) (by decide) (Nat.le_of_ble_eq_true rfl) h30 (by decide) (by decide +kernel)) (fun q31 _ => ?_)
    refine j_if_eq hx (off := 6) (tgt := 85) (by decide +kernel) (by decide) (fun _ => ?_) (fun _ => ?_)
    · refine j_runA hx 1 (tb := [(85, .aload_n 0)]) (jtb_ok (by decide +kernel)) (pc' := 86) (lv' := [(6, vI q28.1), (4, vI v27), (0, vR t), (1, vI a1), (2, vI l2), (3, vI l3), (5, vI l5)]) (st' := [vR t]) rfl ?_
      refine j_getR hx flX13_88 kl828 h30 (by decide) (by decide +kernel) ?_
      refine j_runA hx 1 (tb := [(89, .iload 6)]) (jtb_ok (by decide +kernel)) (pc' := 91) (lv' := [(6, vI q28.1), (4, vI v27), (0, vR t), (1, vI a1), (2, vI l2), (3, vI l3), (5, vI l5)]) (st' := [vI q28.1, vR (jR q28.2 828 t)]) rfl ?_
      refine j_gd (fun h32 => ?_)
      refine j_WV (j_callV (av := [vI q28.1]) (st := []) hx hr (Or.inl q1712) q1040 q1041 rfl md_fro_add np_fro_add (cro_add (jR q28.2 828 t) q28.1 q28.2) (by decide) (Nat.le_of_ble_eq_true rfl) h32 (by decide) (by decide +kernel)) (fun q33 _ => ?_)
      refine j_runA hx 1 (tb := [(94, .aload_n 0)]) (jtb_ok (by decide +kernel)) (pc' := 95) (lv' := [(6, vI q28.1), (4, vI v27), (0, vR t), (1, vI a1), (2, vI l2), (3, vI l3), (5, vI l5)]) (st' := [vR t]) rfl ?_
      refine j_gd (fun h35 => ?_)
      refine j_getR hx flX13_70 kl822 h35 (by decide) (by decide +kernel) ?_
      refine j_runA hx 2 (tb := [(98, .iload 6), (100, .iload 5)]) (jtb_ok (by decide +kernel)) (pc' := 102) (lv' := [(6, vI q28.1), (4, vI v27), (0, vR t), (1, vI a1), (2, vI l2), (3, vI l3), (5, vI l5)]) (st' := [vI l5, vI q28.1, vR (jR q33 822 t)]) rfl ?_
      refine j_gd (fun h36 => ?_)
      refine j_iast hx (f := 822) (o := t) kd822 rfl (by decide +kernel) h36 ?_
      refine j_ltw rfl (fun W37 hc38 => ?_)
      have h39 : jC W37 t = 8 := (congrFun hc38 _).trans h35
      refine j_runA hx 1 (tb := [(103, .aload_n 0)]) (jtb_ok (by decide +kernel)) (pc' := 104) (lv' := [(6, vI q28.1), (4, vI v27), (0, vR t), (1, vI a1), (2, vI l2), (3, vI l3), (5, vI l5)]) (st' := [vR t]) rfl ?_
      refine j_getR hx flX13_73 kl823 h39 (by decide) (by decide +kernel) ?_
      refine j_runA hx 2 (tb := [(107, .iload 6), (109, .lconst 0)]) (jtb_ok (by decide +kernel)) (pc' := 110) (lv' := [(6, vI q28.1), (4, vI v27), (0, vR t), (1, vI a1), (2, vI l2), (3, vI l3), (5, vI l5)]) (st' := [vL (kJ 0), vI q28.1, vR (jR W37 823 t)]) rfl ?_
      refine j_gd (fun h41 => ?_)
      refine j_last hx (f := 823) (o := t) kd823 rfl (by decide +kernel) h41 ?_
      refine j_ltw rfl (fun W42 hc43 => ?_)
      have h44 : jC W42 t = 8 := (congrFun hc43 _).trans h39
      refine j_lv (lv' := [(0, vR t), (1, vI a1), (2, vI l2), (3, vI l3), (4, vI v27), (5, vI l5)]) ⟨rfl, rfl, rfl, rfl, rfl, rfl, trivial⟩ ?_
      exact wog_place_111 h l2 l3 v27 l5 W42
    refine j_goto hx (off := 29) (by decide +kernel) (tgt := 111) (by decide) ?_
    refine j_lv (lv' := [(0, vR t), (1, vI a1), (2, vI l2), (3, vI l3), (4, vI v27), (5, vI l5)]) ⟨rfl, rfl, rfl, rfl, rfl, rfl, trivial⟩ ?_
    exact wog_place_111 h l2 l3 v27 l5 q28.2
  refine j_goto hx (off := 61) (by decide +kernel) (tgt := 111) (by decide) ?_
  exact wog_place_111 h l2 l3 l4 l5 W
theorem wog_place {x : jCx} {en : (fog_place_S ⊕ (jW)) → Option (Outcome × jW)} {t : Nat} {a1 : Int32} (h : hog_place x en t a1) (W : jW) : jJ x 10 0 [(0, vR t), (1, vI a1)] [] W (fog_place_0 t a1 W) en := by
  have h0 := h
  obtain ⟨hx, hm, hr, he, k34, k160, k173⟩ := h0
  unfold fog_place_0
  refine j_runA hx 1 (tb := [(0, .aload_n 0)]) (jtb_ok (by decide +kernel)) (pc' := 1) (lv' := [(0, vR t), (1, vI a1)]) (st' := [vR t]) rfl ?_
  refine j_gd (fun h1 => ?_)
  refine j_getR hx flX13_91 kl800 h1 (by decide) (by decide +kernel) ?_
  refine j_runA hx 1 (tb := [(4, .iload_n 1)]) (jtb_ok (by decide +kernel)) (pc' := 5) (lv' := [(0, vR t), (1, vI a1)]) (st' := [vI a1, vR (jR W 800 t)]) rfl ?_
  refine j_gd (fun h2 => ?_)
  refine j_OI (j_callV (av := [vI a1]) (st := []) hx hr (Or.inl q1603) q1604 q1605 rfl md_fpg_firstBlock np_fpg_firstBlock (cpg_firstBlock (jR W 800 t) a1 W) (by decide) (Nat.le_of_ble_eq_true rfl) h2 (by decide) (by decide +kernel)) (fun q3 _ => ?_)
  refine j_runA hx 3 (tb := [(8, .istore_n 2), (9, .iload_n 2), (10, .aload_n 0)]) (jtb_ok (by decide +kernel)) (pc' := 11) (lv' := [(2, vI q3), (0, vR t), (1, vI a1)]) (st' := [vR t, vI q3]) rfl ?_
  refine j_getR hx flX13_91 kl800 h1 (by decide) (by decide +kernel) ?_
  refine j_runA hx 1 (tb := [(14, .iload_n 1)]) (jtb_ok (by decide +kernel)) (pc' := 15) (lv' := [(2, vI q3), (0, vR t), (1, vI a1)]) (st' := [vI a1, vR (jR W 800 t), vI q3]) rfl ?_
  refine j_OI (j_callV (av := [vI a1]) (st := [vI q3]) hx hr (Or.inl q1730) q1731 q1732 rfl md_fpg_blockCount np_fpg_blockCount (cpg_blockCount (jR W 800 t) a1 W) (by decide) (Nat.le_of_ble_eq_true rfl) h2 (by decide) (by decide +kernel)) (fun q4 _ => ?_)
  refine j_runA hx 2 (tb := [(18, .iadd), (19, .istore_n 3)]) (jtb_ok (by decide +kernel)) (pc' := 20) (lv' := [(3, vI (q3 + q4)), (2, vI q3), (0, vR t), (1, vI a1)]) (st' := []) rfl ?_
  refine j_let (v := (q3 + q4)) (lv := fun v5 => [(3, vI v5), (2, vI q3), (0, vR t), (1, vI a1)]) (st := fun _ => []) (fun v5 => ?_)
  refine j_runA hx 1 (tb := [(20, .aload_n 0)]) (jtb_ok (by decide +kernel)) (pc' := 21) (lv' := [(3, vI v5), (2, vI q3), (0, vR t), (1, vI a1)]) (st' := [vR t]) rfl ?_
  refine j_getR hx flX13_88 kl828 h1 (by decide) (by decide +kernel) ?_
  refine j_runA hx 1 (tb := [(24, .iconst 0)]) (jtb_ok (by decide +kernel)) (pc' := 25) (lv' := [(3, vI v5), (2, vI q3), (0, vR t), (1, vI a1)]) (st' := [vI (kI 0), vR (jR W 828 t)]) rfl ?_
  refine j_gd (fun h6 => ?_)
  refine j_putI hx fwX13_146 wf601 kd601 h6 (by decide) (by decide +kernel) (ni601 _) (fi601 _) ?_
  refine j_ltw rfl (fun W7 hc8 => ?_)
  have h9 : jC W7 t = 8 := (congrFun hc8 _).trans h1
  have h10 : jC W7 (jR W 800 t) = 2 := (congrFun hc8 _).trans h2
  have h11 : jC W7 (jR W 828 t) = 6 := (congrFun hc8 _).trans h6
  refine j_runA hx 4 (tb := [(28, .iconst 0), (29, .istore 4), (31, .iload_n 2), (32, .istore 5)]) (jtb_ok (by decide +kernel)) (pc' := 34) (lv' := [(5, vI q3), (4, vI (kI 0)), (3, vI v5), (2, vI q3), (0, vR t), (1, vI a1)]) (st' := []) rfl ?_
  refine j_lv (lv' := [(0, vR t), (1, vI a1), (2, vI q3), (3, vI v5), (4, vI (kI 0)), (5, vI q3)]) ⟨rfl, rfl, rfl, rfl, rfl, rfl, trivial⟩ ?_
  exact k34 q3 v5 (kI 0) q3 W7
theorem cog_place (t : Nat) (a1 : Int32) (W : jW) : jM yX13_place cX13_place 10 (Option.none : Option Jvm.ClassFile.FieldType) [] 2 74 [vR t, vI a1] W ((fog_place t a1 W).bind (fun q => some (.returned none, q))) := by
  refine jM.of (Nat.le_of_ble_eq_true rfl) (fun x hx hm hr => ?_)
  refine j_begin (P := (Sum.elim (fun s => (34, [(0, vR t), (1, vI a1), (2, vI s.1), (3, vI s.2.1), (4, vI s.2.2.1), (5, vI s.2.2.2.1)], s.2.2.2.2)) (Sum.elim (fun s => (160, [(0, vR t), (1, vI a1), (4, vI s.1), (6, vI s.2.1)], s.2.2)) (fun s => (173, [(0, vR t), (1, vI a1), (4, vI s.1), (6, vI s.2.1), (7, vI s.2.2.1), (8, vI s.2.2.2.1)], s.2.2.2.2))))) (fun en he hk => ?_)
  have h : hog_place x en t a1 := ⟨hx, hm, hr, fun q => he _, fun l2 l3 l4 l5 W => hk (.inl (l2, l3, l4, l5, W)), fun l4 l6 W => hk (.inr (.inl (l4, l6, W))), fun l4 l6 l7 l8 W => hk (.inr (.inr (l4, l6, l7, l8, W)))⟩
  refine ⟨fun s => ?_, wog_place h W⟩
  rcases s with s | s | s
  · exact wog_place_34 h s.1 s.2.1 s.2.2.1 s.2.2.2.1 s.2.2.2.2
  · exact wog_place_160 h s.1 s.2.1 s.2.2
  · exact wog_place_173 h s.1 s.2.1 s.2.2.1 s.2.2.2.1 s.2.2.2.2
def hog_weigh (x : jCx) (en : (fog_weigh_S ⊕ (jW)) → Option (Outcome × jW)) (t : Nat) : Prop :=
  jOK x RX13 cX13_weigh 5 ∧
  jMt x "weigh" (Option.none : Option Jvm.ClassFile.FieldType) [] ∧
  jRm x 2 28 ∧
  (∀ q : jW, en (.inr q) = some (.returned none, q)) ∧
  (∀ (l1 : Int32) (W : jW), jJ x 5 2 [(0, vR t), (1, vI l1)] [] W (some (.inl (.inl (l1, W)))) en) ∧
  (∀ (l1 : Int32) (W : jW), jJ x 5 42 [(0, vR t), (1, vI l1)] [] W (some (.inl (.inr (.inl (l1, W))))) en) ∧
  (∀ (l1 : Int32) (W : jW), jJ x 5 210 [(0, vR t), (1, vI l1)] [] W (some (.inl (.inr (.inr (l1, W))))) en)
theorem wog_weigh_202 {x : jCx} {en : (fog_weigh_S ⊕ (jW)) → Option (Outcome × jW)} {t : Nat} (h : hog_weigh x en t) (l1 : Int32) (W : jW) : jJ x 5 202 [(0, vR t), (1, vI l1)] [] W (fog_weigh_202 t l1 W) en := by
  have h0 := h
  obtain ⟨hx, hm, hr, he, k2, k42, k210⟩ := h0
  unfold fog_weigh_202
  refine j_runA hx 1 (tb := [(202, .iinc 1 1)]) (jtb_ok (by decide +kernel)) (pc' := 205) (lv' := [(1, vI (l1 + (kI 1))), (0, vR t)]) (st' := []) rfl ?_
  refine j_let (v := (l1 + (kI 1))) (lv := fun v49 => [(1, vI v49), (0, vR t)]) (st := fun _ => []) (fun v49 => ?_)
  refine j_goto hx (off := -163) (by decide +kernel) (tgt := 42) (by decide) ?_
  refine j_lv (lv' := [(0, vR t), (1, vI v49)]) ⟨rfl, rfl, trivial⟩ ?_
  exact k42 v49 W
theorem wog_weigh_166 {x : jCx} {en : (fog_weigh_S ⊕ (jW)) → Option (Outcome × jW)} {t : Nat} (h : hog_weigh x en t) (l1 : Int32) (l2 : Int32) (l3 : Int32) (l4 : Int32) (W : jW) : jJ x 5 166 [(0, vR t), (1, vI l1), (2, vI l2), (3, vI l3), (4, vI l4)] [] W (fog_weigh_166 t l1 l2 l3 l4 W) en := by
  have h0 := h
  obtain ⟨hx, hm, hr, he, k2, k42, k210⟩ := h0
  unfold fog_weigh_166
  refine j_runA hx 1 (tb := [(166, .aload_n 0)]) (jtb_ok (by decide +kernel)) (pc' := 167) (lv' := [(0, vR t), (1, vI l1), (2, vI l2), (3, vI l3), (4, vI l4)]) (st' := [vR t]) rfl ?_
  refine j_gd (fun h64 => ?_)
  refine j_getR hx flX13_67 kl821 h64 (by decide) (by decide +kernel) ?_
  refine j_runA hx 1 (tb := [(170, .iload_n 3)]) (jtb_ok (by decide +kernel)) (pc' := 171) (lv' := [(0, vR t), (1, vI l1), (2, vI l2), (3, vI l3), (4, vI l4)]) (st' := [vI l3, vR (jR W 821 t)]) rfl ?_
  refine j_gd (fun h65 => ?_)
  refine j_iald hx (f := 821) (o := t) kd821 rfl (by decide +kernel) h65 ?_
  refine j_runA hx 1 (tb := [(172, .aload_n 0)]) (jtb_ok (by decide +kernel)) (pc' := 173) (lv' := [(0, vR t), (1, vI l1), (2, vI l2), (3, vI l3), (4, vI l4)]) (st' := [vR t, vI (jA W 821 t (ix l3))]) rfl ?_
  refine j_getR hx flX13_67 kl821 h64 (by decide) (by decide +kernel) ?_
  refine j_runA hx 1 (tb := [(176, .iload_n 2)]) (jtb_ok (by decide +kernel)) (pc' := 177) (lv' := [(0, vR t), (1, vI l1), (2, vI l2), (3, vI l3), (4, vI l4)]) (st' := [vI l2, vR (jR W 821 t), vI (jA W 821 t (ix l3))]) rfl ?_
  refine j_gd (fun h66 => ?_)
  refine j_iald hx (f := 821) (o := t) kd821 rfl (by decide +kernel) h66 ?_
  refine j_runA hx 2 (tb := [(178, .iconst 1), (179, .iadd)]) (jtb_ok (by decide +kernel)) (pc' := 180) (lv' := [(0, vR t), (1, vI l1), (2, vI l2), (3, vI l3), (4, vI l4)]) (st' := [vI ((jA W 821 t (ix l2)) + (kI 1)), vI (jA W 821 t (ix l3))]) rfl ?_
  refine j_icmp_ne hx (off := 22) (tgt := 202) (by decide +kernel) (by decide) (fun _ => ?_) (fun _ => ?_)
  · refine j_lv (lv' := [(0, vR t), (1, vI l1)]) ⟨rfl, rfl, trivial⟩ ?_
    exact wog_weigh_202 h l1 W
  refine j_runA hx 1 (tb := [(183, .aload_n 0)]) (jtb_ok (by decide +kernel)) (pc' := 184) (lv' := [(0, vR t), (1, vI l1), (2, vI l2), (3, vI l3), (4, vI l4)]) (st' := [vR t]) rfl ?_
  refine j_getR hx flX13_85 kl827 h64 (by decide) (by decide +kernel) ?_
  refine j_runA hx 2 (tb := [(187, .iload 4), (189, .dup2)]) (jtb_ok (by decide +kernel)) (pc' := 190) (lv' := [(0, vR t), (1, vI l1), (2, vI l2), (3, vI l3), (4, vI l4)]) (st' := [vI l4, vR (jR W 827 t), vI l4, vR (jR W 827 t)]) rfl ?_
  refine j_gd (fun h67 => ?_)
  refine j_lald hx (f := 827) (o := t) kd827 rfl (by decide +kernel) h67 ?_
  refine j_runA hx 1 (tb := [(191, .aload_n 0)]) (jtb_ok (by decide +kernel)) (pc' := 192) (lv' := [(0, vR t), (1, vI l1), (2, vI l2), (3, vI l3), (4, vI l4)]) (st' := [vR t, vL (jB W 827 t (ix l4)), vI l4, vR (jR W 827 t)]) rfl ?_
  refine j_getR hx flX13_105 kl801 h64 (by decide) (by decide +kernel) ?_
  refine j_gd (fun h68 => ?_)
  refine j_getR hx flX13_126 kl702 h68 (by decide) (by decide +kernel) ?_
  refine j_runA hx 1 (tb := [(198, .iload_n 1)]) (jtb_ok (by decide +kernel)) (pc' := 199) (lv' := [(0, vR t), (1, vI l1), (2, vI l2), (3, vI l3), (4, vI l4)]) (st' := [vI l1, vR (jR W 702 (jR W 801 t)), vL (jB W 827 t (ix l4)), vI l4, vR (jR W 827 t)]) rfl ?_
  refine j_gd (fun h69 => ?_)
  refine j_lald hx (f := 702) (o := (jR W 801 t)) kd702 rfl (by decide +kernel) h69 ?_
  refine j_runA hx 1 (tb := [(200, .ladd)]) (jtb_ok (by decide +kernel)) (pc' := 201) (lv' := [(0, vR t), (1, vI l1), (2, vI l2), (3, vI l3), (4, vI l4)]) (st' := [vL ((jB W 827 t (ix l4)) + (jB W 702 (jR W 801 t) (ix l1))), vI l4, vR (jR W 827 t)]) rfl ?_
  refine j_gd (fun h70 => ?_)
  refine j_last hx (f := 827) (o := t) kd827 rfl (by decide +kernel) h70 ?_
  refine j_ltw rfl (fun W71 hc72 => ?_)
  have h73 : jC W71 t = 8 := (congrFun hc72 _).trans h64
  have h74 : jC W71 (jR W 801 t) = 7 := (congrFun hc72 _).trans h68
  refine j_lv (lv' := [(0, vR t), (1, vI l1)]) ⟨rfl, rfl, trivial⟩ ?_
  exact wog_weigh_202 h l1 W71
theorem wog_weigh_130 {x : jCx} {en : (fog_weigh_S ⊕ (jW)) → Option (Outcome × jW)} {t : Nat} (h : hog_weigh x en t) (l1 : Int32) (l2 : Int32) (l3 : Int32) (l4 : Int32) (W : jW) : jJ x 5 130 [(0, vR t), (1, vI l1), (2, vI l2), (3, vI l3), (4, vI l4)] [] W (fog_weigh_130 t l1 l2 l3 l4 W) en := by
  have h0 := h
  obtain ⟨hx, hm, hr, he, k2, k42, k210⟩ := h0
  unfold fog_weigh_130
  refine j_runA hx 1 (tb := [(130, .aload_n 0)]) (jtb_ok (by decide +kernel)) (pc' := 131) (lv' := [(0, vR t), (1, vI l1), (2, vI l2), (3, vI l3), (4, vI l4)]) (st' := [vR t]) rfl ?_
  refine j_gd (fun h51 => ?_)
  refine j_getR hx flX13_64 kl820 h51 (by decide) (by decide +kernel) ?_
  refine j_runA hx 1 (tb := [(134, .iload_n 3)]) (jtb_ok (by decide +kernel)) (pc' := 135) (lv' := [(0, vR t), (1, vI l1), (2, vI l2), (3, vI l3), (4, vI l4)]) (st' := [vI l3, vR (jR W 820 t)]) rfl ?_
  refine j_gd (fun h52 => ?_)
  refine j_iald hx (f := 820) (o := t) kd820 rfl (by decide +kernel) h52 ?_
  refine j_runA hx 1 (tb := [(136, .aload_n 0)]) (jtb_ok (by decide +kernel)) (pc' := 137) (lv' := [(0, vR t), (1, vI l1), (2, vI l2), (3, vI l3), (4, vI l4)]) (st' := [vR t, vI (jA W 820 t (ix l3))]) rfl ?_
  refine j_getR hx flX13_64 kl820 h51 (by decide) (by decide +kernel) ?_
  refine j_runA hx 1 (tb := [(140, .iload_n 2)]) (jtb_ok (by decide +kernel)) (pc' := 141) (lv' := [(0, vR t), (1, vI l1), (2, vI l2), (3, vI l3), (4, vI l4)]) (st' := [vI l2, vR (jR W 820 t), vI (jA W 820 t (ix l3))]) rfl ?_
  refine j_gd (fun h53 => ?_)
  refine j_iald hx (f := 820) (o := t) kd820 rfl (by decide +kernel) h53 ?_
  refine j_runA hx 2 (tb := [(142, .iconst 1), (143, .iadd)]) (jtb_ok (by decide +kernel)) (pc' := 144) (lv' := [(0, vR t), (1, vI l1), (2, vI l2), (3, vI l3), (4, vI l4)]) (st' := [vI ((jA W 820 t (ix l2)) + (kI 1)), vI (jA W 820 t (ix l3))]) rfl ?_
  refine j_icmp_ne hx (off := 22) (tgt := 166) (by decide +kernel) (by decide) (fun _ => ?_) (fun _ => ?_)
  · exact wog_weigh_166 h l1 l2 l3 l4 W
  refine j_runA hx 1 (tb := [(147, .aload_n 0)]) (jtb_ok (by decide +kernel)) (pc' := 148) (lv' := [(0, vR t), (1, vI l1), (2, vI l2), (3, vI l3), (4, vI l4)]) (st' := [vR t]) rfl ?_
  refine j_getR hx flX13_82 kl826 h51 (by decide) (by decide +kernel) ?_
  refine j_runA hx 2 (tb := [(151, .iload 4), (153, .dup2)]) (jtb_ok (by decide +kernel)) (pc' := 154) (lv' := [(0, vR t), (1, vI l1), (2, vI l2), (3, vI l3), (4, vI l4)]) (st' := [vI l4, vR (jR W 826 t), vI l4, vR (jR W 826 t)]) rfl ?_
  refine j_gd (fun h54 => ?_)
  refine j_lald hx (f := 826) (o := t) kd826 rfl (by decide +kernel) h54 ?_
  refine j_runA hx 1 (tb := [(155, .aload_n 0)]) (jtb_ok (by decide +kernel)) (pc' := 156) (lv' := [(0, vR t), (1, vI l1), (2, vI l2), (3, vI l3), (4, vI l4)]) (st' := [vR t, vL (jB W 826 t (ix l4)), vI l4, vR (jR W 826 t)]) rfl ?_
  refine j_getR hx flX13_105 kl801 h51 (by decide) (by decide +kernel) ?_
  refine j_gd (fun h55 => ?_)
  refine j_getR hx flX13_126 kl702 h55 (by decide) (by decide +kernel) ?_
  refine j_runA hx 1 (tb := [(162, .iload_n 1)]) (jtb_ok (by decide +kernel)) (pc' := 163) (lv' := [(0, vR t), (1, vI l1), (2, vI l2), (3, vI l3), (4, vI l4)]) (st' := [vI l1, vR (jR W 702 (jR W 801 t)), vL (jB W 826 t (ix l4)), vI l4, vR (jR W 826 t)]) rfl ?_
  refine j_gd (fun h56 => ?_)
  refine j_lald hx (f := 702) (o := (jR W 801 t)) kd702 rfl (by decide +kernel) h56 ?_
  refine j_runA hx 1 (tb := [(164, .ladd)]) (jtb_ok (by decide +kernel)) (pc' := 165) (lv' := [(0, vR t), (1, vI l1), (2, vI l2), (3, vI l3), (4, vI l4)]) (st' := [vL ((jB W 826 t (ix l4)) + (jB W 702 (jR W 801 t) (ix l1))), vI l4, vR (jR W 826 t)]) rfl ?_
  refine j_gd (fun h57 => ?_)
  refine j_last hx (f := 826) (o := t) kd826 rfl (by decide +kernel) h57 ?_
  refine j_ltw rfl (fun W58 hc59 => ?_)
  have h60 : jC W58 t = 8 := (congrFun hc59 _).trans h51
  have h61 : jC W58 (jR W 801 t) = 7 := (congrFun hc59 _).trans h55
  exact wog_weigh_166 h l1 l2 l3 l4 W58
theorem wog_weigh_210 {x : jCx} {en : (fog_weigh_S ⊕ (jW)) → Option (Outcome × jW)} {t : Nat} (h : hog_weigh x en t) (l1 : Int32) (W : jW) : jJ x 5 210 [(0, vR t), (1, vI l1)] [] W (fog_weigh_210 t l1 W) en := by
  have h0 := h
  obtain ⟨hx, hm, hr, he, k2, k42, k210⟩ := h0
  unfold fog_weigh_210
  refine j_runA hx 2 (tb := [(210, .iload_n 1), (211, .aload_n 0)]) (jtb_ok (by decide +kernel)) (pc' := 212) (lv' := [(0, vR t), (1, vI l1)]) (st' := [vR t, vI l1]) rfl ?_
  refine j_gd (fun h77 => ?_)
  refine j_getR hx flX13_91 kl800 h77 (by decide) (by decide +kernel) ?_
  refine j_gd (fun h78 => ?_)
  refine j_OI (j_callV (av := []) (st := [vI l1]) hx hr (Or.inl q1594) q1558 q1559 rfl md_fpg_functionCount np_fpg_functionCount (cpg_functionCount (jR W 800 t) W) (by decide) (Nat.le_of_ble_eq_true rfl) h78 (by decide) (by decide +kernel)) (fun q79 _ => ?_)
  refine j_icmp_ge hx (off := 30) (tgt := 248) (by decide +kernel) (by decide) (fun _ => ?_) (fun _ => ?_)
  · exact j_vret hx hm (by decide +kernel) (he _)
  refine j_runA hx 1 (tb := [(221, .aload_n 0)]) (jtb_ok (by decide +kernel)) (pc' := 222) (lv' := [(0, vR t), (1, vI l1)]) (st' := [vR t]) rfl ?_
  refine j_getR hx flX13_79 kl825 h77 (by decide) (by decide +kernel) ?_
  refine j_runA hx 2 (tb := [(225, .iload_n 1), (226, .aload_n 0)]) (jtb_ok (by decide +kernel)) (pc' := 227) (lv' := [(0, vR t), (1, vI l1)]) (st' := [vR t, vI l1, vR (jR W 825 t)]) rfl ?_
  refine j_getR hx flX13_82 kl826 h77 (by decide) (by decide +kernel) ?_
  refine j_runA hx 1 (tb := [(230, .iload_n 1)]) (jtb_ok (by decide +kernel)) (pc' := 231) (lv' := [(0, vR t), (1, vI l1)]) (st' := [vI l1, vR (jR W 826 t), vI l1, vR (jR W 825 t)]) rfl ?_
  refine j_gd (fun h80 => ?_)
  refine j_lald hx (f := 826) (o := t) kd826 rfl (by decide +kernel) h80 ?_
  refine j_runA hx 1 (tb := [(232, .aload_n 0)]) (jtb_ok (by decide +kernel)) (pc' := 233) (lv' := [(0, vR t), (1, vI l1)]) (st' := [vR t, vL (jB W 826 t (ix l1)), vI l1, vR (jR W 825 t)]) rfl ?_
  refine j_getR hx flX13_85 kl827 h77 (by decide) (by decide +kernel) ?_
  refine j_runA hx 1 (tb := [(236, .iload_n 1)]) (jtb_ok (by decide +kernel)) (pc' := 237) (lv' := [(0, vR t), (1, vI l1)]) (st' := [vI l1, vR (jR W 827 t), vL (jB W 826 t (ix l1)), vI l1, vR (jR W 825 t)]) rfl ?_
  refine j_gd (fun h81 => ?_)
  refine j_lald hx (f := 827) (o := t) kd827 rfl (by decide +kernel) h81 ?_
  refine j_TL (j_callS (av := [vL (jB W 826 t (ix l1)), vL (jB W 827 t (ix l1))]) (st := [vI l1, vR (jR W 825 t)]) hx hr (Or.inl q1607) q824 q246 md_fjm_max np_fjm_max (cjm_max (jB W 826 t (ix l1)) (jB W 827 t (ix l1)) W) (by decide) (Nat.le_of_ble_eq_true rfl) (by decide +kernel)) ?_
  refine j_gd (fun h82 => ?_)
  refine j_last hx (f := 825) (o := t) kd825 rfl (by decide +kernel) h82 ?_
  refine j_ltw rfl (fun W83 hc84 => ?_)
  have h85 : jC W83 t = 8 := (congrFun hc84 _).trans h77
  have h86 : jC W83 (jR W 800 t) = 2 := (congrFun hc84 _).trans h78
  refine j_runA hx 1 (tb := [(242, .iinc 1 1)]) (jtb_ok (by decide +kernel)) (pc' := 245) (lv' := [(1, vI (l1 + (kI 1))), (0, vR t)]) (st' := []) rfl ?_
  refine j_let (v := (l1 + (kI 1))) (lv := fun v88 => [(1, vI v88), (0, vR t)]) (st := fun _ => []) (fun v88 => ?_)
  refine j_goto hx (off := -35) (by decide +kernel) (tgt := 210) (by decide) ?_
  refine j_lv (lv' := [(0, vR t), (1, vI v88)]) ⟨rfl, rfl, trivial⟩ ?_
  exact k210 v88 W83
theorem wog_weigh_42 {x : jCx} {en : (fog_weigh_S ⊕ (jW)) → Option (Outcome × jW)} {t : Nat} (h : hog_weigh x en t) (l1 : Int32) (W : jW) : jJ x 5 42 [(0, vR t), (1, vI l1)] [] W (fog_weigh_42 t l1 W) en := by
  have h0 := h
  obtain ⟨hx, hm, hr, he, k2, k42, k210⟩ := h0
  unfold fog_weigh_42
  refine j_runA hx 2 (tb := [(42, .iload_n 1), (43, .aload_n 0)]) (jtb_ok (by decide +kernel)) (pc' := 44) (lv' := [(0, vR t), (1, vI l1)]) (st' := [vR t, vI l1]) rfl ?_
  refine j_gd (fun h25 => ?_)
  refine j_getR hx flX13_105 kl801 h25 (by decide) (by decide +kernel) ?_
  refine j_gd (fun h26 => ?_)
  refine j_OI (j_callV (av := []) (st := [vI l1]) hx hr (Or.inl q1595) q1596 q1597 rfl md_fco_size np_fco_size (cco_size (jR W 801 t) W) (by decide) (Nat.le_of_ble_eq_true rfl) h26 (by decide) (by decide +kernel)) (fun q27 _ => ?_)
  refine j_icmp_ge hx (off := 158) (tgt := 208) (by decide +kernel) (by decide) (fun _ => ?_) (fun _ => ?_)
  · refine j_runA hx 2 (tb := [(208, .iconst 0), (209, .istore_n 1)]) (jtb_ok (by decide +kernel)) (pc' := 210) (lv' := [(1, vI (kI 0)), (0, vR t)]) (st' := []) rfl ?_
    refine j_lv (lv' := [(0, vR t), (1, vI (kI 0))]) ⟨rfl, rfl, trivial⟩ ?_
    exact k210 (kI 0) W
  refine j_runA hx 1 (tb := [(53, .aload_n 0)]) (jtb_ok (by decide +kernel)) (pc' := 54) (lv' := [(0, vR t), (1, vI l1)]) (st' := [vR t]) rfl ?_
  refine j_getR hx flX13_105 kl801 h25 (by decide) (by decide +kernel) ?_
  refine j_getR hx flX13_133 kl700 h26 (by decide) (by decide +kernel) ?_
  refine j_gd (fun h28 => ?_)
  refine j_getR hx flX13_123 kl600 h28 (by decide) (by decide +kernel) ?_
  refine j_runA hx 1 (tb := [(63, .iload_n 1)]) (jtb_ok (by decide +kernel)) (pc' := 64) (lv' := [(0, vR t), (1, vI l1)]) (st' := [vI l1, vR (jR W 600 (jR W 700 (jR W 801 t)))]) rfl ?_
  refine j_gd (fun h29 => ?_)
  refine j_iald hx (f := 600) (o := (jR W 700 (jR W 801 t))) kd600 rfl (by decide +kernel) h29 ?_
  refine j_runA hx 1 (tb := [(65, .istore_n 2)]) (jtb_ok (by decide +kernel)) (pc' := 66) (lv' := [(2, vI (jA W 600 (jR W 700 (jR W 801 t)) (ix l1))), (0, vR t), (1, vI l1)]) (st' := []) rfl ?_
  refine j_let (v := (jA W 600 (jR W 700 (jR W 801 t)) (ix l1))) (lv := fun v30 => [(2, vI v30), (0, vR t), (1, vI l1)]) (st := fun _ => []) (fun v30 => ?_)
  refine j_runA hx 1 (tb := [(66, .aload_n 0)]) (jtb_ok (by decide +kernel)) (pc' := 67) (lv' := [(2, vI v30), (0, vR t), (1, vI l1)]) (st' := [vR t]) rfl ?_
  refine j_getR hx flX13_105 kl801 h25 (by decide) (by decide +kernel) ?_
  refine j_getR hx flX13_120 kl701 h26 (by decide) (by decide +kernel) ?_
  refine j_gd (fun h31 => ?_)
  refine j_getR hx flX13_123 kl600 h31 (by decide) (by decide +kernel) ?_
  refine j_runA hx 1 (tb := [(76, .iload_n 1)]) (jtb_ok (by decide +kernel)) (pc' := 77) (lv' := [(2, vI v30), (0, vR t), (1, vI l1)]) (st' := [vI l1, vR (jR W 600 (jR W 701 (jR W 801 t)))]) rfl ?_
  refine j_gd (fun h32 => ?_)
  refine j_iald hx (f := 600) (o := (jR W 701 (jR W 801 t))) kd600 rfl (by decide +kernel) h32 ?_
  refine j_runA hx 1 (tb := [(78, .istore_n 3)]) (jtb_ok (by decide +kernel)) (pc' := 79) (lv' := [(3, vI (jA W 600 (jR W 701 (jR W 801 t)) (ix l1))), (2, vI v30), (0, vR t), (1, vI l1)]) (st' := []) rfl ?_
  refine j_let (v := (jA W 600 (jR W 701 (jR W 801 t)) (ix l1))) (lv := fun v33 => [(3, vI v33), (2, vI v30), (0, vR t), (1, vI l1)]) (st := fun _ => []) (fun v33 => ?_)
  refine j_runA hx 1 (tb := [(79, .aload_n 0)]) (jtb_ok (by decide +kernel)) (pc' := 80) (lv' := [(3, vI v33), (2, vI v30), (0, vR t), (1, vI l1)]) (st' := [vR t]) rfl ?_
  refine j_getR hx flX13_91 kl800 h25 (by decide) (by decide +kernel) ?_
  refine j_runA hx 2 (tb := [(83, .iload_n 2), (84, .iload_n 3)]) (jtb_ok (by decide +kernel)) (pc' := 85) (lv' := [(3, vI v33), (2, vI v30), (0, vR t), (1, vI l1)]) (st' := [vI v33, vI v30, vR (jR W 800 t)]) rfl ?_
  refine j_gd (fun h34 => ?_)
  refine j_OI (j_callV (av := [vI v30, vI v33]) (st := []) hx hr (Or.inl q1708) q1709 q1710 rfl md_fpg_falls np_fpg_falls (cpg_falls (jR W 800 t) v30 v33 W) (by decide) (Nat.le_of_ble_eq_true rfl) h34 (by decide) (by decide +kernel)) (fun q35 _ => ?_)
  refine j_if_ne hx (off := 6) (tgt := 94) (by decide +kernel) (by decide) (fun _ => ?_) (fun _ => ?_)
  · refine j_runA hx 1 (tb := [(94, .aload_n 0)]) (jtb_ok (by decide +kernel)) (pc' := 95) (lv' := [(3, vI v33), (2, vI v30), (0, vR t), (1, vI l1)]) (st' := [vR t]) rfl ?_
    refine j_getR hx flX13_91 kl800 h25 (by decide) (by decide +kernel) ?_
    refine j_runA hx 1 (tb := [(98, .iload_n 2)]) (jtb_ok (by decide +kernel)) (pc' := 99) (lv' := [(3, vI v33), (2, vI v30), (0, vR t), (1, vI l1)]) (st' := [vI v30, vR (jR W 800 t)]) rfl ?_
    refine j_OI (j_callV (av := [vI v30]) (st := []) hx hr (Or.inl q1725) q1629 q1630 rfl md_fpg_functionOf np_fpg_functionOf (cpg_functionOf (jR W 800 t) v30 W) (by decide) (Nat.le_of_ble_eq_true rfl) h34 (by decide) (by decide +kernel)) (fun q36 _ => ?_)
    refine j_runA hx 5 (tb := [(102, .istore 4), (104, .iload_n 3), (105, .iload_n 2), (106, .iconst 1), (107, .iadd)]) (jtb_ok (by decide +kernel)) (pc' := 108) (lv' := [(4, vI q36), (3, vI v33), (2, vI v30), (0, vR t), (1, vI l1)]) (st' := [vI (v30 + (kI 1)), vI v33]) rfl ?_
    refine j_icmp_ne hx (off := 22) (tgt := 130) (by decide +kernel) (by decide) (fun _ => ?_) (fun _ => ?_)
    · refine j_lv (lv' := [(0, vR t), (1, vI l1), (2, vI v30), (3, vI v33), (4, vI q36)]) ⟨rfl, rfl, rfl, rfl, rfl, trivial⟩ ?_
      exact wog_weigh_130 h l1 v30 v33 q36 W
    refine j_runA hx 1 (tb := [(111, .aload_n 0)]) (jtb_ok (by decide +kernel)) (pc' := 112) (lv' := [(4, vI q36), (3, vI v33), (2, vI v30), (0, vR t), (1, vI l1)]) (st' := [vR t]) rfl ?_
    refine j_getR hx flX13_76 kl824 h25 (by decide) (by decide +kernel) ?_
    refine j_runA hx 2 (tb := [(115, .iload 4), (117, .dup2)]) (jtb_ok (by decide +kernel)) (pc' := 118) (lv' := [(4, vI q36), (3, vI v33), (2, vI v30), (0, vR t), (1, vI l1)]) (st' := [vI q36, vR (jR W 824 t), vI q36, vR (jR W 824 t)]) rfl ?_
    refine j_gd (fun h37 => ?_)
    refine j_lald hx (f := 824) (o := t) kd824 rfl (by decide +kernel) h37 ?_
    refine j_runA hx 1 (tb := [(119, .aload_n 0)]) (jtb_ok (by decide +kernel)) (pc' := 120) (lv' := [(4, vI q36), (3, vI v33), (2, vI v30), (0, vR t), (1, vI l1)]) (st' := [vR t, vL (jB W 824 t (ix q36)), vI q36, vR (jR W 824 t)]) rfl ?_
    refine j_getR hx flX13_105 kl801 h25 (by decide) (by decide +kernel) ?_
    refine j_getR hx flX13_126 kl702 h26 (by decide) (by decide +kernel) ?_
    refine j_runA hx 1 (tb := [(126, .iload_n 1)]) (jtb_ok (by decide +kernel)) (pc' := 127) (lv' := [(4, vI q36), (3, vI v33), (2, vI v30), (0, vR t), (1, vI l1)]) (st' := [vI l1, vR (jR W 702 (jR W 801 t)), vL (jB W 824 t (ix q36)), vI q36, vR (jR W 824 t)]) rfl ?_
    refine j_gd (fun h38 => ?_)
    refine j_lald hx (f := 702) (o := (jR W 801 t)) kd702 rfl (by decide +kernel) h38 ?_
    refine j_runA hx 1 (tb := [(128, .ladd)]) (jtb_ok (by decide +kernel)) (pc' := 129) (lv' := [(4, vI q36), (3, vI v33), (2, vI v30), (0, vR t), (1, vI l1)]) (st' := [vL ((jB W 824 t (ix q36)) + (jB W 702 (jR W 801 t) (ix l1))), vI q36, vR (jR W 824 t)]) rfl ?_
    refine j_gd (fun h39 => ?_)
    refine j_last hx (f := 824) (o := t) kd824 rfl (by decide +kernel) h39 ?_
    refine j_ltw rfl (fun W40 hc41 => ?_)
    have h42 : jC W40 t = 8 := (congrFun hc41 _).trans h25
    have h43 : jC W40 (jR W 801 t) = 7 := (congrFun hc41 _).trans h26
    have h44 : jC W40 (jR W 700 (jR W 801 t)) = 6 := (congrFun hc41 _).trans h28
    have h45 : jC W40 (jR W 701 (jR W 801 t)) = 6 := (congrFun hc41 _).trans h31
    have h46 : jC W40 (jR W 800 t) = 2 := (congrFun hc41 _).trans h34
    refine j_lv (lv' := [(0, vR t), (1, vI l1), (2, vI v30), (3, vI v33), (4, vI q36)]) ⟨rfl, rfl, rfl, rfl, rfl, trivial⟩ ?_
    exact wog_weigh_130 h l1 v30 v33 q36 W40
  refine j_goto hx (off := 111) (by decide +kernel) (tgt := 202) (by decide) ?_
  refine j_lv (lv' := [(0, vR t), (1, vI l1)]) ⟨rfl, rfl, trivial⟩ ?_
  exact wog_weigh_202 h l1 W
theorem wog_weigh_2 {x : jCx} {en : (fog_weigh_S ⊕ (jW)) → Option (Outcome × jW)} {t : Nat} (h : hog_weigh x en t) (l1 : Int32) (W : jW) : jJ x 5 2 [(0, vR t), (1, vI l1)] [] W (fog_weigh_2 t l1 W) en := by
  have h0 := h
  obtain ⟨hx, hm, hr, he, k2, k42, k210⟩ := h0
  unfold fog_weigh_2
  refine j_runA hx 2 (tb := [(2, .iload_n 1), (3, .aload_n 0)]) (jtb_ok (by decide +kernel)) (pc' := 4) (lv' := [(0, vR t), (1, vI l1)]) (st' := [vR t, vI l1]) rfl ?_
  refine j_gd (fun h2 => ?_)
  refine j_getR hx flX13_91 kl800 h2 (by decide) (by decide +kernel) ?_
  refine j_gd (fun h3 => ?_)
  refine j_OI (j_callV (av := []) (st := [vI l1]) hx hr (Or.inl q1594) q1558 q1559 rfl md_fpg_functionCount np_fpg_functionCount (cpg_functionCount (jR W 800 t) W) (by decide) (Nat.le_of_ble_eq_true rfl) h3 (by decide) (by decide +kernel)) (fun q4 _ => ?_)
  refine j_icmp_ge hx (off := 30) (tgt := 40) (by decide +kernel) (by decide) (fun _ => ?_) (fun _ => ?_)
  · refine j_runA hx 2 (tb := [(40, .iconst 0), (41, .istore_n 1)]) (jtb_ok (by decide +kernel)) (pc' := 42) (lv' := [(1, vI (kI 0)), (0, vR t)]) (st' := []) rfl ?_
    refine j_lv (lv' := [(0, vR t), (1, vI (kI 0))]) ⟨rfl, rfl, trivial⟩ ?_
    exact k42 (kI 0) W
  refine j_runA hx 1 (tb := [(13, .aload_n 0)]) (jtb_ok (by decide +kernel)) (pc' := 14) (lv' := [(0, vR t), (1, vI l1)]) (st' := [vR t]) rfl ?_
  refine j_getR hx flX13_76 kl824 h2 (by decide) (by decide +kernel) ?_
  refine j_runA hx 2 (tb := [(17, .iload_n 1), (18, .lconst 0)]) (jtb_ok (by decide +kernel)) (pc' := 19) (lv' := [(0, vR t), (1, vI l1)]) (st' := [vL (kJ 0), vI l1, vR (jR W 824 t)]) rfl ?_
  refine j_gd (fun h5 => ?_)
  refine j_last hx (f := 824) (o := t) kd824 rfl (by decide +kernel) h5 ?_
  refine j_ltw rfl (fun W6 hc7 => ?_)
  have h8 : jC W6 t = 8 := (congrFun hc7 _).trans h2
  have h9 : jC W6 (jR W 800 t) = 2 := (congrFun hc7 _).trans h3
  refine j_runA hx 1 (tb := [(20, .aload_n 0)]) (jtb_ok (by decide +kernel)) (pc' := 21) (lv' := [(0, vR t), (1, vI l1)]) (st' := [vR t]) rfl ?_
  refine j_getR hx flX13_82 kl826 h8 (by decide) (by decide +kernel) ?_
  refine j_runA hx 2 (tb := [(24, .iload_n 1), (25, .lconst 0)]) (jtb_ok (by decide +kernel)) (pc' := 26) (lv' := [(0, vR t), (1, vI l1)]) (st' := [vL (kJ 0), vI l1, vR (jR W6 826 t)]) rfl ?_
  refine j_gd (fun h11 => ?_)
  refine j_last hx (f := 826) (o := t) kd826 rfl (by decide +kernel) h11 ?_
  refine j_ltw rfl (fun W12 hc13 => ?_)
  have h14 : jC W12 t = 8 := (congrFun hc13 _).trans h8
  have h15 : jC W12 (jR W 800 t) = 2 := (congrFun hc13 _).trans h9
  refine j_runA hx 1 (tb := [(27, .aload_n 0)]) (jtb_ok (by decide +kernel)) (pc' := 28) (lv' := [(0, vR t), (1, vI l1)]) (st' := [vR t]) rfl ?_
  refine j_getR hx flX13_85 kl827 h14 (by decide) (by decide +kernel) ?_
  refine j_runA hx 2 (tb := [(31, .iload_n 1), (32, .lconst 0)]) (jtb_ok (by decide +kernel)) (pc' := 33) (lv' := [(0, vR t), (1, vI l1)]) (st' := [vL (kJ 0), vI l1, vR (jR W12 827 t)]) rfl ?_
  refine j_gd (fun h17 => ?_)
  refine j_last hx (f := 827) (o := t) kd827 rfl (by decide +kernel) h17 ?_
  refine j_ltw rfl (fun W18 hc19 => ?_)
  have h20 : jC W18 t = 8 := (congrFun hc19 _).trans h14
  have h21 : jC W18 (jR W 800 t) = 2 := (congrFun hc19 _).trans h15
  refine j_runA hx 1 (tb := [(34, .iinc 1 1)]) (jtb_ok (by decide +kernel)) (pc' := 37) (lv' := [(1, vI (l1 + (kI 1))), (0, vR t)]) (st' := []) rfl ?_
  refine j_let (v := (l1 + (kI 1))) (lv := fun v23 => [(1, vI v23), (0, vR t)]) (st := fun _ => []) (fun v23 => ?_)
  refine j_goto hx (off := -35) (by decide +kernel) (tgt := 2) (by decide) ?_
  refine j_lv (lv' := [(0, vR t), (1, vI v23)]) ⟨rfl, rfl, trivial⟩ ?_
  exact k2 v23 W18
theorem wog_weigh {x : jCx} {en : (fog_weigh_S ⊕ (jW)) → Option (Outcome × jW)} {t : Nat} (h : hog_weigh x en t) (W : jW) : jJ x 5 0 [(0, vR t)] [] W (fog_weigh_0 t W) en := by
  have h0 := h
  obtain ⟨hx, hm, hr, he, k2, k42, k210⟩ := h0
  unfold fog_weigh_0
  refine j_runA hx 2 (tb := [(0, .iconst 0), (1, .istore_n 1)]) (jtb_ok (by decide +kernel)) (pc' := 2) (lv' := [(1, vI (kI 0)), (0, vR t)]) (st' := []) rfl ?_
  refine j_lv (lv' := [(0, vR t), (1, vI (kI 0))]) ⟨rfl, rfl, trivial⟩ ?_
  exact k2 (kI 0) W
theorem cog_weigh (t : Nat) (W : jW) : jM yX13_weigh cX13_weigh 5 (Option.none : Option Jvm.ClassFile.FieldType) [] 2 28 [vR t] W ((fog_weigh t W).bind (fun q => some (.returned none, q))) := by
  refine jM.of (Nat.le_of_ble_eq_true rfl) (fun x hx hm hr => ?_)
  refine j_begin (P := (Sum.elim (fun s => (2, [(0, vR t), (1, vI s.1)], s.2)) (Sum.elim (fun s => (42, [(0, vR t), (1, vI s.1)], s.2)) (fun s => (210, [(0, vR t), (1, vI s.1)], s.2))))) (fun en he hk => ?_)
  have h : hog_weigh x en t := ⟨hx, hm, hr, fun q => he _, fun l1 W => hk (.inl (l1, W)), fun l1 W => hk (.inr (.inl (l1, W))), fun l1 W => hk (.inr (.inr (l1, W)))⟩
  refine ⟨fun s => ?_, wog_weigh h W⟩
  rcases s with s | s | s
  · exact wog_weigh_2 h s.1 s.2
  · exact wog_weigh_42 h s.1 s.2
  · exact wog_weigh_210 h s.1 s.2
def hog_sortByHeat (x : jCx) (en : (fog_sortByHeat_S ⊕ (jW)) → Option (Outcome × jW)) (t : Nat) : Prop :=
  jOK x RX13 cX13_sortByHeat 4 ∧
  jMt x "sortByHeat" (Option.none : Option Jvm.ClassFile.FieldType) [] ∧
  jRm x 0 0 ∧
  (∀ q : jW, en (.inr q) = some (.returned none, q)) ∧
  (∀ (l1 : Int32) (W : jW), jJ x 4 2 [(0, vR t), (1, vI l1)] [] W (some (.inl (.inl (l1, W)))) en) ∧
  (∀ (l1 : Int32) (l2 : Int32) (l3 : Int32) (W : jW), jJ x 4 25 [(0, vR t), (1, vI l1), (2, vI l2), (3, vI l3)] [] W (some (.inl (.inr (l1, l2, l3, W)))) en)
theorem wog_sortByHeat_81 {x : jCx} {en : (fog_sortByHeat_S ⊕ (jW)) → Option (Outcome × jW)} {t : Nat} (h : hog_sortByHeat x en t) (l1 : Int32) (l2 : Int32) (l3 : Int32) (W : jW) : jJ x 4 81 [(0, vR t), (1, vI l1), (2, vI l2), (3, vI l3)] [] W (fog_sortByHeat_81 t l1 l2 l3 W) en := by
  have h0 := h
  obtain ⟨hx, hm, hr, he, k2, k25⟩ := h0
  unfold fog_sortByHeat_81
  refine j_runA hx 1 (tb := [(81, .aload_n 0)]) (jtb_ok (by decide +kernel)) (pc' := 82) (lv' := [(0, vR t), (1, vI l1), (2, vI l2), (3, vI l3)]) (st' := [vR t]) rfl ?_
  refine j_gd (fun h21 => ?_)
  refine j_getR hx flX13_43 kl813 h21 (by decide) (by decide +kernel) ?_
  refine j_gd (fun h22 => ?_)
  refine j_getR hx flX13_123 kl600 h22 (by decide) (by decide +kernel) ?_
  refine j_runA hx 2 (tb := [(88, .iload_n 3), (89, .iload_n 2)]) (jtb_ok (by decide +kernel)) (pc' := 90) (lv' := [(0, vR t), (1, vI l1), (2, vI l2), (3, vI l3)]) (st' := [vI l2, vI l3, vR (jR W 600 (jR W 813 t))]) rfl ?_
  refine j_gd (fun h23 => ?_)
  refine j_iast hx (f := 600) (o := (jR W 813 t)) kd600 rfl (by decide +kernel) h23 ?_
  refine j_ltw rfl (fun W24 hc25 => ?_)
  have h26 : jC W24 t = 8 := (congrFun hc25 _).trans h21
  have h27 : jC W24 (jR W 813 t) = 6 := (congrFun hc25 _).trans h22
  refine j_runA hx 1 (tb := [(91, .iinc 1 1)]) (jtb_ok (by decide +kernel)) (pc' := 94) (lv' := [(1, vI (l1 + (kI 1))), (0, vR t), (2, vI l2), (3, vI l3)]) (st' := []) rfl ?_
  refine j_let (v := (l1 + (kI 1))) (lv := fun v29 => [(1, vI v29), (0, vR t), (2, vI l2), (3, vI l3)]) (st := fun _ => []) (fun v29 => ?_)
  refine j_goto hx (off := -92) (by decide +kernel) (tgt := 2) (by decide) ?_
  refine j_lv (lv' := [(0, vR t), (1, vI v29)]) ⟨rfl, rfl, trivial⟩ ?_
  exact k2 v29 W24
theorem wog_sortByHeat_25 {x : jCx} {en : (fog_sortByHeat_S ⊕ (jW)) → Option (Outcome × jW)} {t : Nat} (h : hog_sortByHeat x en t) (l1 : Int32) (l2 : Int32) (l3 : Int32) (W : jW) : jJ x 4 25 [(0, vR t), (1, vI l1), (2, vI l2), (3, vI l3)] [] W (fog_sortByHeat_25 t l1 l2 l3 W) en := by
  have h0 := h
  obtain ⟨hx, hm, hr, he, k2, k25⟩ := h0
  unfold fog_sortByHeat_25
  refine j_runA hx 1 (tb := [(25, .iload_n 3)]) (jtb_ok (by decide +kernel)) (pc' := 26) (lv' := [(0, vR t), (1, vI l1), (2, vI l2), (3, vI l3)]) (st' := [vI l3]) rfl ?_
  refine j_if_le hx (off := 55) (tgt := 81) (by decide +kernel) (by decide) (fun _ => ?_) (fun _ => ?_)
  · exact wog_sortByHeat_81 h l1 l2 l3 W
  refine j_runA hx 1 (tb := [(29, .aload_n 0)]) (jtb_ok (by decide +kernel)) (pc' := 30) (lv' := [(0, vR t), (1, vI l1), (2, vI l2), (3, vI l3)]) (st' := [vR t]) rfl ?_
  refine j_gd (fun h7 => ?_)
  refine j_getR hx flX13_40 kl812 h7 (by decide) (by decide +kernel) ?_
  refine j_runA hx 1 (tb := [(33, .aload_n 0)]) (jtb_ok (by decide +kernel)) (pc' := 34) (lv' := [(0, vR t), (1, vI l1), (2, vI l2), (3, vI l3)]) (st' := [vR t, vR (jR W 812 t)]) rfl ?_
  refine j_getR hx flX13_43 kl813 h7 (by decide) (by decide +kernel) ?_
  refine j_gd (fun h8 => ?_)
  refine j_getR hx flX13_123 kl600 h8 (by decide) (by decide +kernel) ?_
  refine j_runA hx 3 (tb := [(40, .iload_n 3), (41, .iconst 1), (42, .isub)]) (jtb_ok (by decide +kernel)) (pc' := 43) (lv' := [(0, vR t), (1, vI l1), (2, vI l2), (3, vI l3)]) (st' := [vI (l3 - (kI 1)), vR (jR W 600 (jR W 813 t)), vR (jR W 812 t)]) rfl ?_
  refine j_gd (fun h9 => ?_)
  refine j_iald hx (f := 600) (o := (jR W 813 t)) kd600 rfl (by decide +kernel) h9 ?_
  refine j_gd (fun h10 => ?_)
  refine j_lald hx (f := 812) (o := t) kd812 rfl (by decide +kernel) h10 ?_
  refine j_runA hx 1 (tb := [(45, .aload_n 0)]) (jtb_ok (by decide +kernel)) (pc' := 46) (lv' := [(0, vR t), (1, vI l1), (2, vI l2), (3, vI l3)]) (st' := [vR t, vL (jB W 812 t (ix (jA W 600 (jR W 813 t) (ix (l3 - (kI 1))))))]) rfl ?_
  refine j_getR hx flX13_40 kl812 h7 (by decide) (by decide +kernel) ?_
  refine j_runA hx 1 (tb := [(49, .iload_n 2)]) (jtb_ok (by decide +kernel)) (pc' := 50) (lv' := [(0, vR t), (1, vI l1), (2, vI l2), (3, vI l3)]) (st' := [vI l2, vR (jR W 812 t), vL (jB W 812 t (ix (jA W 600 (jR W 813 t) (ix (l3 - (kI 1))))))]) rfl ?_
  refine j_gd (fun h11 => ?_)
  refine j_lald hx (f := 812) (o := t) kd812 rfl (by decide +kernel) h11 ?_
  refine j_lcmp_ge hx (off := 29) (tgt := 81) (by decide +kernel) (by decide +kernel) (by decide) (fun _ => ?_) (fun _ => ?_)
  · exact wog_sortByHeat_81 h l1 l2 l3 W
  refine j_runA hx 1 (tb := [(55, .aload_n 0)]) (jtb_ok (by decide +kernel)) (pc' := 56) (lv' := [(0, vR t), (1, vI l1), (2, vI l2), (3, vI l3)]) (st' := [vR t]) rfl ?_
  refine j_getR hx flX13_43 kl813 h7 (by decide) (by decide +kernel) ?_
  refine j_getR hx flX13_123 kl600 h8 (by decide) (by decide +kernel) ?_
  refine j_runA hx 2 (tb := [(62, .iload_n 3), (63, .aload_n 0)]) (jtb_ok (by decide +kernel)) (pc' := 64) (lv' := [(0, vR t), (1, vI l1), (2, vI l2), (3, vI l3)]) (st' := [vR t, vI l3, vR (jR W 600 (jR W 813 t))]) rfl ?_
  refine j_getR hx flX13_43 kl813 h7 (by decide) (by decide +kernel) ?_
  refine j_getR hx flX13_123 kl600 h8 (by decide) (by decide +kernel) ?_
  refine j_runA hx 3 (tb := [(70, .iload_n 3), (71, .iconst 1), (72, .isub)]) (jtb_ok (by decide +kernel)) (pc' := 73) (lv' := [(0, vR t), (1, vI l1), (2, vI l2), (3, vI l3)]) (st' := [vI (l3 - (kI 1)), vR (jR W 600 (jR W 813 t)), vI l3, vR (jR W 600 (jR W 813 t))]) rfl ?_
  refine j_gd (fun h12 => ?_)
  refine j_iald hx (f := 600) (o := (jR W 813 t)) kd600 rfl (by decide +kernel) h12 ?_
  refine j_gd (fun h13 => ?_)
  refine j_iast hx (f := 600) (o := (jR W 813 t)) kd600 rfl (by decide +kernel) h13 ?_
  refine j_ltw rfl (fun W14 hc15 => ?_)
  have h16 : jC W14 t = 8 := (congrFun hc15 _).trans h7
  have h17 : jC W14 (jR W 813 t) = 6 := (congrFun hc15 _).trans h8
  refine j_runA hx 1 (tb := [(75, .iinc 3 (-1))]) (jtb_ok (by decide +kernel)) (pc' := 78) (lv' := [(3, vI (l3 + (kI (-1)))), (0, vR t), (1, vI l1), (2, vI l2)]) (st' := []) rfl ?_
  refine j_let (v := (l3 + (kI (-1)))) (lv := fun v19 => [(3, vI v19), (0, vR t), (1, vI l1), (2, vI l2)]) (st := fun _ => []) (fun v19 => ?_)
  refine j_goto hx (off := -53) (by decide +kernel) (tgt := 25) (by decide) ?_
  refine j_lv (lv' := [(0, vR t), (1, vI l1), (2, vI l2), (3, vI v19)]) ⟨rfl, rfl, rfl, rfl, trivial⟩ ?_
  exact k25 l1 l2 v19 W14
theorem wog_sortByHeat_2 {x : jCx} {en : (fog_sortByHeat_S ⊕ (jW)) → Option (Outcome × jW)} {t : Nat} (h : hog_sortByHeat x en t) (l1 : Int32) (W : jW) : jJ x 4 2 [(0, vR t), (1, vI l1)] [] W (fog_sortByHeat_2 t l1 W) en := by
  have h0 := h
  obtain ⟨hx, hm, hr, he, k2, k25⟩ := h0
  unfold fog_sortByHeat_2
  refine j_runA hx 2 (tb := [(2, .iload_n 1), (3, .aload_n 0)]) (jtb_ok (by decide +kernel)) (pc' := 4) (lv' := [(0, vR t), (1, vI l1)]) (st' := [vR t, vI l1]) rfl ?_
  refine j_gd (fun h2 => ?_)
  refine j_getR hx flX13_43 kl813 h2 (by decide) (by decide +kernel) ?_
  refine j_gd (fun h3 => ?_)
  refine j_getI hx flX13_146 kd601 h3 (by decide) (by decide +kernel) ?_
  refine j_icmp_ge hx (off := 87) (tgt := 97) (by decide +kernel) (by decide) (fun _ => ?_) (fun _ => ?_)
  · exact j_vret hx hm (by decide +kernel) (he _)
  refine j_runA hx 1 (tb := [(13, .aload_n 0)]) (jtb_ok (by decide +kernel)) (pc' := 14) (lv' := [(0, vR t), (1, vI l1)]) (st' := [vR t]) rfl ?_
  refine j_getR hx flX13_43 kl813 h2 (by decide) (by decide +kernel) ?_
  refine j_getR hx flX13_123 kl600 h3 (by decide) (by decide +kernel) ?_
  refine j_runA hx 1 (tb := [(20, .iload_n 1)]) (jtb_ok (by decide +kernel)) (pc' := 21) (lv' := [(0, vR t), (1, vI l1)]) (st' := [vI l1, vR (jR W 600 (jR W 813 t))]) rfl ?_
  refine j_gd (fun h4 => ?_)
  refine j_iald hx (f := 600) (o := (jR W 813 t)) kd600 rfl (by decide +kernel) h4 ?_
  refine j_runA hx 1 (tb := [(22, .istore_n 2)]) (jtb_ok (by decide +kernel)) (pc' := 23) (lv' := [(2, vI (jA W 600 (jR W 813 t) (ix l1))), (0, vR t), (1, vI l1)]) (st' := []) rfl ?_
  refine j_let (v := (jA W 600 (jR W 813 t) (ix l1))) (lv := fun v5 => [(2, vI v5), (0, vR t), (1, vI l1)]) (st := fun _ => []) (fun v5 => ?_)
  refine j_runA hx 2 (tb := [(23, .iload_n 1), (24, .istore_n 3)]) (jtb_ok (by decide +kernel)) (pc' := 25) (lv' := [(3, vI l1), (2, vI v5), (0, vR t), (1, vI l1)]) (st' := []) rfl ?_
  refine j_lv (lv' := [(0, vR t), (1, vI l1), (2, vI v5), (3, vI l1)]) ⟨rfl, rfl, rfl, rfl, trivial⟩ ?_
  exact k25 l1 v5 l1 W
theorem wog_sortByHeat {x : jCx} {en : (fog_sortByHeat_S ⊕ (jW)) → Option (Outcome × jW)} {t : Nat} (h : hog_sortByHeat x en t) (W : jW) : jJ x 4 0 [(0, vR t)] [] W (fog_sortByHeat_0 t W) en := by
  have h0 := h
  obtain ⟨hx, hm, hr, he, k2, k25⟩ := h0
  unfold fog_sortByHeat_0
  refine j_runA hx 2 (tb := [(0, .iconst 1), (1, .istore_n 1)]) (jtb_ok (by decide +kernel)) (pc' := 2) (lv' := [(1, vI (kI 1)), (0, vR t)]) (st' := []) rfl ?_
  refine j_lv (lv' := [(0, vR t), (1, vI (kI 1))]) ⟨rfl, rfl, trivial⟩ ?_
  exact k2 (kI 1) W
theorem cog_sortByHeat (t : Nat) (W : jW) : jM yX13_sortByHeat cX13_sortByHeat 4 (Option.none : Option Jvm.ClassFile.FieldType) [] 0 0 [vR t] W ((fog_sortByHeat t W).bind (fun q => some (.returned none, q))) := by
  refine jM.of (Nat.le_of_ble_eq_true rfl) (fun x hx hm hr => ?_)
  refine j_begin (P := (Sum.elim (fun s => (2, [(0, vR t), (1, vI s.1)], s.2)) (fun s => (25, [(0, vR t), (1, vI s.1), (2, vI s.2.1), (3, vI s.2.2.1)], s.2.2.2)))) (fun en he hk => ?_)
  have h : hog_sortByHeat x en t := ⟨hx, hm, hr, fun q => he _, fun l1 W => hk (.inl (l1, W)), fun l1 l2 l3 W => hk (.inr (l1, l2, l3, W))⟩
  refine ⟨fun s => ?_, wog_sortByHeat h W⟩
  rcases s with s | s
  · exact wog_sortByHeat_2 h s.1 s.2
  · exact wog_sortByHeat_25 h s.1 s.2.1 s.2.2.1 s.2.2.2
def hog_callerOf (x : jCx) (en : (fog_callerOf_S ⊕ (Int32)) → Option (Outcome × jW)) (t : Nat) (a1 : Int32) (W : jW) : Prop :=
  jOK x RX13 cX13_callerOf 7 ∧
  jMt x "callerOf" (Option.some Jvm.ClassFile.FieldType.int) [] ∧
  jRm x 1 13 ∧
  (∀ q : Int32, en (.inr q) = some (.returned (some (.int q)), W)) ∧
  (∀ (l2 : Int32) (l3 : Int64) (l5 : Int32), jJ x 7 7 [(0, vR t), (1, vI a1), (2, vI l2), (3, vL l3), (5, vI l5)] [] W (some (.inl (l2, l3, l5))) en)
theorem wog_callerOf_110 {x : jCx} {en : (fog_callerOf_S ⊕ (Int32)) → Option (Outcome × jW)} {W : jW} {t : Nat} {a1 : Int32} (h : hog_callerOf x en t a1 W) (l2 : Int32) (l3 : Int64) (l5 : Int32) : jJ x 7 110 [(0, vR t), (1, vI a1), (2, vI l2), (3, vL l3), (5, vI l5)] [] W (fog_callerOf_110 t a1 l2 l3 l5 W) en := by
  have h0 := h
  obtain ⟨hx, hm, hr, he, k7⟩ := h0
  unfold fog_callerOf_110
  refine j_runA hx 1 (tb := [(110, .iinc 5 1)]) (jtb_ok (by decide +kernel)) (pc' := 113) (lv' := [(5, vI (l5 + (kI 1))), (0, vR t), (1, vI a1), (2, vI l2), (3, vL l3)]) (st' := []) rfl ?_
  refine j_let (v := (l5 + (kI 1))) (lv := fun v18 => [(5, vI v18), (0, vR t), (1, vI a1), (2, vI l2), (3, vL l3)]) (st := fun _ => []) (fun v18 => ?_)
  refine j_goto hx (off := -106) (by decide +kernel) (tgt := 7) (by decide) ?_
  refine j_lv (lv' := [(0, vR t), (1, vI a1), (2, vI l2), (3, vL l3), (5, vI v18)]) ⟨rfl, rfl, rfl, rfl, rfl, trivial⟩ ?_
  exact k7 l2 l3 v18
theorem wog_callerOf_96 {x : jCx} {en : (fog_callerOf_S ⊕ (Int32)) → Option (Outcome × jW)} {W : jW} {t : Nat} {a1 : Int32} (h : hog_callerOf x en t a1 W) (l5 : Int32) (l6 : Int32) : jJ x 7 96 [(0, vR t), (1, vI a1), (5, vI l5), (6, vI l6)] [] W (fog_callerOf_96 t a1 l5 l6 W) en := by
  have h0 := h
  obtain ⟨hx, hm, hr, he, k7⟩ := h0
  unfold fog_callerOf_96
  refine j_runA hx 3 (tb := [(96, .iload 6), (98, .istore_n 2), (99, .aload_n 0)]) (jtb_ok (by decide +kernel)) (pc' := 100) (lv' := [(2, vI l6), (0, vR t), (1, vI a1), (5, vI l5), (6, vI l6)]) (st' := [vR t]) rfl ?_
  refine j_gd (fun h13 => ?_)
  refine j_getR hx flX13_109 kl802 h13 (by decide) (by decide +kernel) ?_
  refine j_gd (fun h14 => ?_)
  refine j_getR hx flX13_126 kl702 h14 (by decide) (by decide +kernel) ?_
  refine j_runA hx 1 (tb := [(106, .iload 5)]) (jtb_ok (by decide +kernel)) (pc' := 108) (lv' := [(2, vI l6), (0, vR t), (1, vI a1), (5, vI l5), (6, vI l6)]) (st' := [vI l5, vR (jR W 702 (jR W 802 t))]) rfl ?_
  refine j_gd (fun h15 => ?_)
  refine j_lald hx (f := 702) (o := (jR W 802 t)) kd702 rfl (by decide +kernel) h15 ?_
  refine j_runA hx 1 (tb := [(109, .lstore_n 3)]) (jtb_ok (by decide +kernel)) (pc' := 110) (lv' := [(3, vL (jB W 702 (jR W 802 t) (ix l5))), (2, vI l6), (0, vR t), (1, vI a1), (5, vI l5), (6, vI l6)]) (st' := []) rfl ?_
  refine j_let (v := (jB W 702 (jR W 802 t) (ix l5))) (lv := fun v16 => [(3, vL v16), (2, vI l6), (0, vR t), (1, vI a1), (5, vI l5), (6, vI l6)]) (st := fun _ => []) (fun v16 => ?_)
  refine j_lv (lv' := [(0, vR t), (1, vI a1), (2, vI l6), (3, vL v16), (5, vI l5)]) ⟨rfl, rfl, rfl, rfl, rfl, trivial⟩ ?_
  exact wog_callerOf_110 h l6 v16 l5
theorem wog_callerOf_7 {x : jCx} {en : (fog_callerOf_S ⊕ (Int32)) → Option (Outcome × jW)} {W : jW} {t : Nat} {a1 : Int32} (h : hog_callerOf x en t a1 W) (l2 : Int32) (l3 : Int64) (l5 : Int32) : jJ x 7 7 [(0, vR t), (1, vI a1), (2, vI l2), (3, vL l3), (5, vI l5)] [] W (fog_callerOf_7 t a1 l2 l3 l5 W) en := by
  have h0 := h
  obtain ⟨hx, hm, hr, he, k7⟩ := h0
  unfold fog_callerOf_7
  refine j_runA hx 2 (tb := [(7, .iload 5), (9, .aload_n 0)]) (jtb_ok (by decide +kernel)) (pc' := 10) (lv' := [(0, vR t), (1, vI a1), (2, vI l2), (3, vL l3), (5, vI l5)]) (st' := [vR t, vI l5]) rfl ?_
  refine j_gd (fun h2 => ?_)
  refine j_getR hx flX13_109 kl802 h2 (by decide) (by decide +kernel) ?_
  refine j_gd (fun h3 => ?_)
  refine j_OI (j_callV (av := []) (st := [vI l5]) hx hr (Or.inl q1595) q1596 q1597 rfl md_fco_size np_fco_size (cco_size (jR W 802 t) W) (by decide) (Nat.le_of_ble_eq_true rfl) h3 (by decide) (by decide +kernel)) (fun q4 _ => ?_)
  refine j_icmp_ge hx (off := 100) (tgt := 116) (by decide +kernel) (by decide) (fun _ => ?_) (fun _ => ?_)
  · refine j_runA hx 1 (tb := [(116, .iload_n 2)]) (jtb_ok (by decide +kernel)) (pc' := 117) (lv' := [(0, vR t), (1, vI a1), (2, vI l2), (3, vL l3), (5, vI l5)]) (st' := [vI l2]) rfl ?_
    exact j_iret hx hm (by decide +kernel) rfl (he _)
  refine j_runA hx 1 (tb := [(19, .aload_n 0)]) (jtb_ok (by decide +kernel)) (pc' := 20) (lv' := [(0, vR t), (1, vI a1), (2, vI l2), (3, vL l3), (5, vI l5)]) (st' := [vR t]) rfl ?_
  refine j_getR hx flX13_109 kl802 h2 (by decide) (by decide +kernel) ?_
  refine j_getR hx flX13_133 kl700 h3 (by decide) (by decide +kernel) ?_
  refine j_gd (fun h5 => ?_)
  refine j_getR hx flX13_123 kl600 h5 (by decide) (by decide +kernel) ?_
  refine j_runA hx 1 (tb := [(29, .iload 5)]) (jtb_ok (by decide +kernel)) (pc' := 31) (lv' := [(0, vR t), (1, vI a1), (2, vI l2), (3, vL l3), (5, vI l5)]) (st' := [vI l5, vR (jR W 600 (jR W 700 (jR W 802 t)))]) rfl ?_
  refine j_gd (fun h6 => ?_)
  refine j_iald hx (f := 600) (o := (jR W 700 (jR W 802 t))) kd600 rfl (by decide +kernel) h6 ?_
  refine j_runA hx 1 (tb := [(32, .istore 6)]) (jtb_ok (by decide +kernel)) (pc' := 34) (lv' := [(6, vI (jA W 600 (jR W 700 (jR W 802 t)) (ix l5))), (0, vR t), (1, vI a1), (2, vI l2), (3, vL l3), (5, vI l5)]) (st' := []) rfl ?_
  refine j_let (v := (jA W 600 (jR W 700 (jR W 802 t)) (ix l5))) (lv := fun v7 => [(6, vI v7), (0, vR t), (1, vI a1), (2, vI l2), (3, vL l3), (5, vI l5)]) (st := fun _ => []) (fun v7 => ?_)
  refine j_runA hx 1 (tb := [(34, .aload_n 0)]) (jtb_ok (by decide +kernel)) (pc' := 35) (lv' := [(6, vI v7), (0, vR t), (1, vI a1), (2, vI l2), (3, vL l3), (5, vI l5)]) (st' := [vR t]) rfl ?_
  refine j_getR hx flX13_109 kl802 h2 (by decide) (by decide +kernel) ?_
  refine j_getR hx flX13_120 kl701 h3 (by decide) (by decide +kernel) ?_
  refine j_gd (fun h8 => ?_)
  refine j_getR hx flX13_123 kl600 h8 (by decide) (by decide +kernel) ?_
  refine j_runA hx 1 (tb := [(44, .iload 5)]) (jtb_ok (by decide +kernel)) (pc' := 46) (lv' := [(6, vI v7), (0, vR t), (1, vI a1), (2, vI l2), (3, vL l3), (5, vI l5)]) (st' := [vI l5, vR (jR W 600 (jR W 701 (jR W 802 t)))]) rfl ?_
  refine j_gd (fun h9 => ?_)
  refine j_iald hx (f := 600) (o := (jR W 701 (jR W 802 t))) kd600 rfl (by decide +kernel) h9 ?_
  refine j_runA hx 1 (tb := [(47, .iload_n 1)]) (jtb_ok (by decide +kernel)) (pc' := 48) (lv' := [(6, vI v7), (0, vR t), (1, vI a1), (2, vI l2), (3, vL l3), (5, vI l5)]) (st' := [vI a1, vI (jA W 600 (jR W 701 (jR W 802 t)) (ix l5))]) rfl ?_
  refine j_icmp_ne hx (off := 62) (tgt := 110) (by decide +kernel) (by decide) (fun _ => ?_) (fun _ => ?_)
  · refine j_lv (lv' := [(0, vR t), (1, vI a1), (2, vI l2), (3, vL l3), (5, vI l5)]) ⟨rfl, rfl, rfl, rfl, rfl, trivial⟩ ?_
    exact wog_callerOf_110 h l2 l3 l5
  refine j_runA hx 2 (tb := [(51, .iload 6), (53, .iload_n 1)]) (jtb_ok (by decide +kernel)) (pc' := 54) (lv' := [(6, vI v7), (0, vR t), (1, vI a1), (2, vI l2), (3, vL l3), (5, vI l5)]) (st' := [vI a1, vI v7]) rfl ?_
  refine j_icmp_ne hx (off := 6) (tgt := 60) (by decide +kernel) (by decide) (fun _ => ?_) (fun _ => ?_)
  · refine j_runA hx 1 (tb := [(60, .aload_n 0)]) (jtb_ok (by decide +kernel)) (pc' := 61) (lv' := [(6, vI v7), (0, vR t), (1, vI a1), (2, vI l2), (3, vL l3), (5, vI l5)]) (st' := [vR t]) rfl ?_
    refine j_getR hx flX13_109 kl802 h2 (by decide) (by decide +kernel) ?_
    refine j_getR hx flX13_126 kl702 h3 (by decide) (by decide +kernel) ?_
    refine j_runA hx 1 (tb := [(67, .iload 5)]) (jtb_ok (by decide +kernel)) (pc' := 69) (lv' := [(6, vI v7), (0, vR t), (1, vI a1), (2, vI l2), (3, vL l3), (5, vI l5)]) (st' := [vI l5, vR (jR W 702 (jR W 802 t))]) rfl ?_
    refine j_gd (fun h10 => ?_)
    refine j_lald hx (f := 702) (o := (jR W 802 t)) kd702 rfl (by decide +kernel) h10 ?_
    refine j_runA hx 1 (tb := [(70, .lload_n 3)]) (jtb_ok (by decide +kernel)) (pc' := 71) (lv' := [(6, vI v7), (0, vR t), (1, vI a1), (2, vI l2), (3, vL l3), (5, vI l5)]) (st' := [vL l3, vL (jB W 702 (jR W 802 t) (ix l5))]) rfl ?_
    refine j_lcmp_gt hx (off := 24) (tgt := 96) (by decide +kernel) (by decide +kernel) (by decide) (fun _ => ?_) (fun _ => ?_)
    · refine j_lv (lv' := [(0, vR t), (1, vI a1), (5, vI l5), (6, vI v7)]) ⟨rfl, rfl, rfl, rfl, trivial⟩ ?_
      exact wog_callerOf_96 h l5 v7
    refine j_runA hx 1 (tb := [(75, .aload_n 0)]) (jtb_ok (by decide +kernel)) (pc' := 76) (lv' := [(6, vI v7), (0, vR t), (1, vI a1), (2, vI l2), (3, vL l3), (5, vI l5)]) (st' := [vR t]) rfl ?_
    refine j_getR hx flX13_109 kl802 h2 (by decide) (by decide +kernel) ?_
    refine j_getR hx flX13_126 kl702 h3 (by decide) (by decide +kernel) ?_
    refine j_runA hx 1 (tb := [(82, .iload 5)]) (jtb_ok (by decide +kernel)) (pc' := 84) (lv' := [(6, vI v7), (0, vR t), (1, vI a1), (2, vI l2), (3, vL l3), (5, vI l5)]) (st' := [vI l5, vR (jR W 702 (jR W 802 t))]) rfl ?_
    refine j_gd (fun h11 => ?_)
    refine j_lald hx (f := 702) (o := (jR W 802 t)) kd702 rfl (by decide +kernel) h11 ?_
    refine j_runA hx 1 (tb := [(85, .lload_n 3)]) (jtb_ok (by decide +kernel)) (pc' := 86) (lv' := [(6, vI v7), (0, vR t), (1, vI a1), (2, vI l2), (3, vL l3), (5, vI l5)]) (st' := [vL l3, vL (jB W 702 (jR W 802 t) (ix l5))]) rfl ?_
    refine j_lcmp_ne hx (off := 23) (tgt := 110) (by decide +kernel) (by decide +kernel) (by decide) (fun _ => ?_) (fun _ => ?_)
    · refine j_lv (lv' := [(0, vR t), (1, vI a1), (2, vI l2), (3, vL l3), (5, vI l5)]) ⟨rfl, rfl, rfl, rfl, rfl, trivial⟩ ?_
      exact wog_callerOf_110 h l2 l3 l5
    refine j_runA hx 2 (tb := [(90, .iload 6), (92, .iload_n 2)]) (jtb_ok (by decide +kernel)) (pc' := 93) (lv' := [(6, vI v7), (0, vR t), (1, vI a1), (2, vI l2), (3, vL l3), (5, vI l5)]) (st' := [vI l2, vI v7]) rfl ?_
    refine j_icmp_ge hx (off := 17) (tgt := 110) (by decide +kernel) (by decide) (fun _ => ?_) (fun _ => ?_)
    · refine j_lv (lv' := [(0, vR t), (1, vI a1), (2, vI l2), (3, vL l3), (5, vI l5)]) ⟨rfl, rfl, rfl, rfl, rfl, trivial⟩ ?_
      exact wog_callerOf_110 h l2 l3 l5
    refine j_lv (lv' := [(0, vR t), (1, vI a1), (5, vI l5), (6, vI v7)]) ⟨rfl, rfl, rfl, rfl, trivial⟩ ?_
    exact wog_callerOf_96 h l5 v7
  refine j_goto hx (off := 53) (by decide +kernel) (tgt := 110) (by decide) ?_
  refine j_lv (lv' := [(0, vR t), (1, vI a1), (2, vI l2), (3, vL l3), (5, vI l5)]) ⟨rfl, rfl, rfl, rfl, rfl, trivial⟩ ?_
  exact wog_callerOf_110 h l2 l3 l5
theorem wog_callerOf {x : jCx} {en : (fog_callerOf_S ⊕ (Int32)) → Option (Outcome × jW)} {W : jW} {t : Nat} {a1 : Int32} (h : hog_callerOf x en t a1 W) : jJ x 7 0 [(0, vR t), (1, vI a1)] [] W (fog_callerOf_0 t a1 W) en := by
  have h0 := h
  obtain ⟨hx, hm, hr, he, k7⟩ := h0
  unfold fog_callerOf_0
  refine j_runA hx 6 (tb := [(0, .iconst (-1)), (1, .istore_n 2), (2, .lconst 0), (3, .lstore_n 3), (4, .iconst 0), (5, .istore 5)]) (jtb_ok (by decide +kernel)) (pc' := 7) (lv' := [(5, vI (kI 0)), (3, vL (kJ 0)), (2, vI (kI (-1))), (0, vR t), (1, vI a1)]) (st' := []) rfl ?_
  refine j_lv (lv' := [(0, vR t), (1, vI a1), (2, vI (kI (-1))), (3, vL (kJ 0)), (5, vI (kI 0))]) ⟨rfl, rfl, rfl, rfl, rfl, trivial⟩ ?_
  exact k7 (kI (-1)) (kJ 0) (kI 0)
theorem cog_callerOf (t : Nat) (a1 : Int32) (W : jW) : jM yX13_callerOf cX13_callerOf 7 (Option.some Jvm.ClassFile.FieldType.int) [] 1 13 [vR t, vI a1] W ((fog_callerOf t a1 W).bind (fun q => some (.returned (some (.int q)), W))) := by
  refine jM.of (Nat.le_of_ble_eq_true rfl) (fun x hx hm hr => ?_)
  refine j_begin (P := (fun s => (7, [(0, vR t), (1, vI a1), (2, vI s.1), (3, vL s.2.1), (5, vI s.2.2)], W))) (fun en he hk => ?_)
  have h : hog_callerOf x en t a1 W := ⟨hx, hm, hr, fun q => he _, fun l2 l3 l5 => hk (l2, l3, l5)⟩
  exact ⟨fun s => wog_callerOf_7 h s.1 s.2.1 s.2.2, wog_callerOf h⟩
def hog_join (x : jCx) (en : (fog_join_S ⊕ (jW)) → Option (Outcome × jW)) (t : Nat) (a1 : Int32) (a2 : Int32) : Prop :=
  jOK x RX13 cX13_join 7 ∧
  jMt x "join" (Option.none : Option Jvm.ClassFile.FieldType) [] ∧
  jRm x 2 31 ∧
  (∀ q : jW, en (.inr q) = some (.returned none, q)) ∧
  (∀ (l4 : Int32) (l5 : Int32) (l6 : Int32) (W : jW), jJ x 7 60 [(0, vR t), (1, vI a1), (2, vI a2), (4, vI l4), (5, vI l5), (6, vI l6)] [] W (some (.inl (l4, l5, l6, W))) en)
theorem wog_join_60 {x : jCx} {en : (fog_join_S ⊕ (jW)) → Option (Outcome × jW)} {t : Nat} {a1 : Int32} {a2 : Int32} (h : hog_join x en t a1 a2) (l4 : Int32) (l5 : Int32) (l6 : Int32) (W : jW) : jJ x 7 60 [(0, vR t), (1, vI a1), (2, vI a2), (4, vI l4), (5, vI l5), (6, vI l6)] [] W (fog_join_60 t a1 a2 l4 l5 l6 W) en := by
  have h0 := h
  obtain ⟨hx, hm, hr, he, k60⟩ := h0
  unfold fog_join_60
  refine j_runA hx 1 (tb := [(60, .iload 6)]) (jtb_ok (by decide +kernel)) (pc' := 62) (lv' := [(0, vR t), (1, vI a1), (2, vI a2), (4, vI l4), (5, vI l5), (6, vI l6)]) (st' := [vI l6]) rfl ?_
  refine j_if_lt hx (off := 24) (tgt := 86) (by decide +kernel) (by decide) (fun _ => ?_) (fun _ => ?_)
  · refine j_runA hx 1 (tb := [(86, .aload_n 0)]) (jtb_ok (by decide +kernel)) (pc' := 87) (lv' := [(0, vR t), (1, vI a1), (2, vI a2), (4, vI l4), (5, vI l5), (6, vI l6)]) (st' := [vR t]) rfl ?_
    refine j_gd (fun h10 => ?_)
    refine j_getR hx flX13_49 kl815 h10 (by decide) (by decide +kernel) ?_
    refine j_runA hx 1 (tb := [(90, .aload_n 0)]) (jtb_ok (by decide +kernel)) (pc' := 91) (lv' := [(0, vR t), (1, vI a1), (2, vI a2), (4, vI l4), (5, vI l5), (6, vI l6)]) (st' := [vR t, vR (jR W 815 t)]) rfl ?_
    refine j_getR hx flX13_52 kl816 h10 (by decide) (by decide +kernel) ?_
    refine j_runA hx 1 (tb := [(94, .iload 4)]) (jtb_ok (by decide +kernel)) (pc' := 96) (lv' := [(0, vR t), (1, vI a1), (2, vI a2), (4, vI l4), (5, vI l5), (6, vI l6)]) (st' := [vI l4, vR (jR W 816 t), vR (jR W 815 t)]) rfl ?_
    refine j_gd (fun h11 => ?_)
    refine j_iald hx (f := 816) (o := t) kd816 rfl (by decide +kernel) h11 ?_
    refine j_runA hx 1 (tb := [(97, .iload 5)]) (jtb_ok (by decide +kernel)) (pc' := 99) (lv' := [(0, vR t), (1, vI a1), (2, vI a2), (4, vI l4), (5, vI l5), (6, vI l6)]) (st' := [vI l5, vI (jA W 816 t (ix l4)), vR (jR W 815 t)]) rfl ?_
    refine j_gd (fun h12 => ?_)
    refine j_iast hx (f := 815) (o := t) kd815 rfl (by decide +kernel) h12 ?_
    refine j_ltw rfl (fun W13 hc14 => ?_)
    have h15 : jC W13 t = 8 := (congrFun hc14 _).trans h10
    refine j_runA hx 1 (tb := [(100, .aload_n 0)]) (jtb_ok (by decide +kernel)) (pc' := 101) (lv' := [(0, vR t), (1, vI a1), (2, vI a2), (4, vI l4), (5, vI l5), (6, vI l6)]) (st' := [vR t]) rfl ?_
    refine j_getR hx flX13_52 kl816 h15 (by decide) (by decide +kernel) ?_
    refine j_runA hx 2 (tb := [(104, .iload 4), (106, .aload_n 0)]) (jtb_ok (by decide +kernel)) (pc' := 107) (lv' := [(0, vR t), (1, vI a1), (2, vI a2), (4, vI l4), (5, vI l5), (6, vI l6)]) (st' := [vR t, vI l4, vR (jR W13 816 t)]) rfl ?_
    refine j_getR hx flX13_52 kl816 h15 (by decide) (by decide +kernel) ?_
    refine j_runA hx 1 (tb := [(110, .iload 5)]) (jtb_ok (by decide +kernel)) (pc' := 112) (lv' := [(0, vR t), (1, vI a1), (2, vI a2), (4, vI l4), (5, vI l5), (6, vI l6)]) (st' := [vI l5, vR (jR W13 816 t), vI l4, vR (jR W13 816 t)]) rfl ?_
    refine j_gd (fun h17 => ?_)
    refine j_iald hx (f := 816) (o := t) kd816 rfl (by decide +kernel) h17 ?_
    refine j_gd (fun h18 => ?_)
    refine j_iast hx (f := 816) (o := t) kd816 rfl (by decide +kernel) h18 ?_
    refine j_ltw rfl (fun W19 hc20 => ?_)
    have h21 : jC W19 t = 8 := (congrFun hc20 _).trans h15
    refine j_runA hx 1 (tb := [(114, .aload_n 0)]) (jtb_ok (by decide +kernel)) (pc' := 115) (lv' := [(0, vR t), (1, vI a1), (2, vI a2), (4, vI l4), (5, vI l5), (6, vI l6)]) (st' := [vR t]) rfl ?_
    refine j_getR hx flX13_55 kl817 h21 (by decide) (by decide +kernel) ?_
    refine j_runA hx 2 (tb := [(118, .iload 4), (120, .dup2)]) (jtb_ok (by decide +kernel)) (pc' := 121) (lv' := [(0, vR t), (1, vI a1), (2, vI a2), (4, vI l4), (5, vI l5), (6, vI l6)]) (st' := [vI l4, vR (jR W19 817 t), vI l4, vR (jR W19 817 t)]) rfl ?_
    refine j_gd (fun h23 => ?_)
    refine j_lald hx (f := 817) (o := t) kd817 rfl (by decide +kernel) h23 ?_
    refine j_runA hx 1 (tb := [(122, .aload_n 0)]) (jtb_ok (by decide +kernel)) (pc' := 123) (lv' := [(0, vR t), (1, vI a1), (2, vI a2), (4, vI l4), (5, vI l5), (6, vI l6)]) (st' := [vR t, vL (jB W19 817 t (ix l4)), vI l4, vR (jR W19 817 t)]) rfl ?_
    refine j_getR hx flX13_55 kl817 h21 (by decide) (by decide +kernel) ?_
    refine j_runA hx 1 (tb := [(126, .iload 5)]) (jtb_ok (by decide +kernel)) (pc' := 128) (lv' := [(0, vR t), (1, vI a1), (2, vI a2), (4, vI l4), (5, vI l5), (6, vI l6)]) (st' := [vI l5, vR (jR W19 817 t), vL (jB W19 817 t (ix l4)), vI l4, vR (jR W19 817 t)]) rfl ?_
    refine j_gd (fun h24 => ?_)
    refine j_lald hx (f := 817) (o := t) kd817 rfl (by decide +kernel) h24 ?_
    refine j_runA hx 1 (tb := [(129, .ladd)]) (jtb_ok (by decide +kernel)) (pc' := 130) (lv' := [(0, vR t), (1, vI a1), (2, vI a2), (4, vI l4), (5, vI l5), (6, vI l6)]) (st' := [vL ((jB W19 817 t (ix l4)) + (jB W19 817 t (ix l5))), vI l4, vR (jR W19 817 t)]) rfl ?_
    refine j_gd (fun h25 => ?_)
    refine j_last hx (f := 817) (o := t) kd817 rfl (by decide +kernel) h25 ?_
    refine j_ltw rfl (fun W26 hc27 => ?_)
    have h28 : jC W26 t = 8 := (congrFun hc27 _).trans h21
    refine j_runA hx 1 (tb := [(131, .aload_n 0)]) (jtb_ok (by decide +kernel)) (pc' := 132) (lv' := [(0, vR t), (1, vI a1), (2, vI a2), (4, vI l4), (5, vI l5), (6, vI l6)]) (st' := [vR t]) rfl ?_
    refine j_getR hx flX13_58 kl818 h28 (by decide) (by decide +kernel) ?_
    refine j_runA hx 2 (tb := [(135, .iload 4), (137, .dup2)]) (jtb_ok (by decide +kernel)) (pc' := 138) (lv' := [(0, vR t), (1, vI a1), (2, vI a2), (4, vI l4), (5, vI l5), (6, vI l6)]) (st' := [vI l4, vR (jR W26 818 t), vI l4, vR (jR W26 818 t)]) rfl ?_
    refine j_gd (fun h30 => ?_)
    refine j_lald hx (f := 818) (o := t) kd818 rfl (by decide +kernel) h30 ?_
    refine j_runA hx 1 (tb := [(139, .aload_n 0)]) (jtb_ok (by decide +kernel)) (pc' := 140) (lv' := [(0, vR t), (1, vI a1), (2, vI a2), (4, vI l4), (5, vI l5), (6, vI l6)]) (st' := [vR t, vL (jB W26 818 t (ix l4)), vI l4, vR (jR W26 818 t)]) rfl ?_
    refine j_getR hx flX13_58 kl818 h28 (by decide) (by decide +kernel) ?_
    refine j_runA hx 1 (tb := [(143, .iload 5)]) (jtb_ok (by decide +kernel)) (pc' := 145) (lv' := [(0, vR t), (1, vI a1), (2, vI a2), (4, vI l4), (5, vI l5), (6, vI l6)]) (st' := [vI l5, vR (jR W26 818 t), vL (jB W26 818 t (ix l4)), vI l4, vR (jR W26 818 t)]) rfl ?_
    refine j_gd (fun h31 => ?_)
    refine j_lald hx (f := 818) (o := t) kd818 rfl (by decide +kernel) h31 ?_
    refine j_runA hx 1 (tb := [(146, .ladd)]) (jtb_ok (by decide +kernel)) (pc' := 147) (lv' := [(0, vR t), (1, vI a1), (2, vI a2), (4, vI l4), (5, vI l5), (6, vI l6)]) (st' := [vL ((jB W26 818 t (ix l4)) + (jB W26 818 t (ix l5))), vI l4, vR (jR W26 818 t)]) rfl ?_
    refine j_gd (fun h32 => ?_)
    refine j_last hx (f := 818) (o := t) kd818 rfl (by decide +kernel) h32 ?_
    refine j_ltw rfl (fun W33 hc34 => ?_)
    have h35 : jC W33 t = 8 := (congrFun hc34 _).trans h28
    exact j_vret hx hm (by decide +kernel) (he _)
  refine j_runA hx 1 (tb := [(65, .aload_n 0)]) (jtb_ok (by decide +kernel)) (pc' := 66) (lv' := [(0, vR t), (1, vI a1), (2, vI a2), (4, vI l4), (5, vI l5), (6, vI l6)]) (st' := [vR t]) rfl ?_
  refine j_gd (fun h37 => ?_)
  refine j_getR hx flX13_46 kl814 h37 (by decide) (by decide +kernel) ?_
  refine j_runA hx 2 (tb := [(69, .iload 6), (71, .iload 4)]) (jtb_ok (by decide +kernel)) (pc' := 73) (lv' := [(0, vR t), (1, vI a1), (2, vI a2), (4, vI l4), (5, vI l5), (6, vI l6)]) (st' := [vI l4, vI l6, vR (jR W 814 t)]) rfl ?_
  refine j_gd (fun h38 => ?_)
  refine j_iast hx (f := 814) (o := t) kd814 rfl (by decide +kernel) h38 ?_
  refine j_ltw rfl (fun W39 hc40 => ?_)
  have h41 : jC W39 t = 8 := (congrFun hc40 _).trans h37
  refine j_runA hx 1 (tb := [(74, .aload_n 0)]) (jtb_ok (by decide +kernel)) (pc' := 75) (lv' := [(0, vR t), (1, vI a1), (2, vI a2), (4, vI l4), (5, vI l5), (6, vI l6)]) (st' := [vR t]) rfl ?_
  refine j_getR hx flX13_49 kl815 h41 (by decide) (by decide +kernel) ?_
  refine j_runA hx 1 (tb := [(78, .iload 6)]) (jtb_ok (by decide +kernel)) (pc' := 80) (lv' := [(0, vR t), (1, vI a1), (2, vI a2), (4, vI l4), (5, vI l5), (6, vI l6)]) (st' := [vI l6, vR (jR W39 815 t)]) rfl ?_
  refine j_gd (fun h43 => ?_)
  refine j_iald hx (f := 815) (o := t) kd815 rfl (by decide +kernel) h43 ?_
  refine j_runA hx 1 (tb := [(81, .istore 6)]) (jtb_ok (by decide +kernel)) (pc' := 83) (lv' := [(6, vI (jA W39 815 t (ix l6))), (0, vR t), (1, vI a1), (2, vI a2), (4, vI l4), (5, vI l5)]) (st' := []) rfl ?_
  refine j_let (v := (jA W39 815 t (ix l6))) (lv := fun v44 => [(6, vI v44), (0, vR t), (1, vI a1), (2, vI a2), (4, vI l4), (5, vI l5)]) (st := fun _ => []) (fun v44 => ?_)
  refine j_goto hx (off := -23) (by decide +kernel) (tgt := 60) (by decide) ?_
  refine j_lv (lv' := [(0, vR t), (1, vI a1), (2, vI a2), (4, vI l4), (5, vI l5), (6, vI v44)]) ⟨rfl, rfl, rfl, rfl, rfl, rfl, trivial⟩ ?_
  exact k60 l4 l5 v44 W39
theorem wog_join {x : jCx} {en : (fog_join_S ⊕ (jW)) → Option (Outcome × jW)} {t : Nat} {a1 : Int32} {a2 : Int32} (h : hog_join x en t a1 a2) (W : jW) : jJ x 7 0 [(0, vR t), (1, vI a1), (2, vI a2)] [] W (fog_join_0 t a1 a2 W) en := by
  have h0 := h
  obtain ⟨hx, hm, hr, he, k60⟩ := h0
  unfold fog_join_0
  refine j_runA hx 2 (tb := [(0, .aload_n 0), (1, .iload_n 1)]) (jtb_ok (by decide +kernel)) (pc' := 2) (lv' := [(0, vR t), (1, vI a1), (2, vI a2)]) (st' := [vI a1, vR t]) rfl ?_
  refine j_gd (fun h1 => ?_)
  refine j_OI (j_callV (av := [vI a1]) (st := []) hx hr (Or.inl q1759) q1761 qs47 rfl md_fog_callerOf np_fog_callerOf (cog_callerOf t a1 W) (by decide) (Nat.le_of_ble_eq_true rfl) h1 (by decide) (by decide +kernel)) (fun q2 _ => ?_)
  refine j_runA hx 2 (tb := [(5, .istore_n 3), (6, .iload_n 3)]) (jtb_ok (by decide +kernel)) (pc' := 7) (lv' := [(3, vI q2), (0, vR t), (1, vI a1), (2, vI a2)]) (st' := [vI q2]) rfl ?_
  refine j_if_ge hx (off := 4) (tgt := 11) (by decide +kernel) (by decide) (fun _ => ?_) (fun _ => ?_)
  · refine j_runA hx 1 (tb := [(11, .aload_n 0)]) (jtb_ok (by decide +kernel)) (pc' := 12) (lv' := [(3, vI q2), (0, vR t), (1, vI a1), (2, vI a2)]) (st' := [vR t]) rfl ?_
    refine j_getR hx flX13_46 kl814 h1 (by decide) (by decide +kernel) ?_
    refine j_runA hx 1 (tb := [(15, .iload_n 3)]) (jtb_ok (by decide +kernel)) (pc' := 16) (lv' := [(3, vI q2), (0, vR t), (1, vI a1), (2, vI a2)]) (st' := [vI q2, vR (jR W 814 t)]) rfl ?_
    refine j_gd (fun h3 => ?_)
    refine j_iald hx (f := 814) (o := t) kd814 rfl (by decide +kernel) h3 ?_
    refine j_runA hx 1 (tb := [(17, .istore 4)]) (jtb_ok (by decide +kernel)) (pc' := 19) (lv' := [(4, vI (jA W 814 t (ix q2))), (3, vI q2), (0, vR t), (1, vI a1), (2, vI a2)]) (st' := []) rfl ?_
    refine j_let (v := (jA W 814 t (ix q2))) (lv := fun v4 => [(4, vI v4), (3, vI q2), (0, vR t), (1, vI a1), (2, vI a2)]) (st := fun _ => []) (fun v4 => ?_)
    refine j_runA hx 1 (tb := [(19, .aload_n 0)]) (jtb_ok (by decide +kernel)) (pc' := 20) (lv' := [(4, vI v4), (3, vI q2), (0, vR t), (1, vI a1), (2, vI a2)]) (st' := [vR t]) rfl ?_
    refine j_getR hx flX13_46 kl814 h1 (by decide) (by decide +kernel) ?_
    refine j_runA hx 1 (tb := [(23, .iload_n 1)]) (jtb_ok (by decide +kernel)) (pc' := 24) (lv' := [(4, vI v4), (3, vI q2), (0, vR t), (1, vI a1), (2, vI a2)]) (st' := [vI a1, vR (jR W 814 t)]) rfl ?_
    refine j_gd (fun h5 => ?_)
    refine j_iald hx (f := 814) (o := t) kd814 rfl (by decide +kernel) h5 ?_
    refine j_runA hx 1 (tb := [(25, .istore 5)]) (jtb_ok (by decide +kernel)) (pc' := 27) (lv' := [(5, vI (jA W 814 t (ix a1))), (4, vI v4), (3, vI q2), (0, vR t), (1, vI a1), (2, vI a2)]) (st' := []) rfl ?_
    refine j_let (v := (jA W 814 t (ix a1))) (lv := fun v6 => [(5, vI v6), (4, vI v4), (3, vI q2), (0, vR t), (1, vI a1), (2, vI a2)]) (st := fun _ => []) (fun v6 => ?_)
    refine j_runA hx 2 (tb := [(27, .iload 4), (29, .iload 5)]) (jtb_ok (by decide +kernel)) (pc' := 31) (lv' := [(5, vI v6), (4, vI v4), (3, vI q2), (0, vR t), (1, vI a1), (2, vI a2)]) (st' := [vI v6, vI v4]) rfl ?_
    refine j_icmp_eq hx (off := 24) (tgt := 55) (by decide +kernel) (by decide) (fun _ => ?_) (fun _ => ?_)
    · exact j_vret hx hm (by decide +kernel) (he _)
    refine j_runA hx 1 (tb := [(34, .aload_n 0)]) (jtb_ok (by decide +kernel)) (pc' := 35) (lv' := [(5, vI v6), (4, vI v4), (3, vI q2), (0, vR t), (1, vI a1), (2, vI a2)]) (st' := [vR t]) rfl ?_
    refine j_getR hx flX13_58 kl818 h1 (by decide) (by decide +kernel) ?_
    refine j_runA hx 1 (tb := [(38, .iload 4)]) (jtb_ok (by decide +kernel)) (pc' := 40) (lv' := [(5, vI v6), (4, vI v4), (3, vI q2), (0, vR t), (1, vI a1), (2, vI a2)]) (st' := [vI v4, vR (jR W 818 t)]) rfl ?_
    refine j_gd (fun h7 => ?_)
    refine j_lald hx (f := 818) (o := t) kd818 rfl (by decide +kernel) h7 ?_
    refine j_runA hx 1 (tb := [(41, .aload_n 0)]) (jtb_ok (by decide +kernel)) (pc' := 42) (lv' := [(5, vI v6), (4, vI v4), (3, vI q2), (0, vR t), (1, vI a1), (2, vI a2)]) (st' := [vR t, vL (jB W 818 t (ix v4))]) rfl ?_
    refine j_getR hx flX13_58 kl818 h1 (by decide) (by decide +kernel) ?_
    refine j_runA hx 1 (tb := [(45, .iload 5)]) (jtb_ok (by decide +kernel)) (pc' := 47) (lv' := [(5, vI v6), (4, vI v4), (3, vI q2), (0, vR t), (1, vI a1), (2, vI a2)]) (st' := [vI v6, vR (jR W 818 t), vL (jB W 818 t (ix v4))]) rfl ?_
    refine j_gd (fun h8 => ?_)
    refine j_lald hx (f := 818) (o := t) kd818 rfl (by decide +kernel) h8 ?_
    refine j_runA hx 3 (tb := [(48, .ladd), (49, .iload_n 2), (50, .i2l)]) (jtb_ok (by decide +kernel)) (pc' := 51) (lv' := [(5, vI v6), (4, vI v4), (3, vI q2), (0, vR t), (1, vI a1), (2, vI a2)]) (st' := [vL a2.toInt64, vL ((jB W 818 t (ix v4)) + (jB W 818 t (ix v6)))]) rfl ?_
    refine j_lcmp_le hx (off := 4) (tgt := 56) (by decide +kernel) (by decide +kernel) (by decide) (fun _ => ?_) (fun _ => ?_)
    · refine j_runA hx 2 (tb := [(56, .iload 5), (58, .istore 6)]) (jtb_ok (by decide +kernel)) (pc' := 60) (lv' := [(6, vI v6), (5, vI v6), (4, vI v4), (3, vI q2), (0, vR t), (1, vI a1), (2, vI a2)]) (st' := []) rfl ?_
      refine j_lv (lv' := [(0, vR t), (1, vI a1), (2, vI a2), (4, vI v4), (5, vI v6), (6, vI v6)]) ⟨rfl, rfl, rfl, rfl, rfl, rfl, trivial⟩ ?_
      exact k60 v4 v6 v6 W
    exact j_vret hx hm (by decide +kernel) (he _)
  exact j_vret hx hm (by decide +kernel) (he _)
theorem cog_join (t : Nat) (a1 : Int32) (a2 : Int32) (W : jW) : jM yX13_join cX13_join 7 (Option.none : Option Jvm.ClassFile.FieldType) [] 2 31 [vR t, vI a1, vI a2] W ((fog_join t a1 a2 W).bind (fun q => some (.returned none, q))) := by
  refine jM.of (Nat.le_of_ble_eq_true rfl) (fun x hx hm hr => ?_)
  refine j_begin (P := (fun s => (60, [(0, vR t), (1, vI a1), (2, vI a2), (4, vI s.1), (5, vI s.2.1), (6, vI s.2.2.1)], s.2.2.2))) (fun en he hk => ?_)
  have h : hog_join x en t a1 a2 := ⟨hx, hm, hr, fun q => he _, fun l4 l5 l6 W => hk (l4, l5, l6, W)⟩
  exact ⟨fun s => wog_join_60 h s.1 s.2.1 s.2.2.1 s.2.2.2, wog_join h W⟩
def hog_leastOf (x : jCx) (en : (fog_leastOf_S ⊕ (Int32)) → Option (Outcome × jW)) (t : Nat) (a1 : Int32) (W : jW) : Prop :=
  jOK x RX13 cX13_leastOf 4 ∧
  jMt x "leastOf" (Option.some Jvm.ClassFile.FieldType.int) [] ∧
  jRm x 1 13 ∧
  (∀ q : Int32, en (.inr q) = some (.returned (some (.int q)), W)) ∧
  (∀ (l2 : Int32) (l3 : Int32), jJ x 4 4 [(0, vR t), (1, vI a1), (2, vI l2), (3, vI l3)] [] W (some (.inl (l2, l3))) en)
theorem wog_leastOf_4 {x : jCx} {en : (fog_leastOf_S ⊕ (Int32)) → Option (Outcome × jW)} {W : jW} {t : Nat} {a1 : Int32} (h : hog_leastOf x en t a1 W) (l2 : Int32) (l3 : Int32) : jJ x 4 4 [(0, vR t), (1, vI a1), (2, vI l2), (3, vI l3)] [] W (fog_leastOf_4 t a1 l2 l3 W) en := by
  have h0 := h
  obtain ⟨hx, hm, hr, he, k4⟩ := h0
  unfold fog_leastOf_4
  refine j_runA hx 1 (tb := [(4, .iload_n 3)]) (jtb_ok (by decide +kernel)) (pc' := 5) (lv' := [(0, vR t), (1, vI a1), (2, vI l2), (3, vI l3)]) (st' := [vI l3]) rfl ?_
  refine j_if_lt hx (off := 19) (tgt := 24) (by decide +kernel) (by decide) (fun _ => ?_) (fun _ => ?_)
  · refine j_runA hx 1 (tb := [(24, .iload_n 2)]) (jtb_ok (by decide +kernel)) (pc' := 25) (lv' := [(0, vR t), (1, vI a1), (2, vI l2), (3, vI l3)]) (st' := [vI l2]) rfl ?_
    exact j_iret hx hm (by decide +kernel) rfl (he _)
  refine j_runA hx 2 (tb := [(8, .iload_n 2), (9, .iload_n 3)]) (jtb_ok (by decide +kernel)) (pc' := 10) (lv' := [(0, vR t), (1, vI a1), (2, vI l2), (3, vI l3)]) (st' := [vI l3, vI l2]) rfl ?_
  refine j_TI (j_callS (av := [vI l2, vI l3]) (st := []) hx hr (Or.inl q1775) q1394 q246 md_fjm_min np_fjm_min (cjm_min l2 l3 W) (by decide) (Nat.le_of_ble_eq_true rfl) (by decide +kernel)) ?_
  refine j_runA hx 1 (tb := [(13, .istore_n 2)]) (jtb_ok (by decide +kernel)) (pc' := 14) (lv' := [(2, vI (fjm_min l2 l3)), (0, vR t), (1, vI a1), (3, vI l3)]) (st' := []) rfl ?_
  refine j_let (v := (fjm_min l2 l3)) (lv := fun v2 => [(2, vI v2), (0, vR t), (1, vI a1), (3, vI l3)]) (st := fun _ => []) (fun v2 => ?_)
  refine j_runA hx 1 (tb := [(14, .aload_n 0)]) (jtb_ok (by decide +kernel)) (pc' := 15) (lv' := [(2, vI v2), (0, vR t), (1, vI a1), (3, vI l3)]) (st' := [vR t]) rfl ?_
  refine j_gd (fun h3 => ?_)
  refine j_getR hx flX13_49 kl815 h3 (by decide) (by decide +kernel) ?_
  refine j_runA hx 1 (tb := [(18, .iload_n 3)]) (jtb_ok (by decide +kernel)) (pc' := 19) (lv' := [(2, vI v2), (0, vR t), (1, vI a1), (3, vI l3)]) (st' := [vI l3, vR (jR W 815 t)]) rfl ?_
  refine j_gd (fun h4 => ?_)
  refine j_iald hx (f := 815) (o := t) kd815 rfl (by decide +kernel) h4 ?_
  refine j_runA hx 1 (tb := [(20, .istore_n 3)]) (jtb_ok (by decide +kernel)) (pc' := 21) (lv' := [(3, vI (jA W 815 t (ix l3))), (2, vI v2), (0, vR t), (1, vI a1)]) (st' := []) rfl ?_
  refine j_let (v := (jA W 815 t (ix l3))) (lv := fun v5 => [(3, vI v5), (2, vI v2), (0, vR t), (1, vI a1)]) (st := fun _ => []) (fun v5 => ?_)
  refine j_goto hx (off := -17) (by decide +kernel) (tgt := 4) (by decide) ?_
  refine j_lv (lv' := [(0, vR t), (1, vI a1), (2, vI v2), (3, vI v5)]) ⟨rfl, rfl, rfl, rfl, trivial⟩ ?_
  exact k4 v2 v5
theorem wog_leastOf {x : jCx} {en : (fog_leastOf_S ⊕ (Int32)) → Option (Outcome × jW)} {W : jW} {t : Nat} {a1 : Int32} (h : hog_leastOf x en t a1 W) : jJ x 4 0 [(0, vR t), (1, vI a1)] [] W (fog_leastOf_0 t a1 W) en := by
  have h0 := h
  obtain ⟨hx, hm, hr, he, k4⟩ := h0
  unfold fog_leastOf_0
  refine j_runA hx 4 (tb := [(0, .iload_n 1), (1, .istore_n 2), (2, .iload_n 1), (3, .istore_n 3)]) (jtb_ok (by decide +kernel)) (pc' := 4) (lv' := [(3, vI a1), (2, vI a1), (0, vR t), (1, vI a1)]) (st' := []) rfl ?_
  refine j_lv (lv' := [(0, vR t), (1, vI a1), (2, vI a1), (3, vI a1)]) ⟨rfl, rfl, rfl, rfl, trivial⟩ ?_
  exact k4 a1 a1
theorem cog_leastOf (t : Nat) (a1 : Int32) (W : jW) : jM yX13_leastOf cX13_leastOf 4 (Option.some Jvm.ClassFile.FieldType.int) [] 1 13 [vR t, vI a1] W ((fog_leastOf t a1 W).bind (fun q => some (.returned (some (.int q)), W))) := by
  refine jM.of (Nat.le_of_ble_eq_true rfl) (fun x hx hm hr => ?_)
  refine j_begin (P := (fun s => (4, [(0, vR t), (1, vI a1), (2, vI s.1), (3, vI s.2)], W))) (fun en he hk => ?_)
  have h : hog_leastOf x en t a1 W := ⟨hx, hm, hr, fun q => he _, fun l2 l3 => hk (l2, l3)⟩
  exact ⟨fun s => wog_leastOf_4 h s.1 s.2, wog_leastOf h⟩
def hog_isDenser (x : jCx) (en : (Int32) → Option (Outcome × jW)) (t : Nat) (a1 : Int32) (a2 : Int32) (W : jW) : Prop :=
  jOK x RX13 cX13_isDenser 7 ∧
  jMt x "isDenser" (Option.some Jvm.ClassFile.FieldType.boolean) [] ∧
  jRm x 2 29 ∧
  (∀ q : Int32, en q = some (.returned (some (.int q)), W))
theorem wog_isDenser {x : jCx} {en : (Int32) → Option (Outcome × jW)} {W : jW} {t : Nat} {a1 : Int32} {a2 : Int32} (h : hog_isDenser x en t a1 a2 W) : jJ x 7 0 [(0, vR t), (1, vI a1), (2, vI a2)] [] W (fog_isDenser t a1 a2 W) en := by
  have h0 := h
  obtain ⟨hx, hm, hr, he⟩ := h0
  unfold fog_isDenser
  refine j_runA hx 1 (tb := [(0, .aload_n 0)]) (jtb_ok (by decide +kernel)) (pc' := 1) (lv' := [(0, vR t), (1, vI a1), (2, vI a2)]) (st' := [vR t]) rfl ?_
  refine j_gd (fun h1 => ?_)
  refine j_getR hx flX13_55 kl817 h1 (by decide) (by decide +kernel) ?_
  refine j_runA hx 1 (tb := [(4, .iload_n 1)]) (jtb_ok (by decide +kernel)) (pc' := 5) (lv' := [(0, vR t), (1, vI a1), (2, vI a2)]) (st' := [vI a1, vR (jR W 817 t)]) rfl ?_
  refine j_gd (fun h2 => ?_)
  refine j_lald hx (f := 817) (o := t) kd817 rfl (by decide +kernel) h2 ?_
  refine j_runA hx 1 (tb := [(6, .aload_n 0)]) (jtb_ok (by decide +kernel)) (pc' := 7) (lv' := [(0, vR t), (1, vI a1), (2, vI a2)]) (st' := [vR t, vL (jB W 817 t (ix a1))]) rfl ?_
  refine j_getR hx flX13_58 kl818 h1 (by decide) (by decide +kernel) ?_
  refine j_runA hx 1 (tb := [(10, .iload_n 2)]) (jtb_ok (by decide +kernel)) (pc' := 11) (lv' := [(0, vR t), (1, vI a1), (2, vI a2)]) (st' := [vI a2, vR (jR W 818 t), vL (jB W 817 t (ix a1))]) rfl ?_
  refine j_gd (fun h3 => ?_)
  refine j_lald hx (f := 818) (o := t) kd818 rfl (by decide +kernel) h3 ?_
  refine j_runA hx 2 (tb := [(12, .lmul), (13, .lstore_n 3)]) (jtb_ok (by decide +kernel)) (pc' := 14) (lv' := [(3, vL ((jB W 817 t (ix a1)) * (jB W 818 t (ix a2)))), (0, vR t), (1, vI a1), (2, vI a2)]) (st' := []) rfl ?_
  refine j_let (v := ((jB W 817 t (ix a1)) * (jB W 818 t (ix a2)))) (lv := fun v4 => [(3, vL v4), (0, vR t), (1, vI a1), (2, vI a2)]) (st := fun _ => []) (fun v4 => ?_)
  refine j_runA hx 1 (tb := [(14, .aload_n 0)]) (jtb_ok (by decide +kernel)) (pc' := 15) (lv' := [(3, vL v4), (0, vR t), (1, vI a1), (2, vI a2)]) (st' := [vR t]) rfl ?_
  refine j_getR hx flX13_55 kl817 h1 (by decide) (by decide +kernel) ?_
  refine j_runA hx 1 (tb := [(18, .iload_n 2)]) (jtb_ok (by decide +kernel)) (pc' := 19) (lv' := [(3, vL v4), (0, vR t), (1, vI a1), (2, vI a2)]) (st' := [vI a2, vR (jR W 817 t)]) rfl ?_
  refine j_gd (fun h5 => ?_)
  refine j_lald hx (f := 817) (o := t) kd817 rfl (by decide +kernel) h5 ?_
  refine j_runA hx 1 (tb := [(20, .aload_n 0)]) (jtb_ok (by decide +kernel)) (pc' := 21) (lv' := [(3, vL v4), (0, vR t), (1, vI a1), (2, vI a2)]) (st' := [vR t, vL (jB W 817 t (ix a2))]) rfl ?_
  refine j_getR hx flX13_58 kl818 h1 (by decide) (by decide +kernel) ?_
  refine j_runA hx 1 (tb := [(24, .iload_n 1)]) (jtb_ok (by decide +kernel)) (pc' := 25) (lv' := [(3, vL v4), (0, vR t), (1, vI a1), (2, vI a2)]) (st' := [vI a1, vR (jR W 818 t), vL (jB W 817 t (ix a2))]) rfl ?_
  refine j_gd (fun h6 => ?_)
  refine j_lald hx (f := 818) (o := t) kd818 rfl (by decide +kernel) h6 ?_
  refine j_runA hx 2 (tb := [(26, .lmul), (27, .lstore 5)]) (jtb_ok (by decide +kernel)) (pc' := 29) (lv' := [(5, vL ((jB W 817 t (ix a2)) * (jB W 818 t (ix a1)))), (3, vL v4), (0, vR t), (1, vI a1), (2, vI a2)]) (st' := []) rfl ?_
  refine j_let (v := ((jB W 817 t (ix a2)) * (jB W 818 t (ix a1)))) (lv := fun v7 => [(5, vL v7), (3, vL v4), (0, vR t), (1, vI a1), (2, vI a2)]) (st := fun _ => []) (fun v7 => ?_)
  refine j_runA hx 2 (tb := [(29, .lload_n 3), (30, .lload 5)]) (jtb_ok (by decide +kernel)) (pc' := 32) (lv' := [(5, vL v7), (3, vL v4), (0, vR t), (1, vI a1), (2, vI a2)]) (st' := [vL v7, vL v4]) rfl ?_
  refine j_lcmp_eq hx (off := 18) (tgt := 51) (by decide +kernel) (by decide +kernel) (by decide) (fun _ => ?_) (fun _ => ?_)
  · refine j_runA hx 2 (tb := [(51, .aload_n 0), (52, .iload_n 1)]) (jtb_ok (by decide +kernel)) (pc' := 53) (lv' := [(5, vL v7), (3, vL v4), (0, vR t), (1, vI a1), (2, vI a2)]) (st' := [vI a1, vR t]) rfl ?_
    refine j_OI (j_callV (av := [vI a1]) (st := []) hx hr (Or.inl q1771) q1773 qs50 rfl md_fog_leastOf np_fog_leastOf (cog_leastOf t a1 W) (by decide) (Nat.le_of_ble_eq_true rfl) h1 (by decide) (by decide +kernel)) (fun q8 _ => ?_)
    refine j_runA hx 2 (tb := [(56, .aload_n 0), (57, .iload_n 2)]) (jtb_ok (by decide +kernel)) (pc' := 58) (lv' := [(5, vL v7), (3, vL v4), (0, vR t), (1, vI a1), (2, vI a2)]) (st' := [vI a2, vR t, vI q8]) rfl ?_
    refine j_OI (j_callV (av := [vI a2]) (st := [vI q8]) hx hr (Or.inl q1771) q1773 qs50 rfl md_fog_leastOf np_fog_leastOf (cog_leastOf t a2 W) (by decide) (Nat.le_of_ble_eq_true rfl) h1 (by decide) (by decide +kernel)) (fun q9 _ => ?_)
    refine j_icmp_ge hx (off := 7) (tgt := 68) (by decide +kernel) (by decide) (fun _ => ?_) (fun _ => ?_)
    · refine j_runA hx 1 (tb := [(68, .iconst 0)]) (jtb_ok (by decide +kernel)) (pc' := 69) (lv' := [(5, vL v7), (3, vL v4), (0, vR t), (1, vI a1), (2, vI a2)]) (st' := [vI (kI 0)]) rfl ?_
      exact j_iret hx hm (by decide +kernel) jz0n (he _)
    refine j_runA hx 1 (tb := [(64, .iconst 1)]) (jtb_ok (by decide +kernel)) (pc' := 65) (lv' := [(5, vL v7), (3, vL v4), (0, vR t), (1, vI a1), (2, vI a2)]) (st' := [vI (kI 1)]) rfl ?_
    refine j_goto hx (off := 4) (by decide +kernel) (tgt := 69) (by decide) ?_
    exact j_iret hx hm (by decide +kernel) jz1n (he _)
  refine j_runA hx 2 (tb := [(36, .lload_n 3), (37, .lload 5)]) (jtb_ok (by decide +kernel)) (pc' := 39) (lv' := [(5, vL v7), (3, vL v4), (0, vR t), (1, vI a1), (2, vI a2)]) (st' := [vL v7, vL v4]) rfl ?_
  refine j_lcmp_le hx (off := 7) (tgt := 47) (by decide +kernel) (by decide +kernel) (by decide) (fun _ => ?_) (fun _ => ?_)
  · refine j_runA hx 1 (tb := [(47, .iconst 0)]) (jtb_ok (by decide +kernel)) (pc' := 48) (lv' := [(5, vL v7), (3, vL v4), (0, vR t), (1, vI a1), (2, vI a2)]) (st' := [vI (kI 0)]) rfl ?_
    refine j_goto hx (off := 21) (by decide +kernel) (tgt := 69) (by decide) ?_
    exact j_iret hx hm (by decide +kernel) jz0n (he _)
  refine j_runA hx 1 (tb := [(43, .iconst 1)]) (jtb_ok (by decide +kernel)) (pc' := 44) (lv' := [(5, vL v7), (3, vL v4), (0, vR t), (1, vI a1), (2, vI a2)]) (st' := [vI (kI 1)]) rfl ?_
  refine j_goto hx (off := 25) (by decide +kernel) (tgt := 69) (by decide) ?_
  exact j_iret hx hm (by decide +kernel) jz1n (he _)
theorem cog_isDenser (t : Nat) (a1 : Int32) (a2 : Int32) (W : jW) : jM yX13_isDenser cX13_isDenser 7 (Option.some Jvm.ClassFile.FieldType.boolean) [] 2 29 [vR t, vI a1, vI a2] W ((fog_isDenser t a1 a2 W).bind (fun q => some (.returned (some (.int q)), W))) := 
  jM.of (Nat.le_of_ble_eq_true rfl) (fun x hx hm hr => wog_isDenser ⟨hx, hm, hr, fun _ => rfl⟩)
def hog_gather (x : jCx) (en : (fog_gather_S ⊕ (jW)) → Option (Outcome × jW)) (t : Nat) : Prop :=
  jOK x RX13 cX13_gather 4 ∧
  jMt x "gather" (Option.none : Option Jvm.ClassFile.FieldType) [] ∧
  jRm x 3 47 ∧
  (∀ q : jW, en (.inr q) = some (.returned none, q)) ∧
  (∀ (l1 : Int32) (l2 : Int32) (W : jW), jJ x 4 4 [(0, vR t), (1, vI l1), (2, vI l2)] [] W (some (.inl (.inl (l1, l2, W)))) en) ∧
  (∀ (l1 : Int32) (l2 : Int32) (l3 : Int32) (W : jW), jJ x 4 41 [(0, vR t), (1, vI l1), (2, vI l2), (3, vI l3)] [] W (some (.inl (.inr (l1, l2, l3, W)))) en)
theorem wog_gather_103 {x : jCx} {en : (fog_gather_S ⊕ (jW)) → Option (Outcome × jW)} {t : Nat} (h : hog_gather x en t) (l1 : Int32) (l2 : Int32) (W : jW) : jJ x 4 103 [(0, vR t), (1, vI l1), (2, vI l2)] [] W (fog_gather_103 t l1 l2 W) en := by
  have h0 := h
  obtain ⟨hx, hm, hr, he, k4, k41⟩ := h0
  unfold fog_gather_103
  refine j_runA hx 1 (tb := [(103, .iinc 2 1)]) (jtb_ok (by decide +kernel)) (pc' := 106) (lv' := [(2, vI (l2 + (kI 1))), (0, vR t), (1, vI l1)]) (st' := []) rfl ?_
  refine j_let (v := (l2 + (kI 1))) (lv := fun v38 => [(2, vI v38), (0, vR t), (1, vI l1)]) (st := fun _ => []) (fun v38 => ?_)
  refine j_goto hx (off := -102) (by decide +kernel) (tgt := 4) (by decide) ?_
  refine j_lv (lv' := [(0, vR t), (1, vI l1), (2, vI v38)]) ⟨rfl, rfl, rfl, trivial⟩ ?_
  exact k4 l1 v38 W
theorem wog_gather_90 {x : jCx} {en : (fog_gather_S ⊕ (jW)) → Option (Outcome × jW)} {t : Nat} (h : hog_gather x en t) (l1 : Int32) (l2 : Int32) (l3 : Int32) (W : jW) : jJ x 4 90 [(0, vR t), (1, vI l1), (2, vI l2), (3, vI l3)] [] W (fog_gather_90 t l1 l2 l3 W) en := by
  have h0 := h
  obtain ⟨hx, hm, hr, he, k4, k41⟩ := h0
  unfold fog_gather_90
  refine j_runA hx 1 (tb := [(90, .aload_n 0)]) (jtb_ok (by decide +kernel)) (pc' := 91) (lv' := [(0, vR t), (1, vI l1), (2, vI l2), (3, vI l3)]) (st' := [vR t]) rfl ?_
  refine j_gd (fun h28 => ?_)
  refine j_getR hx flX13_43 kl813 h28 (by decide) (by decide +kernel) ?_
  refine j_gd (fun h29 => ?_)
  refine j_getR hx flX13_123 kl600 h29 (by decide) (by decide +kernel) ?_
  refine j_runA hx 2 (tb := [(97, .iload_n 3), (98, .iload_n 2)]) (jtb_ok (by decide +kernel)) (pc' := 99) (lv' := [(0, vR t), (1, vI l1), (2, vI l2), (3, vI l3)]) (st' := [vI l2, vI l3, vR (jR W 600 (jR W 813 t))]) rfl ?_
  refine j_gd (fun h30 => ?_)
  refine j_iast hx (f := 600) (o := (jR W 813 t)) kd600 rfl (by decide +kernel) h30 ?_
  refine j_ltw rfl (fun W31 hc32 => ?_)
  have h33 : jC W31 t = 8 := (congrFun hc32 _).trans h28
  have h34 : jC W31 (jR W 813 t) = 6 := (congrFun hc32 _).trans h29
  refine j_runA hx 1 (tb := [(100, .iinc 1 1)]) (jtb_ok (by decide +kernel)) (pc' := 103) (lv' := [(1, vI (l1 + (kI 1))), (0, vR t), (2, vI l2), (3, vI l3)]) (st' := []) rfl ?_
  refine j_let (v := (l1 + (kI 1))) (lv := fun v36 => [(1, vI v36), (0, vR t), (2, vI l2), (3, vI l3)]) (st := fun _ => []) (fun v36 => ?_)
  refine j_lv (lv' := [(0, vR t), (1, vI v36), (2, vI l2)]) ⟨rfl, rfl, rfl, trivial⟩ ?_
  exact wog_gather_103 h v36 l2 W31
theorem wog_gather_41 {x : jCx} {en : (fog_gather_S ⊕ (jW)) → Option (Outcome × jW)} {t : Nat} (h : hog_gather x en t) (l1 : Int32) (l2 : Int32) (l3 : Int32) (W : jW) : jJ x 4 41 [(0, vR t), (1, vI l1), (2, vI l2), (3, vI l3)] [] W (fog_gather_41 t l1 l2 l3 W) en := by
  have h0 := h
  obtain ⟨hx, hm, hr, he, k4, k41⟩ := h0
  unfold fog_gather_41
  refine j_runA hx 1 (tb := [(41, .iload_n 3)]) (jtb_ok (by decide +kernel)) (pc' := 42) (lv' := [(0, vR t), (1, vI l1), (2, vI l2), (3, vI l3)]) (st' := [vI l3]) rfl ?_
  refine j_if_le hx (off := 48) (tgt := 90) (by decide +kernel) (by decide) (fun _ => ?_) (fun _ => ?_)
  · exact wog_gather_90 h l1 l2 l3 W
  refine j_runA hx 3 (tb := [(45, .aload_n 0), (46, .iload_n 2), (47, .aload_n 0)]) (jtb_ok (by decide +kernel)) (pc' := 48) (lv' := [(0, vR t), (1, vI l1), (2, vI l2), (3, vI l3)]) (st' := [vR t, vI l2, vR t]) rfl ?_
  refine j_gd (fun h15 => ?_)
  refine j_getR hx flX13_43 kl813 h15 (by decide) (by decide +kernel) ?_
  refine j_gd (fun h16 => ?_)
  refine j_getR hx flX13_123 kl600 h16 (by decide) (by decide +kernel) ?_
  refine j_runA hx 3 (tb := [(54, .iload_n 3), (55, .iconst 1), (56, .isub)]) (jtb_ok (by decide +kernel)) (pc' := 57) (lv' := [(0, vR t), (1, vI l1), (2, vI l2), (3, vI l3)]) (st' := [vI (l3 - (kI 1)), vR (jR W 600 (jR W 813 t)), vI l2, vR t]) rfl ?_
  refine j_gd (fun h17 => ?_)
  refine j_iald hx (f := 600) (o := (jR W 813 t)) kd600 rfl (by decide +kernel) h17 ?_
  refine j_OI (j_callV (av := [vI l2, vI (jA W 600 (jR W 813 t) (ix (l3 - (kI 1))))]) (st := []) hx hr (Or.inl q1767) q1769 qs49 rfl md_fog_isDenser np_fog_isDenser (cog_isDenser t l2 (jA W 600 (jR W 813 t) (ix (l3 - (kI 1)))) W) (by decide) (Nat.le_of_ble_eq_true rfl) h15 (by decide) (by decide +kernel)) (fun q18 _ => ?_)
  refine j_if_eq hx (off := 29) (tgt := 90) (by decide +kernel) (by decide) (fun _ => ?_) (fun _ => ?_)
  · exact wog_gather_90 h l1 l2 l3 W
  refine j_runA hx 1 (tb := [(64, .aload_n 0)]) (jtb_ok (by decide +kernel)) (pc' := 65) (lv' := [(0, vR t), (1, vI l1), (2, vI l2), (3, vI l3)]) (st' := [vR t]) rfl ?_
  refine j_getR hx flX13_43 kl813 h15 (by decide) (by decide +kernel) ?_
  refine j_getR hx flX13_123 kl600 h16 (by decide) (by decide +kernel) ?_
  refine j_runA hx 2 (tb := [(71, .iload_n 3), (72, .aload_n 0)]) (jtb_ok (by decide +kernel)) (pc' := 73) (lv' := [(0, vR t), (1, vI l1), (2, vI l2), (3, vI l3)]) (st' := [vR t, vI l3, vR (jR W 600 (jR W 813 t))]) rfl ?_
  refine j_getR hx flX13_43 kl813 h15 (by decide) (by decide +kernel) ?_
  refine j_getR hx flX13_123 kl600 h16 (by decide) (by decide +kernel) ?_
  refine j_runA hx 3 (tb := [(79, .iload_n 3), (80, .iconst 1), (81, .isub)]) (jtb_ok (by decide +kernel)) (pc' := 82) (lv' := [(0, vR t), (1, vI l1), (2, vI l2), (3, vI l3)]) (st' := [vI (l3 - (kI 1)), vR (jR W 600 (jR W 813 t)), vI l3, vR (jR W 600 (jR W 813 t))]) rfl ?_
  refine j_gd (fun h19 => ?_)
  refine j_iald hx (f := 600) (o := (jR W 813 t)) kd600 rfl (by decide +kernel) h19 ?_
  refine j_gd (fun h20 => ?_)
  refine j_iast hx (f := 600) (o := (jR W 813 t)) kd600 rfl (by decide +kernel) h20 ?_
  refine j_ltw rfl (fun W21 hc22 => ?_)
  have h23 : jC W21 t = 8 := (congrFun hc22 _).trans h15
  have h24 : jC W21 (jR W 813 t) = 6 := (congrFun hc22 _).trans h16
  refine j_runA hx 1 (tb := [(84, .iinc 3 (-1))]) (jtb_ok (by decide +kernel)) (pc' := 87) (lv' := [(3, vI (l3 + (kI (-1)))), (0, vR t), (1, vI l1), (2, vI l2)]) (st' := []) rfl ?_
  refine j_let (v := (l3 + (kI (-1)))) (lv := fun v26 => [(3, vI v26), (0, vR t), (1, vI l1), (2, vI l2)]) (st := fun _ => []) (fun v26 => ?_)
  refine j_goto hx (off := -46) (by decide +kernel) (tgt := 41) (by decide) ?_
  refine j_lv (lv' := [(0, vR t), (1, vI l1), (2, vI l2), (3, vI v26)]) ⟨rfl, rfl, rfl, rfl, trivial⟩ ?_
  exact k41 l1 l2 v26 W21
theorem wog_gather_4 {x : jCx} {en : (fog_gather_S ⊕ (jW)) → Option (Outcome × jW)} {t : Nat} (h : hog_gather x en t) (l1 : Int32) (l2 : Int32) (W : jW) : jJ x 4 4 [(0, vR t), (1, vI l1), (2, vI l2)] [] W (fog_gather_4 t l1 l2 W) en := by
  have h0 := h
  obtain ⟨hx, hm, hr, he, k4, k41⟩ := h0
  unfold fog_gather_4
  refine j_runA hx 2 (tb := [(4, .iload_n 2), (5, .aload_n 0)]) (jtb_ok (by decide +kernel)) (pc' := 6) (lv' := [(0, vR t), (1, vI l1), (2, vI l2)]) (st' := [vR t, vI l2]) rfl ?_
  refine j_gd (fun h2 => ?_)
  refine j_getR hx flX13_91 kl800 h2 (by decide) (by decide +kernel) ?_
  refine j_gd (fun h3 => ?_)
  refine j_OI (j_callV (av := []) (st := [vI l2]) hx hr (Or.inl q1594) q1558 q1559 rfl md_fpg_functionCount np_fpg_functionCount (cpg_functionCount (jR W 800 t) W) (by decide) (Nat.le_of_ble_eq_true rfl) h3 (by decide) (by decide +kernel)) (fun q4 _ => ?_)
  refine j_icmp_ge hx (off := 97) (tgt := 109) (by decide +kernel) (by decide) (fun _ => ?_) (fun _ => ?_)
  · refine j_runA hx 1 (tb := [(109, .aload_n 0)]) (jtb_ok (by decide +kernel)) (pc' := 110) (lv' := [(0, vR t), (1, vI l1), (2, vI l2)]) (st' := [vR t]) rfl ?_
    refine j_getR hx flX13_43 kl813 h2 (by decide) (by decide +kernel) ?_
    refine j_runA hx 1 (tb := [(113, .iload_n 1)]) (jtb_ok (by decide +kernel)) (pc' := 114) (lv' := [(0, vR t), (1, vI l1), (2, vI l2)]) (st' := [vI l1, vR (jR W 813 t)]) rfl ?_
    refine j_gd (fun h5 => ?_)
    refine j_putI hx fwX13_146 wf601 kd601 h5 (by decide) (by decide +kernel) (ni601 _) (fi601 _) ?_
    refine j_ltw rfl (fun W6 hc7 => ?_)
    have h8 : jC W6 t = 8 := (congrFun hc7 _).trans h2
    have h9 : jC W6 (jR W 800 t) = 2 := (congrFun hc7 _).trans h3
    have h10 : jC W6 (jR W 813 t) = 6 := (congrFun hc7 _).trans h5
    exact j_vret hx hm (by decide +kernel) (he _)
  refine j_runA hx 1 (tb := [(15, .aload_n 0)]) (jtb_ok (by decide +kernel)) (pc' := 16) (lv' := [(0, vR t), (1, vI l1), (2, vI l2)]) (st' := [vR t]) rfl ?_
  refine j_getR hx flX13_46 kl814 h2 (by decide) (by decide +kernel) ?_
  refine j_runA hx 1 (tb := [(19, .iload_n 2)]) (jtb_ok (by decide +kernel)) (pc' := 20) (lv' := [(0, vR t), (1, vI l1), (2, vI l2)]) (st' := [vI l2, vR (jR W 814 t)]) rfl ?_
  refine j_gd (fun h12 => ?_)
  refine j_iald hx (f := 814) (o := t) kd814 rfl (by decide +kernel) h12 ?_
  refine j_runA hx 1 (tb := [(21, .iload_n 2)]) (jtb_ok (by decide +kernel)) (pc' := 22) (lv' := [(0, vR t), (1, vI l1), (2, vI l2)]) (st' := [vI l2, vI (jA W 814 t (ix l2))]) rfl ?_
  refine j_icmp_ne hx (off := 81) (tgt := 103) (by decide +kernel) (by decide) (fun _ => ?_) (fun _ => ?_)
  · exact wog_gather_103 h l1 l2 W
  refine j_runA hx 1 (tb := [(25, .aload_n 0)]) (jtb_ok (by decide +kernel)) (pc' := 26) (lv' := [(0, vR t), (1, vI l1), (2, vI l2)]) (st' := [vR t]) rfl ?_
  refine j_getR hx flX13_58 kl818 h2 (by decide) (by decide +kernel) ?_
  refine j_runA hx 1 (tb := [(29, .iload_n 2)]) (jtb_ok (by decide +kernel)) (pc' := 30) (lv' := [(0, vR t), (1, vI l1), (2, vI l2)]) (st' := [vI l2, vR (jR W 818 t)]) rfl ?_
  refine j_gd (fun h13 => ?_)
  refine j_lald hx (f := 818) (o := t) kd818 rfl (by decide +kernel) h13 ?_
  refine j_runA hx 1 (tb := [(31, .lconst 0)]) (jtb_ok (by decide +kernel)) (pc' := 32) (lv' := [(0, vR t), (1, vI l1), (2, vI l2)]) (st' := [vL (kJ 0), vL (jB W 818 t (ix l2))]) rfl ?_
  refine j_lcmp_ne hx (off := 6) (tgt := 39) (by decide +kernel) (by decide +kernel) (by decide) (fun _ => ?_) (fun _ => ?_)
  · refine j_runA hx 2 (tb := [(39, .iload_n 1), (40, .istore_n 3)]) (jtb_ok (by decide +kernel)) (pc' := 41) (lv' := [(3, vI l1), (0, vR t), (1, vI l1), (2, vI l2)]) (st' := []) rfl ?_
    refine j_lv (lv' := [(0, vR t), (1, vI l1), (2, vI l2), (3, vI l1)]) ⟨rfl, rfl, rfl, rfl, trivial⟩ ?_
    exact k41 l1 l2 l1 W
  refine j_goto hx (off := 67) (by decide +kernel) (tgt := 103) (by decide) ?_
  exact wog_gather_103 h l1 l2 W
theorem wog_gather {x : jCx} {en : (fog_gather_S ⊕ (jW)) → Option (Outcome × jW)} {t : Nat} (h : hog_gather x en t) (W : jW) : jJ x 4 0 [(0, vR t)] [] W (fog_gather_0 t W) en := by
  have h0 := h
  obtain ⟨hx, hm, hr, he, k4, k41⟩ := h0
  unfold fog_gather_0
  refine j_runA hx 4 (tb := [(0, .iconst 0), (1, .istore_n 1), (2, .iconst 0), (3, .istore_n 2)]) (jtb_ok (by decide +kernel)) (pc' := 4) (lv' := [(2, vI (kI 0)), (1, vI (kI 0)), (0, vR t)]) (st' := []) rfl ?_
  refine j_lv (lv' := [(0, vR t), (1, vI (kI 0)), (2, vI (kI 0))]) ⟨rfl, rfl, rfl, trivial⟩ ?_
  exact k4 (kI 0) (kI 0) W
theorem cog_gather (t : Nat) (W : jW) : jM yX13_gather cX13_gather 4 (Option.none : Option Jvm.ClassFile.FieldType) [] 3 47 [vR t] W ((fog_gather t W).bind (fun q => some (.returned none, q))) := by
  refine jM.of (Nat.le_of_ble_eq_true rfl) (fun x hx hm hr => ?_)
  refine j_begin (P := (Sum.elim (fun s => (4, [(0, vR t), (1, vI s.1), (2, vI s.2.1)], s.2.2)) (fun s => (41, [(0, vR t), (1, vI s.1), (2, vI s.2.1), (3, vI s.2.2.1)], s.2.2.2)))) (fun en he hk => ?_)
  have h : hog_gather x en t := ⟨hx, hm, hr, fun q => he _, fun l1 l2 W => hk (.inl (l1, l2, W)), fun l1 l2 l3 W => hk (.inr (l1, l2, l3, W))⟩
  refine ⟨fun s => ?_, wog_gather h W⟩
  rcases s with s | s
  · exact wog_gather_4 h s.1 s.2.1 s.2.2
  · exact wog_gather_41 h s.1 s.2.1 s.2.2.1 s.2.2.2
