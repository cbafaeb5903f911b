/-! ===== walks: fma_two fma_holds fma_choose fma_isStorable fma_isInTexts fme_hasCode fme_mayStore fma_looked fme_placeOf fme_store fma_storeFrom fme_load ===== -/
set_option maxRecDepth 100000
def hma_two (x : jCx) (en : ((Nat × jW) ⊕ jW) → Option (Outcome × jW)) (t : Nat) (a1 : Int32) : Prop :=
  jOK x RX15 cX15_two 11 ∧
  jMt x "two" (Option.none : Option Jvm.ClassFile.FieldType) [] ∧
  jRm x 3 39 ∧
  (∀ q : jW, en (.inr q) = some (.returned none, q)) ∧
  (∀ z : Nat × jW, en (.inl z) = some (.threw (z.1 - 1), z.2))
theorem wma_two_206 {x : jCx} {en : ((Nat × jW) ⊕ jW) → Option (Outcome × jW)} {t : Nat} {a1 : Int32} (h : hma_two x en t a1) (l2 : Int32) (l9 : Int64) (W : jW) : jJ x 11 206 [(0, vR t), (1, vI a1), (2, vI l2), (9, vL l9)] [] W (fma_two_206 t a1 l2 l9 W) en := by
  have h0 := h
  obtain ⟨hx, hm, hr, he, ht⟩ := h0
  unfold fma_two_206
  refine j_runA hx 2 (tb := [(206, .aload_n 0), (207, .iload_n 1)]) (jtb_ok (by decide +kernel)) (pc' := 208) (lv' := [(0, vR t), (1, vI a1), (2, vI l2), (9, vL l9)]) (st' := [vI a1, vR t]) rfl ?_
  refine j_TI (j_callS (av := [vI a1]) (st := [vR t]) hx hr (Or.inl q2078) q992 q247 md_fwo_d np_fwo_d (cwo_d a1 W) (by decide) (Nat.le_of_ble_eq_true rfl) (by decide +kernel)) ?_
  refine j_runA hx 2 (tb := [(211, .lload 9), (213, .iload_n 2)]) (jtb_ok (by decide +kernel)) (pc' := 214) (lv' := [(0, vR t), (1, vI a1), (2, vI l2), (9, vL l9)]) (st' := [vI l2, vL l9, vI (fwo_d a1), vR t]) rfl ?_
  refine j_gd (fun h19 => ?_)
  refine j_WV (j_callV (av := [vI (fwo_d a1), vL l9, vI l2]) (st := []) hx hr (Or.inl q2095) q2097 qs90 rfl md_fma_put np_fma_put (cma_put t (fwo_d a1) l9 l2 W) (by decide) (Nat.le_of_ble_eq_true rfl) h19 (by decide) (by decide +kernel)) (fun q20 _ => ?_)
  exact j_vret hx hm (by decide +kernel) (he _)
theorem wma_two_88 {x : jCx} {en : ((Nat × jW) ⊕ jW) → Option (Outcome × jW)} {t : Nat} {a1 : Int32} (h : hma_two x en t a1) (l2 : Int32) (s0 : Int64) (W : jW) : jJ x 11 88 [(0, vR t), (1, vI a1), (2, vI l2)] [vL s0] W (fma_two_88 t a1 l2 s0 W) en := by
  have h0 := h
  obtain ⟨hx, hm, hr, he, ht⟩ := h0
  unfold fma_two_88
  refine j_runA hx 1 (tb := [(88, .lstore 9)]) (jtb_ok (by decide +kernel)) (pc' := 90) (lv' := [(9, vL s0), (0, vR t), (1, vI a1), (2, vI l2)]) (st' := []) rfl ?_
  refine j_goto hx (off := 116) (by decide +kernel) (tgt := 206) (by decide) ?_
  refine j_lv (lv' := [(0, vR t), (1, vI a1), (2, vI l2), (9, vL s0)]) ⟨rfl, rfl, rfl, rfl, trivial⟩ ?_
  exact wma_two_206 h l2 s0 W
theorem wma_two_154 {x : jCx} {en : ((Nat × jW) ⊕ jW) → Option (Outcome × jW)} {t : Nat} {a1 : Int32} (h : hma_two x en t a1) (l2 : Int32) (s0 : Int64) (W : jW) : jJ x 11 154 [(0, vR t), (1, vI a1), (2, vI l2)] [vL s0] W (fma_two_154 t a1 l2 s0 W) en := by
  have h0 := h
  obtain ⟨hx, hm, hr, he, ht⟩ := h0
  unfold fma_two_154
  refine j_runA hx 1 (tb := [(154, .lstore 9)]) (jtb_ok (by decide +kernel)) (pc' := 156) (lv' := [(9, vL s0), (0, vR t), (1, vI a1), (2, vI l2)]) (st' := []) rfl ?_
  refine j_goto hx (off := 50) (by decide +kernel) (tgt := 206) (by decide) ?_
  refine j_lv (lv' := [(0, vR t), (1, vI a1), (2, vI l2), (9, vL s0)]) ⟨rfl, rfl, rfl, rfl, trivial⟩ ?_
  exact wma_two_206 h l2 s0 W
theorem wma_two_204 {x : jCx} {en : ((Nat × jW) ⊕ jW) → Option (Outcome × jW)} {t : Nat} {a1 : Int32} (h : hma_two x en t a1) (l2 : Int32) (s0 : Int64) (W : jW) : jJ x 11 204 [(0, vR t), (1, vI a1), (2, vI l2)] [vL s0] W (fma_two_204 t a1 l2 s0 W) en := by
  have h0 := h
  obtain ⟨hx, hm, hr, he, ht⟩ := h0
  unfold fma_two_204
  refine j_runA hx 1 (tb := [(204, .lstore 9)]) (jtb_ok (by decide +kernel)) (pc' := 206) (lv' := [(9, vL s0), (0, vR t), (1, vI a1), (2, vI l2)]) (st' := []) rfl ?_
  refine j_lv (lv' := [(0, vR t), (1, vI a1), (2, vI l2), (9, vL s0)]) ⟨rfl, rfl, rfl, rfl, trivial⟩ ?_
  exact wma_two_206 h l2 s0 W
theorem wma_two_62 {x : jCx} {en : ((Nat × jW) ⊕ jW) → Option (Outcome × jW)} {t : Nat} {a1 : Int32} (h : hma_two x en t a1) (l2 : Int32) (l3 : Int64) (l5 : Int64) (l7 : Int32) (s0 : Int32) (s1 : Int32) (W : jW) : jJ x 11 62 [(0, vR t), (1, vI a1), (2, vI l2), (3, vL l3), (5, vL l5), (7, vI l7)] [vI s0, vI s1] W (fma_two_62 t a1 l2 l3 l5 l7 s0 s1 W) en := by
  have h0 := h
  obtain ⟨hx, hm, hr, he, ht⟩ := h0
  unfold fma_two_62
  refine j_runA hx 2 (tb := [(62, .iand), (63, .istore 8)]) (jtb_ok (by decide +kernel)) (pc' := 65) (lv' := [(8, vI (s1 &&& s0)), (0, vR t), (1, vI a1), (2, vI l2), (3, vL l3), (5, vL l5), (7, vI l7)]) (st' := []) rfl ?_
  refine j_let (v := (s1 &&& s0)) (lv := fun v13 => [(8, vI v13), (0, vR t), (1, vI a1), (2, vI l2), (3, vL l3), (5, vL l5), (7, vI l7)]) (st := fun _ => []) (fun v13 => ?_)
  refine j_runA hx 2 (tb := [(65, .iload 7), (67, .iconst 2)]) (jtb_ok (by decide +kernel)) (pc' := 68) (lv' := [(8, vI v13), (0, vR t), (1, vI a1), (2, vI l2), (3, vL l3), (5, vL l5), (7, vI l7)]) (st' := [vI (kI 2), vI l7]) rfl ?_
  refine j_icmp_ne hx (off := 25) (tgt := 93) (by decide +kernel) (by decide) (fun _ => ?_) (fun _ => ?_)
  · refine j_runA hx 2 (tb := [(93, .iload 7), (95, .iconst 3)]) (jtb_ok (by decide +kernel)) (pc' := 96) (lv' := [(8, vI v13), (0, vR t), (1, vI a1), (2, vI l2), (3, vL l3), (5, vL l5), (7, vI l7)]) (st' := [vI (kI 3), vI l7]) rfl ?_
    refine j_icmp_ne hx (off := 63) (tgt := 159) (by decide +kernel) (by decide) (fun _ => ?_) (fun _ => ?_)
    · refine j_runA hx 2 (tb := [(159, .iload 7), (161, .bipush 8)]) (jtb_ok (by decide +kernel)) (pc' := 163) (lv' := [(8, vI v13), (0, vR t), (1, vI a1), (2, vI l2), (3, vL l3), (5, vL l5), (7, vI l7)]) (st' := [vI (kI 8), vI l7]) rfl ?_
      refine j_icmp_ne hx (off := 10) (tgt := 173) (by decide +kernel) (by decide) (fun _ => ?_) (fun _ => ?_)
      · refine j_runA hx 2 (tb := [(173, .iload 7), (175, .bipush 9)]) (jtb_ok (by decide +kernel)) (pc' := 177) (lv' := [(8, vI v13), (0, vR t), (1, vI a1), (2, vI l2), (3, vL l3), (5, vL l5), (7, vI l7)]) (st' := [vI (kI 9), vI l7]) rfl ?_
        refine j_icmp_ne hx (off := 10) (tgt := 187) (by decide +kernel) (by decide) (fun _ => ?_) (fun _ => ?_)
        · refine j_runA hx 1 (tb := [(187, .iload_n 2)]) (jtb_ok (by decide +kernel)) (pc' := 188) (lv' := [(8, vI v13), (0, vR t), (1, vI a1), (2, vI l2), (3, vL l3), (5, vL l5), (7, vI l7)]) (st' := [vI l2]) rfl ?_
          refine j_if_eq hx (off := 10) (tgt := 198) (by decide +kernel) (by decide) (fun _ => ?_) (fun _ => ?_)
          · refine j_runA hx 5 (tb := [(198, .lload_n 3), (199, .l2i), (200, .iload 8), (202, .ishr), (203, .i2l)]) (jtb_ok (by decide +kernel)) (pc' := 204) (lv' := [(8, vI v13), (0, vR t), (1, vI a1), (2, vI l2), (3, vL l3), (5, vL l5), (7, vI l7)]) (st' := [vL ((ixr l3.toInt32 v13).toInt64)]) rfl ?_
            refine j_lv (lv' := [(0, vR t), (1, vI a1), (2, vI l2)]) ⟨rfl, rfl, rfl, trivial⟩ ?_
            exact wma_two_204 h l2 ((ixr l3.toInt32 v13).toInt64) W
          refine j_runA hx 3 (tb := [(191, .lload_n 3), (192, .iload 8), (194, .lshr)]) (jtb_ok (by decide +kernel)) (pc' := 195) (lv' := [(8, vI v13), (0, vR t), (1, vI a1), (2, vI l2), (3, vL l3), (5, vL l5), (7, vI l7)]) (st' := [vL (lxr l3 v13)]) rfl ?_
          refine j_goto hx (off := 9) (by decide +kernel) (tgt := 204) (by decide) ?_
          refine j_lv (lv' := [(0, vR t), (1, vI a1), (2, vI l2)]) ⟨rfl, rfl, rfl, trivial⟩ ?_
          exact wma_two_204 h l2 (lxr l3 v13) W
        refine j_runA hx 3 (tb := [(180, .lload_n 3), (181, .iload 8), (183, .lushr)]) (jtb_ok (by decide +kernel)) (pc' := 184) (lv' := [(8, vI v13), (0, vR t), (1, vI a1), (2, vI l2), (3, vL l3), (5, vL l5), (7, vI l7)]) (st' := [vL (lxu l3 v13)]) rfl ?_
        refine j_goto hx (off := 20) (by decide +kernel) (tgt := 204) (by decide) ?_
        refine j_lv (lv' := [(0, vR t), (1, vI a1), (2, vI l2)]) ⟨rfl, rfl, rfl, trivial⟩ ?_
        exact wma_two_204 h l2 (lxu l3 v13) W
      refine j_runA hx 3 (tb := [(166, .lload_n 3), (167, .iload 8), (169, .lshl)]) (jtb_ok (by decide +kernel)) (pc' := 170) (lv' := [(8, vI v13), (0, vR t), (1, vI a1), (2, vI l2), (3, vL l3), (5, vL l5), (7, vI l7)]) (st' := [vL (lxl l3 v13)]) rfl ?_
      refine j_goto hx (off := 34) (by decide +kernel) (tgt := 204) (by decide) ?_
      refine j_lv (lv' := [(0, vR t), (1, vI a1), (2, vI l2)]) ⟨rfl, rfl, rfl, trivial⟩ ?_
      exact wma_two_204 h l2 (lxl l3 v13) W
    refine j_runA hx 2 (tb := [(99, .lload 5), (101, .lconst 0)]) (jtb_ok (by decide +kernel)) (pc' := 102) (lv' := [(8, vI v13), (0, vR t), (1, vI a1), (2, vI l2), (3, vL l3), (5, vL l5), (7, vI l7)]) (st' := [vL (kJ 0), vL l5]) rfl ?_
    refine j_lcmp_ne hx (off := 7) (tgt := 110) (by decide +kernel) (by decide +kernel) (by decide) (fun _ => ?_) (fun _ => ?_)
    · refine j_runA hx 1 (tb := [(110, .iload_n 2)]) (jtb_ok (by decide +kernel)) (pc' := 111) (lv' := [(8, vI v13), (0, vR t), (1, vI a1), (2, vI l2), (3, vL l3), (5, vL l5), (7, vI l7)]) (st' := [vI l2]) rfl ?_
      refine j_if_eq hx (off := 24) (tgt := 135) (by decide +kernel) (by decide) (fun _ => ?_) (fun _ => ?_)
      · refine j_runA hx 3 (tb := [(135, .lload 5), (137, .l2i), (138, .iconst (-1))]) (jtb_ok (by decide +kernel)) (pc' := 139) (lv' := [(8, vI v13), (0, vR t), (1, vI a1), (2, vI l2), (3, vL l3), (5, vL l5), (7, vI l7)]) (st' := [vI (kI (-1)), vI l5.toInt32]) rfl ?_
        refine j_icmp_ne hx (off := 8) (tgt := 147) (by decide +kernel) (by decide) (fun _ => ?_) (fun _ => ?_)
        · refine j_runA hx 4 (tb := [(147, .lload_n 3), (148, .l2i), (149, .lload 5), (151, .l2i)]) (jtb_ok (by decide +kernel)) (pc' := 152) (lv' := [(8, vI v13), (0, vR t), (1, vI a1), (2, vI l2), (3, vL l3), (5, vL l5), (7, vI l7)]) (st' := [vI l5.toInt32, vI l3.toInt32]) rfl ?_
          refine j_gd (fun h14 => ?_)
          refine j_idiv hx (by decide +kernel) h14 ?_
          refine j_runA hx 1 (tb := [(153, .i2l)]) (jtb_ok (by decide +kernel)) (pc' := 154) (lv' := [(8, vI v13), (0, vR t), (1, vI a1), (2, vI l2), (3, vL l3), (5, vL l5), (7, vI l7)]) (st' := [vL ((l3.toInt32 / l5.toInt32).toInt64)]) rfl ?_
          refine j_lv (lv' := [(0, vR t), (1, vI a1), (2, vI l2)]) ⟨rfl, rfl, rfl, trivial⟩ ?_
          exact wma_two_154 h l2 ((l3.toInt32 / l5.toInt32).toInt64) W
        refine j_runA hx 2 (tb := [(142, .lload_n 3), (143, .lneg)]) (jtb_ok (by decide +kernel)) (pc' := 144) (lv' := [(8, vI v13), (0, vR t), (1, vI a1), (2, vI l2), (3, vL l3), (5, vL l5), (7, vI l7)]) (st' := [vL (-l3)]) rfl ?_
        refine j_goto hx (off := 10) (by decide +kernel) (tgt := 154) (by decide) ?_
        refine j_lv (lv' := [(0, vR t), (1, vI a1), (2, vI l2)]) ⟨rfl, rfl, rfl, trivial⟩ ?_
        exact wma_two_154 h l2 (-l3) W
      refine j_runA hx 1 (tb := [(114, .lload 5)]) (jtb_ok (by decide +kernel)) (pc' := 116) (lv' := [(8, vI v13), (0, vR t), (1, vI a1), (2, vI l2), (3, vL l3), (5, vL l5), (7, vI l7)]) (st' := [vL l5]) rfl ?_
      refine j_ldc2 hx (v := (kJ (-1))) (jkd2 q2131 (by decide +kernel)) (by decide +kernel) ?_
      refine j_lcmp_ne hx (off := 8) (tgt := 128) (by decide +kernel) (by decide +kernel) (by decide) (fun _ => ?_) (fun _ => ?_)
      · refine j_runA hx 2 (tb := [(128, .lload_n 3), (129, .lload 5)]) (jtb_ok (by decide +kernel)) (pc' := 131) (lv' := [(8, vI v13), (0, vR t), (1, vI a1), (2, vI l2), (3, vL l3), (5, vL l5), (7, vI l7)]) (st' := [vL l5, vL l3]) rfl ?_
        refine j_gd (fun h15 => ?_)
        refine j_ldiv hx (by decide +kernel) h15 ?_
        refine j_goto hx (off := 22) (by decide +kernel) (tgt := 154) (by decide) ?_
        refine j_lv (lv' := [(0, vR t), (1, vI a1), (2, vI l2)]) ⟨rfl, rfl, rfl, trivial⟩ ?_
        exact wma_two_154 h l2 (l3 / l5) W
      refine j_runA hx 2 (tb := [(123, .lload_n 3), (124, .lneg)]) (jtb_ok (by decide +kernel)) (pc' := 125) (lv' := [(8, vI v13), (0, vR t), (1, vI a1), (2, vI l2), (3, vL l3), (5, vL l5), (7, vI l7)]) (st' := [vL (-l3)]) rfl ?_
      refine j_goto hx (off := 29) (by decide +kernel) (tgt := 154) (by decide) ?_
      refine j_lv (lv' := [(0, vR t), (1, vI a1), (2, vI l2)]) ⟨rfl, rfl, rfl, trivial⟩ ?_
      exact wma_two_154 h l2 (-l3) W
    refine j_runA hx 1 (tb := [(106, .lconst 0)]) (jtb_ok (by decide +kernel)) (pc' := 107) (lv' := [(8, vI v13), (0, vR t), (1, vI a1), (2, vI l2), (3, vL l3), (5, vL l5), (7, vI l7)]) (st' := [vL (kJ 0)]) rfl ?_
    refine j_goto hx (off := 47) (by decide +kernel) (tgt := 154) (by decide) ?_
    refine j_lv (lv' := [(0, vR t), (1, vI a1), (2, vI l2)]) ⟨rfl, rfl, rfl, trivial⟩ ?_
    exact wma_two_154 h l2 (kJ 0) W
  refine j_runA hx 2 (tb := [(71, .lload 5), (73, .lconst 0)]) (jtb_ok (by decide +kernel)) (pc' := 74) (lv' := [(8, vI v13), (0, vR t), (1, vI a1), (2, vI l2), (3, vL l3), (5, vL l5), (7, vI l7)]) (st' := [vL (kJ 0), vL l5]) rfl ?_
  refine j_lcmp_ne hx (off := 7) (tgt := 82) (by decide +kernel) (by decide +kernel) (by decide) (fun _ => ?_) (fun _ => ?_)
  · refine j_runA hx 2 (tb := [(82, .lload_n 3), (83, .lload 5)]) (jtb_ok (by decide +kernel)) (pc' := 85) (lv' := [(8, vI v13), (0, vR t), (1, vI a1), (2, vI l2), (3, vL l3), (5, vL l5), (7, vI l7)]) (st' := [vL l5, vL l3]) rfl ?_
    refine j_OL (j_callS (av := [vL l3, vL l5]) (st := []) hx hr (Or.inl q2149) q2150 q252 md_fma_quotient np_fma_quotient (cma_quotient l3 l5 W) (by decide) (Nat.le_of_ble_eq_true rfl) (by decide +kernel)) (fun q16 _ => ?_)
    refine j_lv (lv' := [(0, vR t), (1, vI a1), (2, vI l2)]) ⟨rfl, rfl, rfl, trivial⟩ ?_
    exact wma_two_88 h l2 q16 W
  refine j_runA hx 1 (tb := [(78, .lconst 0)]) (jtb_ok (by decide +kernel)) (pc' := 79) (lv' := [(8, vI v13), (0, vR t), (1, vI a1), (2, vI l2), (3, vL l3), (5, vL l5), (7, vI l7)]) (st' := [vL (kJ 0)]) rfl ?_
  refine j_goto hx (off := 9) (by decide +kernel) (tgt := 88) (by decide) ?_
  refine j_lv (lv' := [(0, vR t), (1, vI a1), (2, vI l2)]) ⟨rfl, rfl, rfl, trivial⟩ ?_
  exact wma_two_88 h l2 (kJ 0) W
theorem wma_two_42 {x : jCx} {en : ((Nat × jW) ⊕ jW) → Option (Outcome × jW)} {t : Nat} {a1 : Int32} (h : hma_two x en t a1) (l2 : Int32) (l3 : Int64) (l5 : Int64) (W : jW) : jJ x 11 42 [(0, vR t), (1, vI a1), (2, vI l2), (3, vL l3), (5, vL l5)] [] W (fma_two_42 t a1 l2 l3 l5 W) en := by
  have h0 := h
  obtain ⟨hx, hm, hr, he, ht⟩ := h0
  unfold fma_two_42
  refine j_runA hx 1 (tb := [(42, .iload_n 1)]) (jtb_ok (by decide +kernel)) (pc' := 43) (lv' := [(0, vR t), (1, vI a1), (2, vI l2), (3, vL l3), (5, vL l5)]) (st' := [vI a1]) rfl ?_
  refine j_TI (j_callS (av := [vI a1]) (st := []) hx hr (Or.inl q2122) q964 q247 md_fwo_amount np_fwo_amount (cwo_amount a1 W) (by decide) (Nat.le_of_ble_eq_true rfl) (by decide +kernel)) ?_
  refine j_runA hx 1 (tb := [(46, .istore 7)]) (jtb_ok (by decide +kernel)) (pc' := 48) (lv' := [(7, vI (fwo_amount a1)), (0, vR t), (1, vI a1), (2, vI l2), (3, vL l3), (5, vL l5)]) (st' := []) rfl ?_
  refine j_let (v := (fwo_amount a1)) (lv := fun v11 => [(7, vI v11), (0, vR t), (1, vI a1), (2, vI l2), (3, vL l3), (5, vL l5)]) (st := fun _ => []) (fun v11 => ?_)
  refine j_runA hx 3 (tb := [(48, .lload 5), (50, .l2i), (51, .iload_n 2)]) (jtb_ok (by decide +kernel)) (pc' := 52) (lv' := [(7, vI v11), (0, vR t), (1, vI a1), (2, vI l2), (3, vL l3), (5, vL l5)]) (st' := [vI l2, vI l5.toInt32]) rfl ?_
  refine j_if_eq hx (off := 8) (tgt := 60) (by decide +kernel) (by decide) (fun _ => ?_) (fun _ => ?_)
  · refine j_runA hx 1 (tb := [(60, .bipush 31)]) (jtb_ok (by decide +kernel)) (pc' := 62) (lv' := [(7, vI v11), (0, vR t), (1, vI a1), (2, vI l2), (3, vL l3), (5, vL l5)]) (st' := [vI (kI 31), vI l5.toInt32]) rfl ?_
    refine j_lv (lv' := [(0, vR t), (1, vI a1), (2, vI l2), (3, vL l3), (5, vL l5), (7, vI v11)]) ⟨rfl, rfl, rfl, rfl, rfl, rfl, trivial⟩ ?_
    exact wma_two_62 h l2 l3 l5 v11 (kI 31) l5.toInt32 W
  refine j_runA hx 1 (tb := [(55, .bipush 63)]) (jtb_ok (by decide +kernel)) (pc' := 57) (lv' := [(7, vI v11), (0, vR t), (1, vI a1), (2, vI l2), (3, vL l3), (5, vL l5)]) (st' := [vI (kI 63), vI l5.toInt32]) rfl ?_
  refine j_goto hx (off := 5) (by decide +kernel) (tgt := 62) (by decide) ?_
  refine j_lv (lv' := [(0, vR t), (1, vI a1), (2, vI l2), (3, vL l3), (5, vL l5), (7, vI v11)]) ⟨rfl, rfl, rfl, rfl, rfl, rfl, trivial⟩ ?_
  exact wma_two_62 h l2 l3 l5 v11 (kI 63) l5.toInt32 W
theorem wma_two {x : jCx} {en : ((Nat × jW) ⊕ jW) → Option (Outcome × jW)} {t : Nat} {a1 : Int32} (h : hma_two x en t a1) (W : jW) : jJ x 11 0 [(0, vR t), (1, vI a1)] [] W (fma_two t a1 W) en := by
  have h0 := h
  obtain ⟨hx, hm, hr, he, ht⟩ := h0
  unfold fma_two
  refine j_runA hx 1 (tb := [(0, .iload_n 1)]) (jtb_ok (by decide +kernel)) (pc' := 1) (lv' := [(0, vR t), (1, vI a1)]) (st' := [vI a1]) rfl ?_
  refine j_TI (j_callS (av := [vI a1]) (st := []) hx hr (Or.inl q2084) q961 q247 md_fwo_isLong np_fwo_isLong (cwo_isLong a1 W) (by decide) (Nat.le_of_ble_eq_true rfl) (by decide +kernel)) ?_
  refine j_runA hx 1 (tb := [(4, .istore_n 2)]) (jtb_ok (by decide +kernel)) (pc' := 5) (lv' := [(2, vI (fwo_isLong a1)), (0, vR t), (1, vI a1)]) (st' := []) rfl ?_
  refine j_let (v := (fwo_isLong a1)) (lv := fun v1 => [(2, vI v1), (0, vR t), (1, vI a1)]) (st := fun _ => []) (fun v1 => ?_)
  refine j_runA hx 2 (tb := [(5, .aload_n 0), (6, .iload_n 1)]) (jtb_ok (by decide +kernel)) (pc' := 7) (lv' := [(2, vI v1), (0, vR t), (1, vI a1)]) (st' := [vI a1, vR t]) rfl ?_
  refine j_TI (j_callS (av := [vI a1]) (st := [vR t]) hx hr (Or.inl q2073) q998 q247 md_fwo_n np_fwo_n (cwo_n a1 W) (by decide) (Nat.le_of_ble_eq_true rfl) (by decide +kernel)) ?_
  refine j_gd (fun h2 => ?_)
  refine j_EL (j_callV (av := [vI (fwo_n a1)]) (st := []) hx hr (Or.inl q2114) q2116 qs94 rfl md_fma_number np_fma_number (cma_number t (fwo_n a1) W) (by decide) (Nat.le_of_ble_eq_true rfl) h2 (by decide) (by decide +kernel)) (fun z _ r h9 => j_upE hm hx (ht z) h9) (fun q3 _ => ?_)
  refine j_runA hx 3 (tb := [(13, .lstore_n 3), (14, .aload_n 0), (15, .iload_n 1)]) (jtb_ok (by decide +kernel)) (pc' := 16) (lv' := [(3, vL q3.1), (2, vI v1), (0, vR t), (1, vI a1)]) (st' := [vI a1, vR t]) rfl ?_
  refine j_TI (j_callS (av := [vI a1]) (st := [vR t]) hx hr (Or.inl q2111) q2112 q247 md_fwo_m np_fwo_m (cwo_m a1 q3.2) (by decide) (Nat.le_of_ble_eq_true rfl) (by decide +kernel)) ?_
  refine j_gd (fun h5 => ?_)
  refine j_EL (j_callV (av := [vI (fwo_m a1)]) (st := []) hx hr (Or.inl q2114) q2116 qs94 rfl md_fma_number np_fma_number (cma_number t (fwo_m a1) q3.2) (by decide) (Nat.le_of_ble_eq_true rfl) h5 (by decide) (by decide +kernel)) (fun z _ r h9 => j_upE hm hx (ht z) h9) (fun q6 _ => ?_)
  refine j_runA hx 2 (tb := [(22, .lstore 5), (24, .iload_n 2)]) (jtb_ok (by decide +kernel)) (pc' := 25) (lv' := [(5, vL q6.1), (3, vL q3.1), (2, vI v1), (0, vR t), (1, vI a1)]) (st' := [vI v1]) rfl ?_
  refine j_if_ne hx (off := 17) (tgt := 42) (by decide +kernel) (by decide) (fun _ => ?_) (fun _ => ?_)
  · refine j_lv (lv' := [(0, vR t), (1, vI a1), (2, vI v1), (3, vL q3.1), (5, vL q6.1)]) ⟨rfl, rfl, rfl, rfl, rfl, trivial⟩ ?_
    exact wma_two_42 h v1 q3.1 q6.1 q6.2
  refine j_runA hx 1 (tb := [(28, .lload_n 3)]) (jtb_ok (by decide +kernel)) (pc' := 29) (lv' := [(5, vL q6.1), (3, vL q3.1), (2, vI v1), (0, vR t), (1, vI a1)]) (st' := [vL q3.1]) rfl ?_
  refine j_ldc2 hx (v := (kJ 4294967295)) (jkd2 q2089 (by decide +kernel)) (by decide +kernel) ?_
  refine j_runA hx 2 (tb := [(32, .land), (33, .lstore_n 3)]) (jtb_ok (by decide +kernel)) (pc' := 34) (lv' := [(3, vL (q3.1 &&& (kJ 4294967295))), (5, vL q6.1), (2, vI v1), (0, vR t), (1, vI a1)]) (st' := []) rfl ?_
  refine j_let (v := (q3.1 &&& (kJ 4294967295))) (lv := fun v8 => [(3, vL v8), (5, vL q6.1), (2, vI v1), (0, vR t), (1, vI a1)]) (st := fun _ => []) (fun v8 => ?_)
  refine j_runA hx 1 (tb := [(34, .lload 5)]) (jtb_ok (by decide +kernel)) (pc' := 36) (lv' := [(3, vL v8), (5, vL q6.1), (2, vI v1), (0, vR t), (1, vI a1)]) (st' := [vL q6.1]) rfl ?_
  refine j_ldc2 hx (v := (kJ 4294967295)) (jkd2 q2089 (by decide +kernel)) (by decide +kernel) ?_
  refine j_runA hx 2 (tb := [(39, .land), (40, .lstore 5)]) (jtb_ok (by decide +kernel)) (pc' := 42) (lv' := [(5, vL (q6.1 &&& (kJ 4294967295))), (3, vL v8), (2, vI v1), (0, vR t), (1, vI a1)]) (st' := []) rfl ?_
  refine j_let (v := (q6.1 &&& (kJ 4294967295))) (lv := fun v9 => [(5, vL v9), (3, vL v8), (2, vI v1), (0, vR t), (1, vI a1)]) (st := fun _ => []) (fun v9 => ?_)
  refine j_lv (lv' := [(0, vR t), (1, vI a1), (2, vI v1), (3, vL v8), (5, vL v9)]) ⟨rfl, rfl, rfl, rfl, rfl, trivial⟩ ?_
  exact wma_two_42 h v1 v8 v9 q6.2
theorem cma_two (t : Nat) (a1 : Int32) (W : jW) : jM yX15_two cX15_two 11 (Option.none : Option Jvm.ClassFile.FieldType) [] 3 39 [vR t, vI a1] W ((fma_two t a1 W).bind (fun q => some (Sum.elim (fun z => (.threw (z.1 - 1), z.2)) (fun q => (.returned none, q)) q))) := 
  jM.of (Nat.le_of_ble_eq_true rfl) (fun x hx hm hr => wma_two ⟨hx, hm, hr, fun _ => rfl, fun _ => rfl⟩ W)
def hma_holds (x : jCx) (en : (Int32) → Option (Outcome × jW)) (t : Nat) (a1 : Int32) (W : jW) : Prop :=
  jOK x RX15 cX15_holds 3 ∧
  jMt x "holds" (Option.some Jvm.ClassFile.FieldType.boolean) [] ∧
  jRm x 0 0 ∧
  (∀ q : Int32, en q = some (.returned (some (.int q)), W))
theorem wma_holds_151 {x : jCx} {en : (Int32) → Option (Outcome × jW)} {W : jW} {t : Nat} {a1 : Int32} (h : hma_holds x en t a1 W) (s0 : Int32) (s1 : Int32) : jJ x 3 151 [(0, vR t), (1, vI a1)] [vI s0, vI s1] W (fma_holds_151 t a1 s0 s1 W) en := by
  have h0 := h
  obtain ⟨hx, hm, hr, he⟩ := h0
  unfold fma_holds_151
  refine j_icmp_ne hx (off := 7) (tgt := 158) (by decide +kernel) (by decide) (fun _ => ?_) (fun _ => ?_)
  · refine j_runA hx 1 (tb := [(158, .iconst 0)]) (jtb_ok (by decide +kernel)) (pc' := 159) (lv' := [(0, vR t), (1, vI a1)]) (st' := [vI (kI 0)]) rfl ?_
    exact j_iret hx hm (by decide +kernel) jz0n (he _)
  refine j_runA hx 1 (tb := [(154, .iconst 1)]) (jtb_ok (by decide +kernel)) (pc' := 155) (lv' := [(0, vR t), (1, vI a1)]) (st' := [vI (kI 1)]) rfl ?_
  refine j_goto hx (off := 4) (by decide +kernel) (tgt := 159) (by decide) ?_
  exact j_iret hx hm (by decide +kernel) jz1n (he _)
theorem wma_holds_139 {x : jCx} {en : (Int32) → Option (Outcome × jW)} {W : jW} {t : Nat} {a1 : Int32} (h : hma_holds x en t a1 W) (l2 : Int32) : jJ x 3 139 [(0, vR t), (1, vI a1), (2, vI l2)] [] W (fma_holds_139 t a1 l2 W) en := by
  have h0 := h
  obtain ⟨hx, hm, hr, he⟩ := h0
  unfold fma_holds_139
  refine j_runA hx 4 (tb := [(139, .iload_n 2), (140, .iload_n 1), (141, .iconst 1), (142, .iand)]) (jtb_ok (by decide +kernel)) (pc' := 143) (lv' := [(0, vR t), (1, vI a1), (2, vI l2)]) (st' := [vI (a1 &&& (kI 1)), vI l2]) rfl ?_
  refine j_if_ne hx (off := 7) (tgt := 150) (by decide +kernel) (by decide) (fun _ => ?_) (fun _ => ?_)
  · refine j_runA hx 1 (tb := [(150, .iconst 0)]) (jtb_ok (by decide +kernel)) (pc' := 151) (lv' := [(0, vR t), (1, vI a1), (2, vI l2)]) (st' := [vI (kI 0), vI l2]) rfl ?_
    refine j_lv (lv' := [(0, vR t), (1, vI a1)]) ⟨rfl, rfl, trivial⟩ ?_
    exact wma_holds_151 h (kI 0) l2
  refine j_runA hx 1 (tb := [(146, .iconst 1)]) (jtb_ok (by decide +kernel)) (pc' := 147) (lv' := [(0, vR t), (1, vI a1), (2, vI l2)]) (st' := [vI (kI 1), vI l2]) rfl ?_
  refine j_goto hx (off := 4) (by decide +kernel) (tgt := 151) (by decide) ?_
  refine j_lv (lv' := [(0, vR t), (1, vI a1)]) ⟨rfl, rfl, trivial⟩ ?_
  exact wma_holds_151 h (kI 1) l2
theorem wma_holds_138 {x : jCx} {en : (Int32) → Option (Outcome × jW)} {W : jW} {t : Nat} {a1 : Int32} (h : hma_holds x en t a1 W) (s0 : Int32) : jJ x 3 138 [(0, vR t), (1, vI a1)] [vI s0] W (fma_holds_138 t a1 s0 W) en := by
  have h0 := h
  obtain ⟨hx, hm, hr, he⟩ := h0
  unfold fma_holds_138
  refine j_runA hx 1 (tb := [(138, .istore_n 2)]) (jtb_ok (by decide +kernel)) (pc' := 139) (lv' := [(2, vI s0), (0, vR t), (1, vI a1)]) (st' := []) rfl ?_
  refine j_lv (lv' := [(0, vR t), (1, vI a1), (2, vI s0)]) ⟨rfl, rfl, rfl, trivial⟩ ?_
  exact wma_holds_139 h s0
theorem wma_holds_137 {x : jCx} {en : (Int32) → Option (Outcome × jW)} {W : jW} {t : Nat} {a1 : Int32} (h : hma_holds x en t a1 W) : jJ x 3 137 [(0, vR t), (1, vI a1)] [] W (fma_holds_137 t a1 W) en := by
  have h0 := h
  obtain ⟨hx, hm, hr, he⟩ := h0
  unfold fma_holds_137
  refine j_runA hx 1 (tb := [(137, .iconst 0)]) (jtb_ok (by decide +kernel)) (pc' := 138) (lv' := [(0, vR t), (1, vI a1)]) (st' := [vI (kI 0)]) rfl ?_
  exact wma_holds_138 h (kI 0)
theorem wma_holds_91 {x : jCx} {en : (Int32) → Option (Outcome × jW)} {W : jW} {t : Nat} {a1 : Int32} (h : hma_holds x en t a1 W) (s0 : Int32) : jJ x 3 91 [(0, vR t), (1, vI a1)] [vI s0] W (fma_holds_91 t a1 s0 W) en := by
  have h0 := h
  obtain ⟨hx, hm, hr, he⟩ := h0
  unfold fma_holds_91
  refine j_runA hx 1 (tb := [(91, .istore_n 2)]) (jtb_ok (by decide +kernel)) (pc' := 92) (lv' := [(2, vI s0), (0, vR t), (1, vI a1)]) (st' := []) rfl ?_
  refine j_goto hx (off := 47) (by decide +kernel) (tgt := 139) (by decide) ?_
  refine j_lv (lv' := [(0, vR t), (1, vI a1), (2, vI s0)]) ⟨rfl, rfl, rfl, trivial⟩ ?_
  exact wma_holds_139 h s0
theorem wma_holds_90 {x : jCx} {en : (Int32) → Option (Outcome × jW)} {W : jW} {t : Nat} {a1 : Int32} (h : hma_holds x en t a1 W) : jJ x 3 90 [(0, vR t), (1, vI a1)] [] W (fma_holds_90 t a1 W) en := by
  have h0 := h
  obtain ⟨hx, hm, hr, he⟩ := h0
  unfold fma_holds_90
  refine j_runA hx 1 (tb := [(90, .iconst 0)]) (jtb_ok (by decide +kernel)) (pc' := 91) (lv' := [(0, vR t), (1, vI a1)]) (st' := [vI (kI 0)]) rfl ?_
  exact wma_holds_91 h (kI 0)
theorem wma_holds_111 {x : jCx} {en : (Int32) → Option (Outcome × jW)} {W : jW} {t : Nat} {a1 : Int32} (h : hma_holds x en t a1 W) (s0 : Int32) : jJ x 3 111 [(0, vR t), (1, vI a1)] [vI s0] W (fma_holds_111 t a1 s0 W) en := by
  have h0 := h
  obtain ⟨hx, hm, hr, he⟩ := h0
  unfold fma_holds_111
  refine j_runA hx 1 (tb := [(111, .istore_n 2)]) (jtb_ok (by decide +kernel)) (pc' := 112) (lv' := [(2, vI s0), (0, vR t), (1, vI a1)]) (st' := []) rfl ?_
  refine j_goto hx (off := 27) (by decide +kernel) (tgt := 139) (by decide) ?_
  refine j_lv (lv' := [(0, vR t), (1, vI a1), (2, vI s0)]) ⟨rfl, rfl, rfl, trivial⟩ ?_
  exact wma_holds_139 h s0
theorem wma_holds {x : jCx} {en : (Int32) → Option (Outcome × jW)} {W : jW} {t : Nat} {a1 : Int32} (h : hma_holds x en t a1 W) : jJ x 3 0 [(0, vR t), (1, vI a1)] [] W (fma_holds t a1 W) en := by
  have h0 := h
  obtain ⟨hx, hm, hr, he⟩ := h0
  unfold fma_holds
  refine j_runA hx 3 (tb := [(0, .iload_n 1), (1, .iconst 1), (2, .ishr)]) (jtb_ok (by decide +kernel)) (pc' := 3) (lv' := [(0, vR t), (1, vI a1)]) (st' := [vI (ixr a1 (kI 1))]) rfl ?_
  refine j_let (v := (ixr a1 (kI 1))) (lv := fun _ => [(0, vR t), (1, vI a1)]) (st := fun v1 => [vI v1]) (fun v1 => ?_)
  refine j_tab hx (dflt := 112) (lo := 0) (hi := 5) (offs := #[37, 45, 53, 61, 69, 92]) (len := 37) (k := 0) (off := 37) (tgt := 40) (by decide +kernel) (by decide) (by decide) (by decide) rfl (by decide) (fun _ => ?_) (fun h2 => ?_)
  · refine j_runA hx 1 (tb := [(40, .aload_n 0)]) (jtb_ok (by decide +kernel)) (pc' := 41) (lv' := [(0, vR t), (1, vI a1)]) (st' := [vR t]) rfl ?_
    refine j_gd (fun h3 => ?_)
    refine j_getI hx flX15_90 kd1011 h3 (by decide) (by decide +kernel) ?_
    refine j_runA hx 1 (tb := [(44, .istore_n 2)]) (jtb_ok (by decide +kernel)) (pc' := 45) (lv' := [(2, vI (jI W 1011 t)), (0, vR t), (1, vI a1)]) (st' := []) rfl ?_
    refine j_let (v := (jI W 1011 t)) (lv := fun v4 => [(2, vI v4), (0, vR t), (1, vI a1)]) (st := fun _ => []) (fun v4 => ?_)
    refine j_goto hx (off := 94) (by decide +kernel) (tgt := 139) (by decide) ?_
    refine j_lv (lv' := [(0, vR t), (1, vI a1), (2, vI v4)]) ⟨rfl, rfl, rfl, trivial⟩ ?_
    exact wma_holds_139 h v4
  refine j_tab hx (dflt := 112) (lo := 0) (hi := 5) (offs := #[37, 45, 53, 61, 69, 92]) (len := 37) (k := 1) (off := 45) (tgt := 48) (by decide +kernel) (by decide) (by decide) (by decide) rfl (by decide) (fun _ => ?_) (fun h5 => ?_)
  · refine j_runA hx 1 (tb := [(48, .aload_n 0)]) (jtb_ok (by decide +kernel)) (pc' := 49) (lv' := [(0, vR t), (1, vI a1)]) (st' := [vR t]) rfl ?_
    refine j_gd (fun h6 => ?_)
    refine j_getI hx flX15_93 kd1012 h6 (by decide) (by decide +kernel) ?_
    refine j_runA hx 1 (tb := [(52, .istore_n 2)]) (jtb_ok (by decide +kernel)) (pc' := 53) (lv' := [(2, vI (jI W 1012 t)), (0, vR t), (1, vI a1)]) (st' := []) rfl ?_
    refine j_let (v := (jI W 1012 t)) (lv := fun v7 => [(2, vI v7), (0, vR t), (1, vI a1)]) (st := fun _ => []) (fun v7 => ?_)
    refine j_goto hx (off := 86) (by decide +kernel) (tgt := 139) (by decide) ?_
    refine j_lv (lv' := [(0, vR t), (1, vI a1), (2, vI v7)]) ⟨rfl, rfl, rfl, trivial⟩ ?_
    exact wma_holds_139 h v7
  refine j_tab hx (dflt := 112) (lo := 0) (hi := 5) (offs := #[37, 45, 53, 61, 69, 92]) (len := 37) (k := 2) (off := 53) (tgt := 56) (by decide +kernel) (by decide) (by decide) (by decide) rfl (by decide) (fun _ => ?_) (fun h8 => ?_)
  · refine j_runA hx 1 (tb := [(56, .aload_n 0)]) (jtb_ok (by decide +kernel)) (pc' := 57) (lv' := [(0, vR t), (1, vI a1)]) (st' := [vR t]) rfl ?_
    refine j_gd (fun h9 => ?_)
    refine j_getI hx flX15_87 kd1010 h9 (by decide) (by decide +kernel) ?_
    refine j_runA hx 1 (tb := [(60, .istore_n 2)]) (jtb_ok (by decide +kernel)) (pc' := 61) (lv' := [(2, vI (jI W 1010 t)), (0, vR t), (1, vI a1)]) (st' := []) rfl ?_
    refine j_let (v := (jI W 1010 t)) (lv := fun v10 => [(2, vI v10), (0, vR t), (1, vI a1)]) (st := fun _ => []) (fun v10 => ?_)
    refine j_goto hx (off := 78) (by decide +kernel) (tgt := 139) (by decide) ?_
    refine j_lv (lv' := [(0, vR t), (1, vI a1), (2, vI v10)]) ⟨rfl, rfl, rfl, trivial⟩ ?_
    exact wma_holds_139 h v10
  refine j_tab hx (dflt := 112) (lo := 0) (hi := 5) (offs := #[37, 45, 53, 61, 69, 92]) (len := 37) (k := 3) (off := 61) (tgt := 64) (by decide +kernel) (by decide) (by decide) (by decide) rfl (by decide) (fun _ => ?_) (fun h11 => ?_)
  · refine j_runA hx 1 (tb := [(64, .aload_n 0)]) (jtb_ok (by decide +kernel)) (pc' := 65) (lv' := [(0, vR t), (1, vI a1)]) (st' := [vR t]) rfl ?_
    refine j_gd (fun h12 => ?_)
    refine j_getI hx flX15_96 kd1013 h12 (by decide) (by decide +kernel) ?_
    refine j_runA hx 1 (tb := [(68, .istore_n 2)]) (jtb_ok (by decide +kernel)) (pc' := 69) (lv' := [(2, vI (jI W 1013 t)), (0, vR t), (1, vI a1)]) (st' := []) rfl ?_
    refine j_let (v := (jI W 1013 t)) (lv := fun v13 => [(2, vI v13), (0, vR t), (1, vI a1)]) (st := fun _ => []) (fun v13 => ?_)
    refine j_goto hx (off := 70) (by decide +kernel) (tgt := 139) (by decide) ?_
    refine j_lv (lv' := [(0, vR t), (1, vI a1), (2, vI v13)]) ⟨rfl, rfl, rfl, trivial⟩ ?_
    exact wma_holds_139 h v13
  refine j_tab hx (dflt := 112) (lo := 0) (hi := 5) (offs := #[37, 45, 53, 61, 69, 92]) (len := 37) (k := 4) (off := 69) (tgt := 72) (by decide +kernel) (by decide) (by decide) (by decide) rfl (by decide) (fun _ => ?_) (fun h14 => ?_)
  · refine j_runA hx 1 (tb := [(72, .aload_n 0)]) (jtb_ok (by decide +kernel)) (pc' := 73) (lv' := [(0, vR t), (1, vI a1)]) (st' := [vR t]) rfl ?_
    refine j_gd (fun h15 => ?_)
    refine j_getI hx flX15_93 kd1012 h15 (by decide) (by decide +kernel) ?_
    refine j_if_eq hx (off := 14) (tgt := 90) (by decide +kernel) (by decide) (fun _ => ?_) (fun _ => ?_)
    · exact wma_holds_90 h
    refine j_runA hx 1 (tb := [(79, .aload_n 0)]) (jtb_ok (by decide +kernel)) (pc' := 80) (lv' := [(0, vR t), (1, vI a1)]) (st' := [vR t]) rfl ?_
    refine j_getI hx flX15_90 kd1011 h15 (by decide) (by decide +kernel) ?_
    refine j_if_ne hx (off := 7) (tgt := 90) (by decide +kernel) (by decide) (fun _ => ?_) (fun _ => ?_)
    · exact wma_holds_90 h
    refine j_runA hx 1 (tb := [(86, .iconst 1)]) (jtb_ok (by decide +kernel)) (pc' := 87) (lv' := [(0, vR t), (1, vI a1)]) (st' := [vI (kI 1)]) rfl ?_
    refine j_goto hx (off := 4) (by decide +kernel) (tgt := 91) (by decide) ?_
    exact wma_holds_91 h (kI 1)
  refine j_tab hx (dflt := 112) (lo := 0) (hi := 5) (offs := #[37, 45, 53, 61, 69, 92]) (len := 37) (k := 5) (off := 92) (tgt := 95) (by decide +kernel) (by decide) (by decide) (by decide) rfl (by decide) (fun _ => ?_) (fun h16 => ?_)
  · refine j_runA hx 1 (tb := [(95, .aload_n 0)]) (jtb_ok (by decide +kernel)) (pc' := 96) (lv' := [(0, vR t), (1, vI a1)]) (st' := [vR t]) rfl ?_
    refine j_gd (fun h17 => ?_)
    refine j_getI hx flX15_87 kd1010 h17 (by decide) (by decide +kernel) ?_
    refine j_runA hx 1 (tb := [(99, .aload_n 0)]) (jtb_ok (by decide +kernel)) (pc' := 100) (lv' := [(0, vR t), (1, vI a1)]) (st' := [vR t, vI (jI W 1010 t)]) rfl ?_
    refine j_getI hx flX15_96 kd1013 h17 (by decide) (by decide +kernel) ?_
    refine j_icmp_ne hx (off := 7) (tgt := 110) (by decide +kernel) (by decide) (fun _ => ?_) (fun _ => ?_)
    · refine j_runA hx 1 (tb := [(110, .iconst 0)]) (jtb_ok (by decide +kernel)) (pc' := 111) (lv' := [(0, vR t), (1, vI a1)]) (st' := [vI (kI 0)]) rfl ?_
      exact wma_holds_111 h (kI 0)
    refine j_runA hx 1 (tb := [(106, .iconst 1)]) (jtb_ok (by decide +kernel)) (pc' := 107) (lv' := [(0, vR t), (1, vI a1)]) (st' := [vI (kI 1)]) rfl ?_
    refine j_goto hx (off := 4) (by decide +kernel) (tgt := 111) (by decide) ?_
    exact wma_holds_111 h (kI 1)
  refine j_tabD hx (dflt := 112) (lo := 0) (hi := 5) (offs := #[37, 45, 53, 61, 69, 92]) (len := 37) (tgt := 115) (by decide +kernel) (by decide) (fun i hi => by
    match i, hi with
    | 0, _ => exact Or.inr h2
    | 1, _ => exact Or.inr h5
    | 2, _ => exact Or.inr h8
    | 3, _ => exact Or.inr h11
    | 4, _ => exact Or.inr h14
    | 5, _ => exact Or.inr h16
    | n + 6, h => exact absurd h (by omega)) ?_
  refine j_runA hx 1 (tb := [(115, .aload_n 0)]) (jtb_ok (by decide +kernel)) (pc' := 116) (lv' := [(0, vR t), (1, vI a1)]) (st' := [vR t]) rfl ?_
  refine j_gd (fun h18 => ?_)
  refine j_getI hx flX15_87 kd1010 h18 (by decide) (by decide +kernel) ?_
  refine j_runA hx 1 (tb := [(119, .aload_n 0)]) (jtb_ok (by decide +kernel)) (pc' := 120) (lv' := [(0, vR t), (1, vI a1)]) (st' := [vR t, vI (jI W 1010 t)]) rfl ?_
  refine j_getI hx flX15_96 kd1013 h18 (by decide) (by decide +kernel) ?_
  refine j_icmp_ne hx (off := 14) (tgt := 137) (by decide +kernel) (by decide) (fun _ => ?_) (fun _ => ?_)
  · exact wma_holds_137 h
  refine j_runA hx 1 (tb := [(126, .aload_n 0)]) (jtb_ok (by decide +kernel)) (pc' := 127) (lv' := [(0, vR t), (1, vI a1)]) (st' := [vR t]) rfl ?_
  refine j_getI hx flX15_90 kd1011 h18 (by decide) (by decide +kernel) ?_
  refine j_if_ne hx (off := 7) (tgt := 137) (by decide +kernel) (by decide) (fun _ => ?_) (fun _ => ?_)
  · exact wma_holds_137 h
  refine j_runA hx 1 (tb := [(133, .iconst 1)]) (jtb_ok (by decide +kernel)) (pc' := 134) (lv' := [(0, vR t), (1, vI a1)]) (st' := [vI (kI 1)]) rfl ?_
  refine j_goto hx (off := 4) (by decide +kernel) (tgt := 138) (by decide) ?_
  exact wma_holds_138 h (kI 1)
theorem cma_holds (t : Nat) (a1 : Int32) (W : jW) : jM yX15_holds cX15_holds 3 (Option.some Jvm.ClassFile.FieldType.boolean) [] 0 0 [vR t, vI a1] W ((fma_holds t a1 W).bind (fun q => some (.returned (some (.int q)), W))) := 
  jM.of (Nat.le_of_ble_eq_true rfl) (fun x hx hm hr => wma_holds ⟨hx, hm, hr, fun _ => rfl⟩)
def hma_choose (x : jCx) (en : ((Nat × jW) ⊕ jW) → Option (Outcome × jW)) (t : Nat) (a1 : Int32) : Prop :=
  jOK x RX15 cX15_choose 5 ∧
  jMt x "choose" (Option.none : Option Jvm.ClassFile.FieldType) [] ∧
  jRm x 3 41 ∧
  (∀ q : jW, en (.inr q) = some (.returned none, q)) ∧
  (∀ z : Nat × jW, en (.inl z) = some (.threw (z.1 - 1), z.2))
theorem wma_choose_128 {x : jCx} {en : ((Nat × jW) ⊕ jW) → Option (Outcome × jW)} {t : Nat} {a1 : Int32} (h : hma_choose x en t a1) (s0 : Int32) (s1 : Int64) (s2 : Int32) (s3 : Nat) (W : jW) : jJ x 5 128 [(0, vR t), (1, vI a1)] [vI s0, vL s1, vI s2, vR s3] W (fma_choose_128 t a1 s0 s1 s2 s3 W) en := by
  have h0 := h
  obtain ⟨hx, hm, hr, he, ht⟩ := h0
  unfold fma_choose_128
  refine j_runA hx 3 (tb := [(128, .i2l), (129, .ladd), (130, .iload_n 1)]) (jtb_ok (by decide +kernel)) (pc' := 131) (lv' := [(0, vR t), (1, vI a1)]) (st' := [vI a1, vL (s1 + s0.toInt64), vI s2, vR s3]) rfl ?_
  refine j_TI (j_callS (av := [vI a1]) (st := [vL (s1 + s0.toInt64), vI s2, vR s3]) hx hr (Or.inl q2084) q961 q247 md_fwo_isLong np_fwo_isLong (cwo_isLong a1 W) (by decide) (Nat.le_of_ble_eq_true rfl) (by decide +kernel)) ?_
  refine j_gd (fun h17 => ?_)
  refine j_WV (j_callV (av := [vI s2, vL (s1 + s0.toInt64), vI (fwo_isLong a1)]) (st := []) hx hr (Or.inl q2095) q2097 qs90 rfl md_fma_put np_fma_put (cma_put s3 s2 (s1 + s0.toInt64) (fwo_isLong a1) W) (by decide) (Nat.le_of_ble_eq_true rfl) h17 (by decide) (by decide +kernel)) (fun q18 _ => ?_)
  exact j_vret hx hm (by decide +kernel) (he _)
theorem wma_choose_127 {x : jCx} {en : ((Nat × jW) ⊕ jW) → Option (Outcome × jW)} {t : Nat} {a1 : Int32} (h : hma_choose x en t a1) (s0 : Int64) (s1 : Int32) (s2 : Nat) (W : jW) : jJ x 5 127 [(0, vR t), (1, vI a1)] [vL s0, vI s1, vR s2] W (fma_choose_127 t a1 s0 s1 s2 W) en := by
  have h0 := h
  obtain ⟨hx, hm, hr, he, ht⟩ := h0
  unfold fma_choose_127
  refine j_runA hx 1 (tb := [(127, .iconst 0)]) (jtb_ok (by decide +kernel)) (pc' := 128) (lv' := [(0, vR t), (1, vI a1)]) (st' := [vI (kI 0), vL s0, vI s1, vR s2]) rfl ?_
  exact wma_choose_128 h (kI 0) s0 s1 s2 W
theorem wma_choose_104 {x : jCx} {en : ((Nat × jW) ⊕ jW) → Option (Outcome × jW)} {t : Nat} {a1 : Int32} (h : hma_choose x en t a1) (l2 : Int32) (l3 : Int32) (l4 : Int32) (W : jW) : jJ x 5 104 [(0, vR t), (1, vI a1), (2, vI l2), (3, vI l3), (4, vI l4)] [] W (fma_choose_104 t a1 l2 l3 l4 W) en := by
  have h0 := h
  obtain ⟨hx, hm, hr, he, ht⟩ := h0
  unfold fma_choose_104
  refine j_runA hx 2 (tb := [(104, .aload_n 0), (105, .iload_n 1)]) (jtb_ok (by decide +kernel)) (pc' := 106) (lv' := [(0, vR t), (1, vI a1), (2, vI l2), (3, vI l3), (4, vI l4)]) (st' := [vI a1, vR t]) rfl ?_
  refine j_TI (j_callS (av := [vI a1]) (st := [vR t]) hx hr (Or.inl q2078) q992 q247 md_fwo_d np_fwo_d (cwo_d a1 W) (by decide) (Nat.le_of_ble_eq_true rfl) (by decide +kernel)) ?_
  refine j_runA hx 2 (tb := [(109, .aload_n 0), (110, .iload 4)]) (jtb_ok (by decide +kernel)) (pc' := 112) (lv' := [(0, vR t), (1, vI a1), (2, vI l2), (3, vI l3), (4, vI l4)]) (st' := [vI l4, vR t, vI (fwo_d a1), vR t]) rfl ?_
  refine j_gd (fun h13 => ?_)
  refine j_EL (j_callV (av := [vI l4]) (st := [vI (fwo_d a1), vR t]) hx hr (Or.inl q2114) q2116 qs94 rfl md_fma_number np_fma_number (cma_number t l4 W) (by decide) (Nat.le_of_ble_eq_true rfl) h13 (by decide) (by decide +kernel)) (fun z _ r h9 => j_upE hm hx (ht z) h9) (fun q14 _ => ?_)
  refine j_runA hx 1 (tb := [(115, .iload_n 3)]) (jtb_ok (by decide +kernel)) (pc' := 116) (lv' := [(0, vR t), (1, vI a1), (2, vI l2), (3, vI l3), (4, vI l4)]) (st' := [vI l3, vL q14.1, vI (fwo_d a1), vR t]) rfl ?_
  refine j_if_eq hx (off := 11) (tgt := 127) (by decide +kernel) (by decide) (fun _ => ?_) (fun _ => ?_)
  · refine j_lv (lv' := [(0, vR t), (1, vI a1)]) ⟨rfl, rfl, trivial⟩ ?_
    exact wma_choose_127 h q14.1 (fwo_d a1) t q14.2
  refine j_runA hx 1 (tb := [(119, .iload_n 2)]) (jtb_ok (by decide +kernel)) (pc' := 120) (lv' := [(0, vR t), (1, vI a1), (2, vI l2), (3, vI l3), (4, vI l4)]) (st' := [vI l2, vL q14.1, vI (fwo_d a1), vR t]) rfl ?_
  refine j_if_ne hx (off := 7) (tgt := 127) (by decide +kernel) (by decide) (fun _ => ?_) (fun _ => ?_)
  · refine j_lv (lv' := [(0, vR t), (1, vI a1)]) ⟨rfl, rfl, trivial⟩ ?_
    exact wma_choose_127 h q14.1 (fwo_d a1) t q14.2
  refine j_runA hx 1 (tb := [(123, .iconst 1)]) (jtb_ok (by decide +kernel)) (pc' := 124) (lv' := [(0, vR t), (1, vI a1), (2, vI l2), (3, vI l3), (4, vI l4)]) (st' := [vI (kI 1), vL q14.1, vI (fwo_d a1), vR t]) rfl ?_
  refine j_goto hx (off := 4) (by decide +kernel) (tgt := 128) (by decide) ?_
  refine j_lv (lv' := [(0, vR t), (1, vI a1)]) ⟨rfl, rfl, trivial⟩ ?_
  exact wma_choose_128 h (kI 1) q14.1 (fwo_d a1) t q14.2
theorem wma_choose_43 {x : jCx} {en : ((Nat × jW) ⊕ jW) → Option (Outcome × jW)} {t : Nat} {a1 : Int32} (h : hma_choose x en t a1) (l2 : Int32) (l3 : Int32) (s0 : Int32) (W : jW) : jJ x 5 43 [(0, vR t), (1, vI a1), (2, vI l2), (3, vI l3)] [vI s0] W (fma_choose_43 t a1 l2 l3 s0 W) en := by
  have h0 := h
  obtain ⟨hx, hm, hr, he, ht⟩ := h0
  unfold fma_choose_43
  refine j_runA hx 2 (tb := [(43, .istore 4), (45, .iload_n 3)]) (jtb_ok (by decide +kernel)) (pc' := 46) (lv' := [(4, vI s0), (0, vR t), (1, vI a1), (2, vI l2), (3, vI l3)]) (st' := [vI l3]) rfl ?_
  refine j_if_ne hx (off := 58) (tgt := 104) (by decide +kernel) (by decide) (fun _ => ?_) (fun _ => ?_)
  · refine j_lv (lv' := [(0, vR t), (1, vI a1), (2, vI l2), (3, vI l3), (4, vI s0)]) ⟨rfl, rfl, rfl, rfl, rfl, trivial⟩ ?_
    exact wma_choose_104 h l2 l3 s0 W
  refine j_runA hx 1 (tb := [(49, .iload_n 1)]) (jtb_ok (by decide +kernel)) (pc' := 50) (lv' := [(4, vI s0), (0, vR t), (1, vI a1), (2, vI l2), (3, vI l3)]) (st' := [vI a1]) rfl ?_
  refine j_TI (j_callS (av := [vI a1]) (st := []) hx hr (Or.inl q2084) q961 q247 md_fwo_isLong np_fwo_isLong (cwo_isLong a1 W) (by decide) (Nat.le_of_ble_eq_true rfl) (by decide +kernel)) ?_
  refine j_if_eq hx (off := 51) (tgt := 104) (by decide +kernel) (by decide) (fun _ => ?_) (fun _ => ?_)
  · refine j_lv (lv' := [(0, vR t), (1, vI a1), (2, vI l2), (3, vI l3), (4, vI s0)]) ⟨rfl, rfl, rfl, rfl, rfl, trivial⟩ ?_
    exact wma_choose_104 h l2 l3 s0 W
  refine j_runA hx 2 (tb := [(56, .aload_n 0), (57, .iload 4)]) (jtb_ok (by decide +kernel)) (pc' := 59) (lv' := [(4, vI s0), (0, vR t), (1, vI a1), (2, vI l2), (3, vI l3)]) (st' := [vI s0, vR t]) rfl ?_
  refine j_gd (fun h5 => ?_)
  refine j_OI (j_callV (av := [vI s0]) (st := []) hx hr (Or.inl q2127) q2129 qs97 rfl md_fma_isMovable np_fma_isMovable (cma_isMovable t s0 W) (by decide) (Nat.le_of_ble_eq_true rfl) h5 (by decide) (by decide +kernel)) (fun q6 _ => ?_)
  refine j_if_eq hx (off := 42) (tgt := 104) (by decide +kernel) (by decide) (fun _ => ?_) (fun _ => ?_)
  · refine j_lv (lv' := [(0, vR t), (1, vI a1), (2, vI l2), (3, vI l3), (4, vI s0)]) ⟨rfl, rfl, rfl, rfl, rfl, trivial⟩ ?_
    exact wma_choose_104 h l2 l3 s0 W
  refine j_runA hx 1 (tb := [(65, .iload_n 1)]) (jtb_ok (by decide +kernel)) (pc' := 66) (lv' := [(4, vI s0), (0, vR t), (1, vI a1), (2, vI l2), (3, vI l3)]) (st' := [vI a1]) rfl ?_
  refine j_TI (j_callS (av := [vI a1]) (st := []) hx hr (Or.inl q2078) q992 q247 md_fwo_d np_fwo_d (cwo_d a1 W) (by decide) (Nat.le_of_ble_eq_true rfl) (by decide +kernel)) ?_
  refine j_runA hx 1 (tb := [(69, .bipush 31)]) (jtb_ok (by decide +kernel)) (pc' := 71) (lv' := [(4, vI s0), (0, vR t), (1, vI a1), (2, vI l2), (3, vI l3)]) (st' := [vI (kI 31), vI (fwo_d a1)]) rfl ?_
  refine j_icmp_eq hx (off := 32) (tgt := 103) (by decide +kernel) (by decide) (fun _ => ?_) (fun _ => ?_)
  · exact j_vret hx hm (by decide +kernel) (he _)
  refine j_runA hx 2 (tb := [(74, .aload_n 0), (75, .iload_n 1)]) (jtb_ok (by decide +kernel)) (pc' := 76) (lv' := [(4, vI s0), (0, vR t), (1, vI a1), (2, vI l2), (3, vI l3)]) (st' := [vI a1, vR t]) rfl ?_
  refine j_TI (j_callS (av := [vI a1]) (st := [vR t]) hx hr (Or.inl q2078) q992 q247 md_fwo_d np_fwo_d (cwo_d a1 W) (by decide) (Nat.le_of_ble_eq_true rfl) (by decide +kernel)) ?_
  refine j_runA hx 1 (tb := [(79, .aload_n 0)]) (jtb_ok (by decide +kernel)) (pc' := 80) (lv' := [(4, vI s0), (0, vR t), (1, vI a1), (2, vI l2), (3, vI l3)]) (st' := [vR t, vI (fwo_d a1), vR t]) rfl ?_
  refine j_getR hx flX15_18 kl1007 h5 (by decide) (by decide +kernel) ?_
  refine j_runA hx 1 (tb := [(83, .iload 4)]) (jtb_ok (by decide +kernel)) (pc' := 85) (lv' := [(4, vI s0), (0, vR t), (1, vI a1), (2, vI l2), (3, vI l3)]) (st' := [vI s0, vR (jR W 1007 t), vI (fwo_d a1), vR t]) rfl ?_
  refine j_gd (fun h7 => ?_)
  refine j_lald hx (f := 1007) (o := t) kd1007 rfl (by decide +kernel) h7 ?_
  refine j_runA hx 1 (tb := [(86, .aload_n 0)]) (jtb_ok (by decide +kernel)) (pc' := 87) (lv' := [(4, vI s0), (0, vR t), (1, vI a1), (2, vI l2), (3, vI l3)]) (st' := [vR t, vL (jB W 1007 t (ix s0)), vI (fwo_d a1), vR t]) rfl ?_
  refine j_getR hx flX15_22 kl1008 h5 (by decide) (by decide +kernel) ?_
  refine j_runA hx 1 (tb := [(90, .iload 4)]) (jtb_ok (by decide +kernel)) (pc' := 92) (lv' := [(4, vI s0), (0, vR t), (1, vI a1), (2, vI l2), (3, vI l3)]) (st' := [vI s0, vR (jR W 1008 t), vL (jB W 1007 t (ix s0)), vI (fwo_d a1), vR t]) rfl ?_
  refine j_gd (fun h8 => ?_)
  refine j_iald hx (f := 1008) (o := t) kd1008 rfl (by decide +kernel) h8 ?_
  refine j_runA hx 1 (tb := [(93, .aload_n 0)]) (jtb_ok (by decide +kernel)) (pc' := 94) (lv' := [(4, vI s0), (0, vR t), (1, vI a1), (2, vI l2), (3, vI l3)]) (st' := [vR t, vI (jA W 1008 t (ix s0)), vL (jB W 1007 t (ix s0)), vI (fwo_d a1), vR t]) rfl ?_
  refine j_getR hx flX15_26 kl1009 h5 (by decide) (by decide +kernel) ?_
  refine j_runA hx 1 (tb := [(97, .iload 4)]) (jtb_ok (by decide +kernel)) (pc' := 99) (lv' := [(4, vI s0), (0, vR t), (1, vI a1), (2, vI l2), (3, vI l3)]) (st' := [vI s0, vR (jR W 1009 t), vI (jA W 1008 t (ix s0)), vL (jB W 1007 t (ix s0)), vI (fwo_d a1), vR t]) rfl ?_
  refine j_gd (fun h9 => ?_)
  refine j_iald hx (f := 1009) (o := t) kd1009 rfl (by decide +kernel) h9 ?_
  refine j_WV (j_callV (av := [vI (fwo_d a1), vL (jB W 1007 t (ix s0)), vI (jA W 1008 t (ix s0)), vI (jA W 1009 t (ix s0))]) (st := []) hx hr (Or.inl q2079) q2081 qs87 rfl md_fma_code np_fma_code (cma_code t (fwo_d a1) (jB W 1007 t (ix s0)) (jA W 1008 t (ix s0)) (jA W 1009 t (ix s0)) W) (by decide) (Nat.le_of_ble_eq_true rfl) h5 (by decide) (by decide +kernel)) (fun q10 _ => ?_)
  exact j_vret hx hm (by decide +kernel) (he _)
theorem wma_choose_27 {x : jCx} {en : ((Nat × jW) ⊕ jW) → Option (Outcome × jW)} {t : Nat} {a1 : Int32} (h : hma_choose x en t a1) (l2 : Int32) (s0 : Int32) (W : jW) : jJ x 5 27 [(0, vR t), (1, vI a1), (2, vI l2)] [vI s0] W (fma_choose_27 t a1 l2 s0 W) en := by
  have h0 := h
  obtain ⟨hx, hm, hr, he, ht⟩ := h0
  unfold fma_choose_27
  refine j_runA hx 2 (tb := [(27, .istore_n 3), (28, .iload_n 2)]) (jtb_ok (by decide +kernel)) (pc' := 29) (lv' := [(3, vI s0), (0, vR t), (1, vI a1), (2, vI l2)]) (st' := [vI l2]) rfl ?_
  refine j_if_eq hx (off := 10) (tgt := 39) (by decide +kernel) (by decide) (fun _ => ?_) (fun _ => ?_)
  · refine j_runA hx 1 (tb := [(39, .iload_n 1)]) (jtb_ok (by decide +kernel)) (pc' := 40) (lv' := [(3, vI s0), (0, vR t), (1, vI a1), (2, vI l2)]) (st' := [vI a1]) rfl ?_
    refine j_TI (j_callS (av := [vI a1]) (st := []) hx hr (Or.inl q2111) q2112 q247 md_fwo_m np_fwo_m (cwo_m a1 W) (by decide) (Nat.le_of_ble_eq_true rfl) (by decide +kernel)) ?_
    refine j_lv (lv' := [(0, vR t), (1, vI a1), (2, vI l2), (3, vI s0)]) ⟨rfl, rfl, rfl, rfl, trivial⟩ ?_
    exact wma_choose_43 h l2 s0 (fwo_m a1) W
  refine j_runA hx 1 (tb := [(32, .iload_n 1)]) (jtb_ok (by decide +kernel)) (pc' := 33) (lv' := [(3, vI s0), (0, vR t), (1, vI a1), (2, vI l2)]) (st' := [vI a1]) rfl ?_
  refine j_TI (j_callS (av := [vI a1]) (st := []) hx hr (Or.inl q2073) q998 q247 md_fwo_n np_fwo_n (cwo_n a1 W) (by decide) (Nat.le_of_ble_eq_true rfl) (by decide +kernel)) ?_
  refine j_goto hx (off := 7) (by decide +kernel) (tgt := 43) (by decide) ?_
  refine j_lv (lv' := [(0, vR t), (1, vI a1), (2, vI l2), (3, vI s0)]) ⟨rfl, rfl, rfl, rfl, trivial⟩ ?_
  exact wma_choose_43 h l2 s0 (fwo_n a1) W
theorem wma_choose {x : jCx} {en : ((Nat × jW) ⊕ jW) → Option (Outcome × jW)} {t : Nat} {a1 : Int32} (h : hma_choose x en t a1) (W : jW) : jJ x 5 0 [(0, vR t), (1, vI a1)] [] W (fma_choose t a1 W) en := by
  have h0 := h
  obtain ⟨hx, hm, hr, he, ht⟩ := h0
  unfold fma_choose
  refine j_runA hx 6 (tb := [(0, .aload_n 0), (1, .iload_n 1), (2, .bipush 12), (4, .ishr), (5, .bipush 15), (7, .iand)]) (jtb_ok (by decide +kernel)) (pc' := 8) (lv' := [(0, vR t), (1, vI a1)]) (st' := [vI ((ixr a1 (kI 12)) &&& (kI 15)), vR t]) rfl ?_
  refine j_gd (fun h1 => ?_)
  refine j_OI (j_callV (av := [vI ((ixr a1 (kI 12)) &&& (kI 15))]) (st := []) hx hr (Or.inl q2156) q2158 qs102 rfl md_fma_holds np_fma_holds (cma_holds t ((ixr a1 (kI 12)) &&& (kI 15)) W) (by decide) (Nat.le_of_ble_eq_true rfl) h1 (by decide) (by decide +kernel)) (fun q2 _ => ?_)
  refine j_runA hx 7 (tb := [(11, .istore_n 2), (12, .iload_n 1), (13, .bipush 10), (15, .ishr), (16, .iconst 1), (17, .iand), (18, .iconst 1)]) (jtb_ok (by decide +kernel)) (pc' := 19) (lv' := [(2, vI q2), (0, vR t), (1, vI a1)]) (st' := [vI (kI 1), vI ((ixr a1 (kI 10)) &&& (kI 1))]) rfl ?_
  refine j_icmp_ne hx (off := 7) (tgt := 26) (by decide +kernel) (by decide) (fun _ => ?_) (fun _ => ?_)
  · refine j_runA hx 1 (tb := [(26, .iconst 0)]) (jtb_ok (by decide +kernel)) (pc' := 27) (lv' := [(2, vI q2), (0, vR t), (1, vI a1)]) (st' := [vI (kI 0)]) rfl ?_
    refine j_lv (lv' := [(0, vR t), (1, vI a1), (2, vI q2)]) ⟨rfl, rfl, rfl, trivial⟩ ?_
    exact wma_choose_27 h q2 (kI 0) W
  refine j_runA hx 1 (tb := [(22, .iconst 1)]) (jtb_ok (by decide +kernel)) (pc' := 23) (lv' := [(2, vI q2), (0, vR t), (1, vI a1)]) (st' := [vI (kI 1)]) rfl ?_
  refine j_goto hx (off := 4) (by decide +kernel) (tgt := 27) (by decide) ?_
  refine j_lv (lv' := [(0, vR t), (1, vI a1), (2, vI q2)]) ⟨rfl, rfl, rfl, trivial⟩ ?_
  exact wma_choose_27 h q2 (kI 1) W
theorem cma_choose (t : Nat) (a1 : Int32) (W : jW) : jM yX15_choose cX15_choose 5 (Option.none : Option Jvm.ClassFile.FieldType) [] 3 41 [vR t, vI a1] W ((fma_choose t a1 W).bind (fun q => some (Sum.elim (fun z => (.threw (z.1 - 1), z.2)) (fun q => (.returned none, q)) q))) := 
  jM.of (Nat.le_of_ble_eq_true rfl) (fun x hx hm hr => wma_choose ⟨hx, hm, hr, fun _ => rfl, fun _ => rfl⟩ W)
def hma_isStorable (x : jCx) (en : (Int32) → Option (Outcome × jW)) (t : Nat) (a1 : Int32) (a2 : Int64) (a4 : Int32) (W : jW) : Prop :=
  jOK x RX15 cX15_isStorable 5 ∧
  jMt x "isStorable" (Option.some Jvm.ClassFile.FieldType.boolean) [] ∧
  jRm x 1 13 ∧
  (∀ q : Int32, en q = some (.returned (some (.int q)), W))
theorem wma_isStorable_40 {x : jCx} {en : (Int32) → Option (Outcome × jW)} {W : jW} {t : Nat} {a1 : Int32} {a2 : Int64} {a4 : Int32} (h : hma_isStorable x en t a1 a2 a4 W) : jJ x 5 40 [(0, vR t), (1, vI a1), (2, vL a2), (4, vI a4)] [] W (fma_isStorable_40 t a1 a2 a4 W) en := by
  have h0 := h
  obtain ⟨hx, hm, hr, he⟩ := h0
  unfold fma_isStorable_40
  refine j_runA hx 1 (tb := [(40, .iconst 1)]) (jtb_ok (by decide +kernel)) (pc' := 41) (lv' := [(0, vR t), (1, vI a1), (2, vL a2), (4, vI a4)]) (st' := [vI (kI 1)]) rfl ?_
  refine j_goto hx (off := 4) (by decide +kernel) (tgt := 45) (by decide) ?_
  exact j_iret hx hm (by decide +kernel) jz1n (he _)
theorem wma_isStorable_44 {x : jCx} {en : (Int32) → Option (Outcome × jW)} {W : jW} {t : Nat} {a1 : Int32} {a2 : Int64} {a4 : Int32} (h : hma_isStorable x en t a1 a2 a4 W) : jJ x 5 44 [(0, vR t), (1, vI a1), (2, vL a2), (4, vI a4)] [] W (fma_isStorable_44 t a1 a2 a4 W) en := by
  have h0 := h
  obtain ⟨hx, hm, hr, he⟩ := h0
  unfold fma_isStorable_44
  refine j_runA hx 1 (tb := [(44, .iconst 0)]) (jtb_ok (by decide +kernel)) (pc' := 45) (lv' := [(0, vR t), (1, vI a1), (2, vL a2), (4, vI a4)]) (st' := [vI (kI 0)]) rfl ?_
  exact j_iret hx hm (by decide +kernel) jz0n (he _)
theorem wma_isStorable {x : jCx} {en : (Int32) → Option (Outcome × jW)} {W : jW} {t : Nat} {a1 : Int32} {a2 : Int64} {a4 : Int32} (h : hma_isStorable x en t a1 a2 a4 W) : jJ x 5 0 [(0, vR t), (1, vI a1), (2, vL a2), (4, vI a4)] [] W (fma_isStorable t a1 a2 a4 W) en := by
  have h0 := h
  obtain ⟨hx, hm, hr, he⟩ := h0
  unfold fma_isStorable
  refine j_runA hx 2 (tb := [(0, .iload_n 1), (1, .bipush 31)]) (jtb_ok (by decide +kernel)) (pc' := 3) (lv' := [(0, vR t), (1, vI a1), (2, vL a2), (4, vI a4)]) (st' := [vI (kI 31), vI a1]) rfl ?_
  refine j_icmp_eq hx (off := 37) (tgt := 40) (by decide +kernel) (by decide) (fun _ => ?_) (fun _ => ?_)
  · exact wma_isStorable_40 h
  refine j_runA hx 1 (tb := [(6, .aload_n 0)]) (jtb_ok (by decide +kernel)) (pc' := 7) (lv' := [(0, vR t), (1, vI a1), (2, vL a2), (4, vI a4)]) (st' := [vR t]) rfl ?_
  refine j_gd (fun h1 => ?_)
  refine j_getR hx flX15_22 kl1008 h1 (by decide) (by decide +kernel) ?_
  refine j_runA hx 1 (tb := [(10, .iload_n 1)]) (jtb_ok (by decide +kernel)) (pc' := 11) (lv' := [(0, vR t), (1, vI a1), (2, vL a2), (4, vI a4)]) (st' := [vI a1, vR (jR W 1008 t)]) rfl ?_
  refine j_gd (fun h2 => ?_)
  refine j_iald hx (f := 1008) (o := t) kd1008 rfl (by decide +kernel) h2 ?_
  refine j_if_eq hx (off := 28) (tgt := 40) (by decide +kernel) (by decide) (fun _ => ?_) (fun _ => ?_)
  · exact wma_isStorable_40 h
  refine j_runA hx 2 (tb := [(15, .aload_n 0), (16, .iload_n 1)]) (jtb_ok (by decide +kernel)) (pc' := 17) (lv' := [(0, vR t), (1, vI a1), (2, vL a2), (4, vI a4)]) (st' := [vI a1, vR t]) rfl ?_
  refine j_OI (j_callV (av := [vI a1]) (st := []) hx hr (Or.inl q2127) q2129 qs97 rfl md_fma_isMovable np_fma_isMovable (cma_isMovable t a1 W) (by decide) (Nat.le_of_ble_eq_true rfl) h1 (by decide) (by decide +kernel)) (fun q3 _ => ?_)
  refine j_if_eq hx (off := 24) (tgt := 44) (by decide +kernel) (by decide) (fun _ => ?_) (fun _ => ?_)
  · exact wma_isStorable_44 h
  refine j_runA hx 2 (tb := [(23, .iload 4), (25, .bipush 8)]) (jtb_ok (by decide +kernel)) (pc' := 27) (lv' := [(0, vR t), (1, vI a1), (2, vL a2), (4, vI a4)]) (st' := [vI (kI 8), vI a4]) rfl ?_
  refine j_icmp_ne hx (off := 17) (tgt := 44) (by decide +kernel) (by decide) (fun _ => ?_) (fun _ => ?_)
  · exact wma_isStorable_44 h
  refine j_runA hx 1 (tb := [(30, .lload_n 2)]) (jtb_ok (by decide +kernel)) (pc' := 31) (lv' := [(0, vR t), (1, vI a1), (2, vL a2), (4, vI a4)]) (st' := [vL a2]) rfl ?_
  refine j_ldc2 hx (v := (kJ 8)) (jkd2 q2169 (by decide +kernel)) (by decide +kernel) ?_
  refine j_lrem hx (by decide +kernel) (by decide +kernel) ?_
  refine j_runA hx 1 (tb := [(35, .lconst 0)]) (jtb_ok (by decide +kernel)) (pc' := 36) (lv' := [(0, vR t), (1, vI a1), (2, vL a2), (4, vI a4)]) (st' := [vL (kJ 0), vL (lrm a2 (kJ 8))]) rfl ?_
  refine j_lcmp_ne hx (off := 7) (tgt := 44) (by decide +kernel) (by decide +kernel) (by decide) (fun _ => ?_) (fun _ => ?_)
  · exact wma_isStorable_44 h
  exact wma_isStorable_40 h
theorem cma_isStorable (t : Nat) (a1 : Int32) (a2 : Int64) (a4 : Int32) (W : jW) : jM yX15_isStorable cX15_isStorable 5 (Option.some Jvm.ClassFile.FieldType.boolean) [] 1 13 [vR t, vI a1, vL a2, vI a4] W ((fma_isStorable t a1 a2 a4 W).bind (fun q => some (.returned (some (.int q)), W))) := 
  jM.of (Nat.le_of_ble_eq_true rfl) (fun x hx hm hr => wma_isStorable ⟨hx, hm, hr, fun _ => rfl⟩)
def hma_isInTexts (x : jCx) (en : (Int32) → Option (Outcome × jW)) (t : Nat) (a1 : Int64) (a3 : Int32) (W : jW) : Prop :=
  jOK x RX15 cX15_isInTexts 5 ∧
  jMt x "isInTexts" (Option.some Jvm.ClassFile.FieldType.boolean) [] ∧
  jRm x 3 42 ∧
  (∀ q : Int32, en q = some (.returned (some (.int q)), W))
theorem wma_isInTexts_38 {x : jCx} {en : (Int32) → Option (Outcome × jW)} {W : jW} {t : Nat} {a1 : Int64} {a3 : Int32} (h : hma_isInTexts x en t a1 a3 W) (s0 : Int32) : jJ x 5 38 [(0, vR t), (1, vL a1), (3, vI a3)] [vI s0] W (fma_isInTexts_38 t a1 a3 s0 W) en := by
  have h0 := h
  obtain ⟨hx, hm, hr, he⟩ := h0
  unfold fma_isInTexts_38
  refine j_runA hx 3 (tb := [(38, .istore 4), (40, .lload_n 1), (41, .aload_n 0)]) (jtb_ok (by decide +kernel)) (pc' := 42) (lv' := [(4, vI s0), (0, vR t), (1, vL a1), (3, vI a3)]) (st' := [vR t, vL a1]) rfl ?_
  refine j_gd (fun h6 => ?_)
  refine j_OL (j_callV (av := []) (st := [vL a1]) hx hr (Or.inl q2039) q2041 qs80 rfl md_fma_begin np_fma_begin (cma_begin t W) (by decide) (Nat.le_of_ble_eq_true rfl) h6 (by decide) (by decide +kernel)) (fun q7 _ => ?_)
  refine j_runA hx 6 (tb := [(45, .iload_n 3), (46, .i2l), (47, .lsub), (48, .lconst 1), (49, .ladd), (50, .aload_n 0)]) (jtb_ok (by decide +kernel)) (pc' := 51) (lv' := [(4, vI s0), (0, vR t), (1, vL a1), (3, vI a3)]) (st' := [vR t, vL ((q7 - a3.toInt64) + (kJ 1)), vL a1]) rfl ?_
  refine j_OL (j_callV (av := []) (st := [vL ((q7 - a3.toInt64) + (kJ 1)), vL a1]) hx hr (Or.inl q2039) q2041 qs80 rfl md_fma_begin np_fma_begin (cma_begin t W) (by decide) (Nat.le_of_ble_eq_true rfl) h6 (by decide) (by decide +kernel)) (fun q8 _ => ?_)
  refine j_runA hx 3 (tb := [(54, .iload 4), (56, .i2l), (57, .ladd)]) (jtb_ok (by decide +kernel)) (pc' := 58) (lv' := [(4, vI s0), (0, vR t), (1, vL a1), (3, vI a3)]) (st' := [vL (q8 + s0.toInt64), vL ((q7 - a3.toInt64) + (kJ 1)), vL a1]) rfl ?_
  refine j_TI (j_callS (av := [vL a1, vL ((q7 - a3.toInt64) + (kJ 1)), vL (q8 + s0.toInt64)]) (st := []) hx hr (Or.inr ⟨_, q2048⟩) q872 q226 md_fcl_isIn np_fcl_isIn (ccl_isIn a1 ((q7 - a3.toInt64) + (kJ 1)) (q8 + s0.toInt64) W) (by decide) (Nat.le_of_ble_eq_true rfl) (by decide +kernel)) ?_
  refine j_gd (fun h9 => ?_)
  exact j_iret hx hm (by decide +kernel) (jzn h9) (he _)
theorem wma_isInTexts {x : jCx} {en : (Int32) → Option (Outcome × jW)} {W : jW} {t : Nat} {a1 : Int64} {a3 : Int32} (h : hma_isInTexts x en t a1 a3 W) : jJ x 5 0 [(0, vR t), (1, vL a1), (3, vI a3)] [] W (fma_isInTexts t a1 a3 W) en := by
  have h0 := h
  obtain ⟨hx, hm, hr, he⟩ := h0
  unfold fma_isInTexts
  refine j_runA hx 1 (tb := [(0, .aload_n 0)]) (jtb_ok (by decide +kernel)) (pc' := 1) (lv' := [(0, vR t), (1, vL a1), (3, vI a3)]) (st' := [vR t]) rfl ?_
  refine j_gd (fun h1 => ?_)
  refine j_getI hx flX15_64 kd1006 h1 (by decide) (by decide +kernel) ?_
  refine j_if_eq hx (off := 25) (tgt := 29) (by decide +kernel) (by decide) (fun _ => ?_) (fun _ => ?_)
  · refine j_runA hx 2 (tb := [(29, .iconst 4), (30, .aload_n 0)]) (jtb_ok (by decide +kernel)) (pc' := 31) (lv' := [(0, vR t), (1, vL a1), (3, vI a3)]) (st' := [vR t, vI (kI 4)]) rfl ?_
    refine j_getR hx flX15_43 kl1001 h1 (by decide) (by decide +kernel) ?_
    refine j_gd (fun h2 => ?_)
    refine j_getI hx flX15_200 kd203 h2 (by decide) (by decide +kernel) ?_
    refine j_runA hx 1 (tb := [(37, .imul)]) (jtb_ok (by decide +kernel)) (pc' := 38) (lv' := [(0, vR t), (1, vL a1), (3, vI a3)]) (st' := [vI ((kI 4) * (jI W 203 (jR W 1001 t)))]) rfl ?_
    exact wma_isInTexts_38 h ((kI 4) * (jI W 203 (jR W 1001 t)))
  refine j_runA hx 2 (tb := [(7, .iconst 4), (8, .aload_n 0)]) (jtb_ok (by decide +kernel)) (pc' := 9) (lv' := [(0, vR t), (1, vL a1), (3, vI a3)]) (st' := [vR t, vI (kI 4)]) rfl ?_
  refine j_getR hx flX15_43 kl1001 h1 (by decide) (by decide +kernel) ?_
  refine j_gd (fun h3 => ?_)
  refine j_getI hx flX15_200 kd203 h3 (by decide) (by decide +kernel) ?_
  refine j_runA hx 2 (tb := [(15, .imul), (16, .aload_n 0)]) (jtb_ok (by decide +kernel)) (pc' := 17) (lv' := [(0, vR t), (1, vL a1), (3, vI a3)]) (st' := [vR t, vI ((kI 4) * (jI W 203 (jR W 1001 t)))]) rfl ?_
  refine j_getR hx flX15_47 kl1002 h1 (by decide) (by decide +kernel) ?_
  refine j_gd (fun h4 => ?_)
  refine j_getI hx flX15_197 kd912 h4 (by decide) (by decide +kernel) ?_
  refine j_TI (j_callS (av := [vI ((kI 4) * (jI W 203 (jR W 1001 t))), vI (jI W 912 (jR W 1002 t))]) (st := []) hx hr (Or.inl q2178) q1356 q246 md_fjm_max_2 np_fjm_max_2 (cjm_max_2 ((kI 4) * (jI W 203 (jR W 1001 t))) (jI W 912 (jR W 1002 t)) W) (by decide) (Nat.le_of_ble_eq_true rfl) (by decide +kernel)) ?_
  refine j_goto hx (off := 12) (by decide +kernel) (tgt := 38) (by decide) ?_
  exact wma_isInTexts_38 h (fjm_max_2 ((kI 4) * (jI W 203 (jR W 1001 t))) (jI W 912 (jR W 1002 t)))
theorem cma_isInTexts (t : Nat) (a1 : Int64) (a3 : Int32) (W : jW) : jM yX15_isInTexts cX15_isInTexts 5 (Option.some Jvm.ClassFile.FieldType.boolean) [] 3 42 [vR t, vL a1, vI a3] W ((fma_isInTexts t a1 a3 W).bind (fun q => some (.returned (some (.int q)), W))) := 
  jM.of (Nat.le_of_ble_eq_true rfl) (fun x hx hm hr => wma_isInTexts ⟨hx, hm, hr, fun _ => rfl⟩)
def hme_hasCode (x : jCx) (en : (fme_hasCode_S ⊕ (Int32)) → Option (Outcome × jW)) (t : Nat) (a1 : Int64) (a3 : Int32) (W : jW) : Prop :=
  jOK x RX17 cX17_hasCode 10 ∧
  jMt x "hasCode" (Option.some Jvm.ClassFile.FieldType.boolean) [] ∧
  jRm x 4 57 ∧
  (∀ q : Int32, en (.inr q) = some (.returned (some (.int q)), W)) ∧
  (∀ (l4 : Int32), jJ x 10 3 [(0, vR t), (1, vL a1), (3, vI a3), (4, vI l4)] [] W (some (.inl (.inl l4))) en) ∧
  (∀ (l4 : Int32) (l7 : Int64) (l9 : Int32), jJ x 10 100 [(0, vR t), (1, vL a1), (3, vI a3), (4, vI l4), (7, vL l7), (9, vI l9)] [] W (some (.inl (.inr (l4, l7, l9)))) en)
theorem wme_hasCode_133 {x : jCx} {en : (fme_hasCode_S ⊕ (Int32)) → Option (Outcome × jW)} {W : jW} {t : Nat} {a1 : Int64} {a3 : Int32} (h : hme_hasCode x en t a1 a3 W) (l4 : Int32) : jJ x 10 133 [(0, vR t), (1, vL a1), (3, vI a3), (4, vI l4)] [] W (fme_hasCode_133 t a1 a3 l4 W) en := by
  have h0 := h
  obtain ⟨hx, hm, hr, he, k3, k100⟩ := h0
  unfold fme_hasCode_133
  refine j_runA hx 1 (tb := [(133, .iinc 4 1)]) (jtb_ok (by decide +kernel)) (pc' := 136) (lv' := [(4, vI (l4 + (kI 1))), (0, vR t), (1, vL a1), (3, vI a3)]) (st' := []) rfl ?_
  refine j_let (v := (l4 + (kI 1))) (lv := fun v15 => [(4, vI v15), (0, vR t), (1, vL a1), (3, vI a3)]) (st := fun _ => []) (fun v15 => ?_)
  refine j_goto hx (off := -133) (by decide +kernel) (tgt := 3) (by decide) ?_
  refine j_lv (lv' := [(0, vR t), (1, vL a1), (3, vI a3), (4, vI v15)]) ⟨rfl, rfl, rfl, rfl, trivial⟩ ?_
  exact k3 v15
theorem wme_hasCode_100 {x : jCx} {en : (fme_hasCode_S ⊕ (Int32)) → Option (Outcome × jW)} {W : jW} {t : Nat} {a1 : Int64} {a3 : Int32} (h : hme_hasCode x en t a1 a3 W) (l4 : Int32) (l7 : Int64) (l9 : Int32) : jJ x 10 100 [(0, vR t), (1, vL a1), (3, vI a3), (4, vI l4), (7, vL l7), (9, vI l9)] [] W (fme_hasCode_100 t a1 a3 l4 l7 l9 W) en := by
  have h0 := h
  obtain ⟨hx, hm, hr, he, k3, k100⟩ := h0
  unfold fme_hasCode_100
  refine j_runA hx 6 (tb := [(100, .iload 9), (102, .aload_n 0), (103, .iload 4), (105, .lload 7), (107, .lconst 1), (108, .lsub)]) (jtb_ok (by decide +kernel)) (pc' := 109) (lv' := [(0, vR t), (1, vL a1), (3, vI a3), (4, vI l4), (7, vL l7), (9, vI l9)]) (st' := [vL (l7 - (kJ 1)), vI l4, vR t, vI l9]) rfl ?_
  refine j_gd (fun h17 => ?_)
  refine j_OI (j_callV (av := [vI l4, vL (l7 - (kJ 1))]) (st := [vI l9]) hx hr (Or.inl q2025) q2026 q2027 rfl md_fme_cellOf np_fme_cellOf (cme_cellOf t l4 (l7 - (kJ 1)) W) (by decide) (Nat.le_of_ble_eq_true rfl) h17 (by decide) (by decide +kernel)) (fun q18 _ => ?_)
  refine j_icmp_gt hx (off := 21) (tgt := 133) (by decide +kernel) (by decide) (fun _ => ?_) (fun _ => ?_)
  · refine j_lv (lv' := [(0, vR t), (1, vL a1), (3, vI a3), (4, vI l4)]) ⟨rfl, rfl, rfl, rfl, trivial⟩ ?_
    exact wme_hasCode_133 h l4
  refine j_runA hx 1 (tb := [(115, .aload_n 0)]) (jtb_ok (by decide +kernel)) (pc' := 116) (lv' := [(0, vR t), (1, vL a1), (3, vI a3), (4, vI l4), (7, vL l7), (9, vI l9)]) (st' := [vR t]) rfl ?_
  refine j_getR hx flX17_23 kl1205 h17 (by decide) (by decide +kernel) ?_
  refine j_runA hx 1 (tb := [(119, .iload 9)]) (jtb_ok (by decide +kernel)) (pc' := 121) (lv' := [(0, vR t), (1, vL a1), (3, vI a3), (4, vI l4), (7, vL l7), (9, vI l9)]) (st' := [vI l9, vR (jR W 1205 t)]) rfl ?_
  refine j_gd (fun h19 => ?_)
  refine j_bald hx (f := 1205) (o := t) kd1205 rfl (by decide +kernel) h19 ?_
  refine j_if_eq hx (off := 5) (tgt := 127) (by decide +kernel) (by decide) (fun _ => ?_) (fun _ => ?_)
  · refine j_runA hx 1 (tb := [(127, .iinc 9 1)]) (jtb_ok (by decide +kernel)) (pc' := 130) (lv' := [(9, vI (l9 + (kI 1))), (0, vR t), (1, vL a1), (3, vI a3), (4, vI l4), (7, vL l7)]) (st' := []) rfl ?_
    refine j_let (v := (l9 + (kI 1))) (lv := fun v20 => [(9, vI v20), (0, vR t), (1, vL a1), (3, vI a3), (4, vI l4), (7, vL l7)]) (st := fun _ => []) (fun v20 => ?_)
    refine j_goto hx (off := -30) (by decide +kernel) (tgt := 100) (by decide) ?_
    refine j_lv (lv' := [(0, vR t), (1, vL a1), (3, vI a3), (4, vI l4), (7, vL l7), (9, vI v20)]) ⟨rfl, rfl, rfl, rfl, rfl, rfl, trivial⟩ ?_
    exact k100 l4 l7 v20
  refine j_runA hx 1 (tb := [(125, .iconst 1)]) (jtb_ok (by decide +kernel)) (pc' := 126) (lv' := [(0, vR t), (1, vL a1), (3, vI a3), (4, vI l4), (7, vL l7), (9, vI l9)]) (st' := [vI (kI 1)]) rfl ?_
  exact j_iret hx hm (by decide +kernel) jz1n (he _)
theorem wme_hasCode_74 {x : jCx} {en : (fme_hasCode_S ⊕ (Int32)) → Option (Outcome × jW)} {W : jW} {t : Nat} {a1 : Int64} {a3 : Int32} (h : hme_hasCode x en t a1 a3 W) (l4 : Int32) (l5 : Int64) (s0 : Int64) (s1 : Int64) : jJ x 10 74 [(0, vR t), (1, vL a1), (3, vI a3), (4, vI l4), (5, vL l5)] [vL s0, vL s1] W (fme_hasCode_74 t a1 a3 l4 l5 s0 s1 W) en := by
  have h0 := h
  obtain ⟨hx, hm, hr, he, k3, k100⟩ := h0
  unfold fme_hasCode_74
  refine j_TL (j_callS (av := [vL s1, vL s0]) (st := []) hx hr (Or.inl q2186) q2187 q246 md_fjm_min_2 np_fjm_min_2 (cjm_min_2 s1 s0 W) (by decide) (Nat.le_of_ble_eq_true rfl) (by decide +kernel)) ?_
  refine j_runA hx 1 (tb := [(77, .lstore 7)]) (jtb_ok (by decide +kernel)) (pc' := 79) (lv' := [(7, vL (fjm_min_2 s1 s0)), (0, vR t), (1, vL a1), (3, vI a3), (4, vI l4), (5, vL l5)]) (st' := []) rfl ?_
  refine j_let (v := (fjm_min_2 s1 s0)) (lv := fun v11 => [(7, vL v11), (0, vR t), (1, vL a1), (3, vI a3), (4, vI l4), (5, vL l5)]) (st := fun _ => []) (fun v11 => ?_)
  refine j_runA hx 2 (tb := [(79, .lload 5), (81, .lload 7)]) (jtb_ok (by decide +kernel)) (pc' := 83) (lv' := [(7, vL v11), (0, vR t), (1, vL a1), (3, vI a3), (4, vI l4), (5, vL l5)]) (st' := [vL v11, vL l5]) rfl ?_
  refine j_lcmp_lt hx (off := 6) (tgt := 90) (by decide +kernel) (by decide +kernel) (by decide) (fun _ => ?_) (fun _ => ?_)
  · refine j_runA hx 3 (tb := [(90, .aload_n 0), (91, .iload 4), (93, .lload 5)]) (jtb_ok (by decide +kernel)) (pc' := 95) (lv' := [(7, vL v11), (0, vR t), (1, vL a1), (3, vI a3), (4, vI l4), (5, vL l5)]) (st' := [vL l5, vI l4, vR t]) rfl ?_
    refine j_gd (fun h12 => ?_)
    refine j_OI (j_callV (av := [vI l4, vL l5]) (st := []) hx hr (Or.inl q2025) q2026 q2027 rfl md_fme_cellOf np_fme_cellOf (cme_cellOf t l4 l5 W) (by decide) (Nat.le_of_ble_eq_true rfl) h12 (by decide) (by decide +kernel)) (fun q13 _ => ?_)
    refine j_runA hx 1 (tb := [(98, .istore 9)]) (jtb_ok (by decide +kernel)) (pc' := 100) (lv' := [(9, vI q13), (7, vL v11), (0, vR t), (1, vL a1), (3, vI a3), (4, vI l4), (5, vL l5)]) (st' := []) rfl ?_
    refine j_lv (lv' := [(0, vR t), (1, vL a1), (3, vI a3), (4, vI l4), (7, vL v11), (9, vI q13)]) ⟨rfl, rfl, rfl, rfl, rfl, rfl, trivial⟩ ?_
    exact k100 l4 v11 q13
  refine j_goto hx (off := 46) (by decide +kernel) (tgt := 133) (by decide) ?_
  refine j_lv (lv' := [(0, vR t), (1, vL a1), (3, vI a3), (4, vI l4)]) ⟨rfl, rfl, rfl, rfl, trivial⟩ ?_
  exact wme_hasCode_133 h l4
theorem wme_hasCode_35 {x : jCx} {en : (fme_hasCode_S ⊕ (Int32)) → Option (Outcome × jW)} {W : jW} {t : Nat} {a1 : Int64} {a3 : Int32} (h : hme_hasCode x en t a1 a3 W) (l4 : Int32) (s0 : Int64) (s1 : Int64) : jJ x 10 35 [(0, vR t), (1, vL a1), (3, vI a3), (4, vI l4)] [vL s0, vL s1] W (fme_hasCode_35 t a1 a3 l4 s0 s1 W) en := by
  have h0 := h
  obtain ⟨hx, hm, hr, he, k3, k100⟩ := h0
  unfold fme_hasCode_35
  refine j_TL (j_callS (av := [vL s1, vL s0]) (st := []) hx hr (Or.inl q2185) q824 q246 md_fjm_max np_fjm_max (cjm_max s1 s0 W) (by decide) (Nat.le_of_ble_eq_true rfl) (by decide +kernel)) ?_
  refine j_runA hx 1 (tb := [(38, .lstore 5)]) (jtb_ok (by decide +kernel)) (pc' := 40) (lv' := [(5, vL (fjm_max s1 s0)), (0, vR t), (1, vL a1), (3, vI a3), (4, vI l4)]) (st' := []) rfl ?_
  refine j_let (v := (fjm_max s1 s0)) (lv := fun v6 => [(5, vL v6), (0, vR t), (1, vL a1), (3, vI a3), (4, vI l4)]) (st := fun _ => []) (fun v6 => ?_)
  refine j_runA hx 2 (tb := [(40, .aload_n 0), (41, .iload 4)]) (jtb_ok (by decide +kernel)) (pc' := 43) (lv' := [(5, vL v6), (0, vR t), (1, vL a1), (3, vI a3), (4, vI l4)]) (st' := [vI l4, vR t]) rfl ?_
  refine j_gd (fun h7 => ?_)
  refine j_OL (j_callV (av := [vI l4]) (st := []) hx hr (Or.inl q2016) q2018 qs77 rfl md_fme_addressOf np_fme_addressOf (cme_addressOf t l4 W) (by decide) (Nat.le_of_ble_eq_true rfl) h7 (by decide) (by decide +kernel)) (fun q8 _ => ?_)
  refine j_runA hx 2 (tb := [(46, .aload_n 0), (47, .iload 4)]) (jtb_ok (by decide +kernel)) (pc' := 49) (lv' := [(5, vL v6), (0, vR t), (1, vL a1), (3, vI a3), (4, vI l4)]) (st' := [vI l4, vR t, vL q8]) rfl ?_
  refine j_OI (j_callV (av := [vI l4]) (st := [vL q8]) hx hr (Or.inl q1990) q1992 qs74 rfl md_fme_sizeOf np_fme_sizeOf (cme_sizeOf t l4 W) (by decide) (Nat.le_of_ble_eq_true rfl) h7 (by decide) (by decide +kernel)) (fun q9 _ => ?_)
  refine j_runA hx 3 (tb := [(52, .i2l), (53, .ladd), (54, .lload_n 1)]) (jtb_ok (by decide +kernel)) (pc' := 55) (lv' := [(5, vL v6), (0, vR t), (1, vL a1), (3, vI a3), (4, vI l4)]) (st' := [vL a1, vL (q8 + q9.toInt64)]) rfl ?_
  refine j_ldc2 hx (v := (kJ 2147483648)) (jkd2 q2183 (by decide +kernel)) (by decide +kernel) ?_
  refine j_TI (j_callS (av := [vL a1, vL (kJ 2147483648)]) (st := [vL (q8 + q9.toInt64)]) hx hr (Or.inr ⟨_, q2184⟩) q819 q226 md_fcl_isAbove np_fcl_isAbove (ccl_isAbove a1 (kJ 2147483648) W) (by decide) (Nat.le_of_ble_eq_true rfl) (by decide +kernel)) ?_
  refine j_if_eq hx (off := 9) (tgt := 70) (by decide +kernel) (by decide) (fun _ => ?_) (fun _ => ?_)
  · refine j_runA hx 4 (tb := [(70, .lload_n 1), (71, .iload_n 3), (72, .i2l), (73, .ladd)]) (jtb_ok (by decide +kernel)) (pc' := 74) (lv' := [(5, vL v6), (0, vR t), (1, vL a1), (3, vI a3), (4, vI l4)]) (st' := [vL (a1 + a3.toInt64), vL (q8 + q9.toInt64)]) rfl ?_
    refine j_lv (lv' := [(0, vR t), (1, vL a1), (3, vI a3), (4, vI l4), (5, vL v6)]) ⟨rfl, rfl, rfl, rfl, rfl, trivial⟩ ?_
    exact wme_hasCode_74 h l4 v6 (a1 + a3.toInt64) (q8 + q9.toInt64)
  refine j_ldc2 hx (v := (kJ 2147483648)) (jkd2 q2183 (by decide +kernel)) (by decide +kernel) ?_
  refine j_goto hx (off := 7) (by decide +kernel) (tgt := 74) (by decide) ?_
  refine j_lv (lv' := [(0, vR t), (1, vL a1), (3, vI a3), (4, vI l4), (5, vL v6)]) ⟨rfl, rfl, rfl, rfl, rfl, trivial⟩ ?_
  exact wme_hasCode_74 h l4 v6 (kJ 2147483648) (q8 + q9.toInt64)
theorem wme_hasCode_3 {x : jCx} {en : (fme_hasCode_S ⊕ (Int32)) → Option (Outcome × jW)} {W : jW} {t : Nat} {a1 : Int64} {a3 : Int32} (h : hme_hasCode x en t a1 a3 W) (l4 : Int32) : jJ x 10 3 [(0, vR t), (1, vL a1), (3, vI a3), (4, vI l4)] [] W (fme_hasCode_3 t a1 a3 l4 W) en := by
  have h0 := h
  obtain ⟨hx, hm, hr, he, k3, k100⟩ := h0
  unfold fme_hasCode_3
  refine j_runA hx 2 (tb := [(3, .iload 4), (5, .aload_n 0)]) (jtb_ok (by decide +kernel)) (pc' := 6) (lv' := [(0, vR t), (1, vL a1), (3, vI a3), (4, vI l4)]) (st' := [vR t, vI l4]) rfl ?_
  refine j_gd (fun h2 => ?_)
  refine j_OI (j_callV (av := []) (st := [vI l4]) hx hr (Or.inl q1986) q1988 qs73 rfl md_fme_regions np_fme_regions (cme_regions t W) (by decide) (Nat.le_of_ble_eq_true rfl) h2 (by decide) (by decide +kernel)) (fun q3 _ => ?_)
  refine j_icmp_ge hx (off := 130) (tgt := 139) (by decide +kernel) (by decide) (fun _ => ?_) (fun _ => ?_)
  · refine j_runA hx 1 (tb := [(139, .iconst 0)]) (jtb_ok (by decide +kernel)) (pc' := 140) (lv' := [(0, vR t), (1, vL a1), (3, vI a3), (4, vI l4)]) (st' := [vI (kI 0)]) rfl ?_
    exact j_iret hx hm (by decide +kernel) jz0n (he _)
  refine j_runA hx 2 (tb := [(12, .aload_n 0), (13, .iload 4)]) (jtb_ok (by decide +kernel)) (pc' := 15) (lv' := [(0, vR t), (1, vL a1), (3, vI a3), (4, vI l4)]) (st' := [vI l4, vR t]) rfl ?_
  refine j_OL (j_callV (av := [vI l4]) (st := []) hx hr (Or.inl q2016) q2018 qs77 rfl md_fme_addressOf np_fme_addressOf (cme_addressOf t l4 W) (by decide) (Nat.le_of_ble_eq_true rfl) h2 (by decide) (by decide +kernel)) (fun q4 _ => ?_)
  refine j_runA hx 1 (tb := [(18, .lload_n 1)]) (jtb_ok (by decide +kernel)) (pc' := 19) (lv' := [(0, vR t), (1, vL a1), (3, vI a3), (4, vI l4)]) (st' := [vL a1, vL q4]) rfl ?_
  refine j_ldc2 hx (v := (kJ 2147483648)) (jkd2 q2183 (by decide +kernel)) (by decide +kernel) ?_
  refine j_TI (j_callS (av := [vL a1, vL (kJ 2147483648)]) (st := [vL q4]) hx hr (Or.inr ⟨_, q2184⟩) q819 q226 md_fcl_isAbove np_fcl_isAbove (ccl_isAbove a1 (kJ 2147483648) W) (by decide) (Nat.le_of_ble_eq_true rfl) (by decide +kernel)) ?_
  refine j_if_eq hx (off := 9) (tgt := 34) (by decide +kernel) (by decide) (fun _ => ?_) (fun _ => ?_)
  · refine j_runA hx 1 (tb := [(34, .lload_n 1)]) (jtb_ok (by decide +kernel)) (pc' := 35) (lv' := [(0, vR t), (1, vL a1), (3, vI a3), (4, vI l4)]) (st' := [vL a1, vL q4]) rfl ?_
    exact wme_hasCode_35 h l4 a1 q4
  refine j_ldc2 hx (v := (kJ 2147483648)) (jkd2 q2183 (by decide +kernel)) (by decide +kernel) ?_
  refine j_goto hx (off := 4) (by decide +kernel) (tgt := 35) (by decide) ?_
  exact wme_hasCode_35 h l4 (kJ 2147483648) q4
theorem wme_hasCode {x : jCx} {en : (fme_hasCode_S ⊕ (Int32)) → Option (Outcome × jW)} {W : jW} {t : Nat} {a1 : Int64} {a3 : Int32} (h : hme_hasCode x en t a1 a3 W) : jJ x 10 0 [(0, vR t), (1, vL a1), (3, vI a3)] [] W (fme_hasCode_0 t a1 a3 W) en := by
  have h0 := h
  obtain ⟨hx, hm, hr, he, k3, k100⟩ := h0
  unfold fme_hasCode_0
  refine j_runA hx 2 (tb := [(0, .iconst 0), (1, .istore 4)]) (jtb_ok (by decide +kernel)) (pc' := 3) (lv' := [(4, vI (kI 0)), (0, vR t), (1, vL a1), (3, vI a3)]) (st' := []) rfl ?_
  refine j_lv (lv' := [(0, vR t), (1, vL a1), (3, vI a3), (4, vI (kI 0))]) ⟨rfl, rfl, rfl, rfl, trivial⟩ ?_
  exact k3 (kI 0)
theorem cme_hasCode (t : Nat) (a1 : Int64) (a3 : Int32) (W : jW) : jM yX17_hasCode cX17_hasCode 10 (Option.some Jvm.ClassFile.FieldType.boolean) [] 4 57 [vR t, vL a1, vI a3] W ((fme_hasCode t a1 a3 W).bind (fun q => some (.returned (some (.int q)), W))) := by
  refine jM.of (Nat.le_of_ble_eq_true rfl) (fun x hx hm hr => ?_)
  refine j_begin (P := (Sum.elim (fun s => (3, [(0, vR t), (1, vL a1), (3, vI a3), (4, vI s)], W)) (fun s => (100, [(0, vR t), (1, vL a1), (3, vI a3), (4, vI s.1), (7, vL s.2.1), (9, vI s.2.2)], W)))) (fun en he hk => ?_)
  have h : hme_hasCode x en t a1 a3 W := ⟨hx, hm, hr, fun q => he _, fun l4 => hk (.inl l4), fun l4 l7 l9 => hk (.inr (l4, l7, l9))⟩
  refine ⟨fun s => ?_, wme_hasCode h⟩
  rcases s with s | s
  · exact wme_hasCode_3 h s
  · exact wme_hasCode_100 h s.1 s.2.1 s.2.2
def hme_mayStore (x : jCx) (en : (Int32) → Option (Outcome × jW)) (t : Nat) (a1 : Int32) (W : jW) : Prop :=
  jOK x RX17 cX17_mayStore 2 ∧
  jMt x "mayStore" (Option.some Jvm.ClassFile.FieldType.boolean) [] ∧
  jRm x 2 25 ∧
  (∀ q : Int32, en q = some (.returned (some (.int q)), W))
theorem wme_mayStore_25 {x : jCx} {en : (Int32) → Option (Outcome × jW)} {W : jW} {t : Nat} {a1 : Int32} (h : hme_mayStore x en t a1 W) : jJ x 2 25 [(0, vR t), (1, vI a1)] [] W (fme_mayStore_25 t a1 W) en := by
  have h0 := h
  obtain ⟨hx, hm, hr, he⟩ := h0
  unfold fme_mayStore_25
  refine j_runA hx 1 (tb := [(25, .iconst 1)]) (jtb_ok (by decide +kernel)) (pc' := 26) (lv' := [(0, vR t), (1, vI a1)]) (st' := [vI (kI 1)]) rfl ?_
  refine j_goto hx (off := 4) (by decide +kernel) (tgt := 30) (by decide) ?_
  exact j_iret hx hm (by decide +kernel) jz1n (he _)
theorem wme_mayStore {x : jCx} {en : (Int32) → Option (Outcome × jW)} {W : jW} {t : Nat} {a1 : Int32} (h : hme_mayStore x en t a1 W) : jJ x 2 0 [(0, vR t), (1, vI a1)] [] W (fme_mayStore t a1 W) en := by
  have h0 := h
  obtain ⟨hx, hm, hr, he⟩ := h0
  unfold fme_mayStore
  refine j_runA hx 2 (tb := [(0, .iload_n 1), (1, .aload_n 0)]) (jtb_ok (by decide +kernel)) (pc' := 2) (lv' := [(0, vR t), (1, vI a1)]) (st' := [vR t, vI a1]) rfl ?_
  refine j_gd (fun h1 => ?_)
  refine j_OI (j_callV (av := []) (st := [vI a1]) hx hr (Or.inl q1994) q1996 qs75 rfl md_fme_stack np_fme_stack (cme_stack t W) (by decide) (Nat.le_of_ble_eq_true rfl) h1 (by decide) (by decide +kernel)) (fun q2 _ => ?_)
  refine j_icmp_eq hx (off := 20) (tgt := 25) (by decide +kernel) (by decide) (fun _ => ?_) (fun _ => ?_)
  · exact wme_mayStore_25 h
  refine j_runA hx 1 (tb := [(8, .aload_n 0)]) (jtb_ok (by decide +kernel)) (pc' := 9) (lv' := [(0, vR t), (1, vI a1)]) (st' := [vR t]) rfl ?_
  refine j_getR hx flX17_29 kl1200 h1 (by decide) (by decide +kernel) ?_
  refine j_gd (fun h3 => ?_)
  refine j_getR hx flX17_37 kl201 h3 (by decide) (by decide +kernel) ?_
  refine j_gd (fun h4 => ?_)
  refine j_getR hx flX17_93 kl407 h4 (by decide) (by decide +kernel) ?_
  refine j_runA hx 1 (tb := [(18, .iload_n 1)]) (jtb_ok (by decide +kernel)) (pc' := 19) (lv' := [(0, vR t), (1, vI a1)]) (st' := [vI a1, vR (jR W 407 (jR W 201 (jR W 1200 t)))]) rfl ?_
  refine j_gd (fun h5 => ?_)
  refine j_iald hx (f := 407) (o := (jR W 201 (jR W 1200 t))) kd407 rfl (by decide +kernel) h5 ?_
  refine j_runA hx 1 (tb := [(20, .bipush 6)]) (jtb_ok (by decide +kernel)) (pc' := 22) (lv' := [(0, vR t), (1, vI a1)]) (st' := [vI (kI 6), vI (jA W 407 (jR W 201 (jR W 1200 t)) (ix a1))]) rfl ?_
  refine j_icmp_ne hx (off := 7) (tgt := 29) (by decide +kernel) (by decide) (fun _ => ?_) (fun _ => ?_)
  · refine j_runA hx 1 (tb := [(29, .iconst 0)]) (jtb_ok (by decide +kernel)) (pc' := 30) (lv' := [(0, vR t), (1, vI a1)]) (st' := [vI (kI 0)]) rfl ?_
    exact j_iret hx hm (by decide +kernel) jz0n (he _)
  exact wme_mayStore_25 h
theorem cme_mayStore (t : Nat) (a1 : Int32) (W : jW) : jM yX17_mayStore cX17_mayStore 2 (Option.some Jvm.ClassFile.FieldType.boolean) [] 2 25 [vR t, vI a1] W ((fme_mayStore t a1 W).bind (fun q => some (.returned (some (.int q)), W))) := 
  jM.of (Nat.le_of_ble_eq_true rfl) (fun x hx hm hr => wme_mayStore ⟨hx, hm, hr, fun _ => rfl⟩)
def hma_looked (x : jCx) (en : ((Nat × jW) ⊕ Int32 × jW) → Option (Outcome × jW)) (t : Nat) (a1 : Int64) (a3 : Int32) (a4 : Int32) : Prop :=
  jOK x RX15 cX15_looked 6 ∧
  jMt x "looked" (Option.some Jvm.ClassFile.FieldType.int) [] ∧
  jRm x 5 79 ∧
  (∀ q : Int32 × jW, en (.inr q) = some (.returned (some (.int q.1)), q.2)) ∧
  (∀ z : Nat × jW, en (.inl z) = some (.threw (z.1 - 1), z.2))
theorem wma_looked_88 {x : jCx} {en : ((Nat × jW) ⊕ Int32 × jW) → Option (Outcome × jW)} {t : Nat} {a1 : Int64} {a3 : Int32} {a4 : Int32} (h : hma_looked x en t a1 a3 a4) (l5 : Int32) (W : jW) : jJ x 6 88 [(0, vR t), (1, vL a1), (3, vI a3), (4, vI a4), (5, vI l5)] [] W (fma_looked_88 t a1 a3 a4 l5 W) en := by
  have h0 := h
  obtain ⟨hx, hm, hr, he, ht⟩ := h0
  unfold fma_looked_88
  refine j_runA hx 1 (tb := [(88, .iload 5)]) (jtb_ok (by decide +kernel)) (pc' := 90) (lv' := [(0, vR t), (1, vL a1), (3, vI a3), (4, vI a4), (5, vI l5)]) (st' := [vI l5]) rfl ?_
  exact j_iret hx hm (by decide +kernel) rfl (he _)
theorem wma_looked_124 {x : jCx} {en : ((Nat × jW) ⊕ Int32 × jW) → Option (Outcome × jW)} {t : Nat} {a1 : Int64} {a3 : Int32} {a4 : Int32} (h : hma_looked x en t a1 a3 a4) (W : jW) : jJ x 6 124 [(0, vR t), (1, vL a1), (3, vI a3), (4, vI a4)] [] W (fma_looked_124 t a1 a3 a4 W) en := by
  have h0 := h
  obtain ⟨hx, hm, hr, he, ht⟩ := h0
  unfold fma_looked_124
  refine j_runA hx 1 (tb := [(124, .aload_n 0)]) (jtb_ok (by decide +kernel)) (pc' := 125) (lv' := [(0, vR t), (1, vL a1), (3, vI a3), (4, vI a4)]) (st' := [vR t]) rfl ?_
  refine j_gd (fun h23 => ?_)
  refine j_getR hx flX15_12 kl1004 h23 (by decide) (by decide +kernel) ?_
  refine j_runA hx 1 (tb := [(128, .iconst 2)]) (jtb_ok (by decide +kernel)) (pc' := 129) (lv' := [(0, vR t), (1, vL a1), (3, vI a3), (4, vI a4)]) (st' := [vI (kI 2), vR (jR W 1004 t)]) rfl ?_
  refine j_gd (fun h24 => ?_)
  refine j_WR (j_callV (av := [vI (kI 2)]) (st := []) hx hr (Or.inl q2063) q2064 q2065 rfl md_fha_by np_fha_by (cha_by (jR W 1004 t) (kI 2) W) (by decide) (Nat.le_of_ble_eq_true rfl) h24 (by decide) (by decide +kernel)) (fun q25 _ => ?_)
  refine j_gd (fun h27 => ?_)
  exact j_athrow hx hm (by decide +kernel) h27 (ht _)
theorem wma_looked_91 {x : jCx} {en : ((Nat × jW) ⊕ Int32 × jW) → Option (Outcome × jW)} {t : Nat} {a1 : Int64} {a3 : Int32} {a4 : Int32} (h : hma_looked x en t a1 a3 a4) (W : jW) : jJ x 6 91 [(0, vR t), (1, vL a1), (3, vI a3), (4, vI a4)] [] W (fma_looked_91 t a1 a3 a4 W) en := by
  have h0 := h
  obtain ⟨hx, hm, hr, he, ht⟩ := h0
  unfold fma_looked_91
  refine j_runA hx 1 (tb := [(91, .iload 4)]) (jtb_ok (by decide +kernel)) (pc' := 93) (lv' := [(0, vR t), (1, vL a1), (3, vI a3), (4, vI a4)]) (st' := [vI a4]) rfl ?_
  refine j_if_ne hx (off := 31) (tgt := 124) (by decide +kernel) (by decide) (fun _ => ?_) (fun _ => ?_)
  · exact wma_looked_124 h W
  refine j_runA hx 2 (tb := [(96, .lload_n 1), (97, .aload_n 0)]) (jtb_ok (by decide +kernel)) (pc' := 98) (lv' := [(0, vR t), (1, vL a1), (3, vI a3), (4, vI a4)]) (st' := [vR t, vL a1]) rfl ?_
  refine j_gd (fun h18 => ?_)
  refine j_OL (j_callV (av := []) (st := [vL a1]) hx hr (Or.inl q2039) q2041 qs80 rfl md_fma_begin np_fma_begin (cma_begin t W) (by decide) (Nat.le_of_ble_eq_true rfl) h18 (by decide) (by decide +kernel)) (fun q19 _ => ?_)
  refine j_runA hx 1 (tb := [(101, .aload_n 0)]) (jtb_ok (by decide +kernel)) (pc' := 102) (lv' := [(0, vR t), (1, vL a1), (3, vI a3), (4, vI a4)]) (st' := [vR t, vL q19, vL a1]) rfl ?_
  refine j_OL (j_callV (av := []) (st := [vL q19, vL a1]) hx hr (Or.inl q2039) q2041 qs80 rfl md_fma_begin np_fma_begin (cma_begin t W) (by decide) (Nat.le_of_ble_eq_true rfl) h18 (by decide) (by decide +kernel)) (fun q20 _ => ?_)
  refine j_runA hx 1 (tb := [(105, .aload_n 0)]) (jtb_ok (by decide +kernel)) (pc' := 106) (lv' := [(0, vR t), (1, vL a1), (3, vI a3), (4, vI a4)]) (st' := [vR t, vL q20, vL q19, vL a1]) rfl ?_
  refine j_OI (j_callV (av := []) (st := [vL q20, vL q19, vL a1]) hx hr (Or.inl q2044) q2046 qs81 rfl md_fma_bytes np_fma_bytes (cma_bytes t W) (by decide) (Nat.le_of_ble_eq_true rfl) h18 (by decide) (by decide +kernel)) (fun q21 _ => ?_)
  refine j_runA hx 7 (tb := [(109, .i2l), (110, .ladd), (111, .iload_n 3), (112, .i2l), (113, .lsub), (114, .lconst 1), (115, .ladd)]) (jtb_ok (by decide +kernel)) (pc' := 116) (lv' := [(0, vR t), (1, vL a1), (3, vI a3), (4, vI a4)]) (st' := [vL (((q20 + q21.toInt64) - a3.toInt64) + (kJ 1)), vL q19, vL a1]) rfl ?_
  refine j_TI (j_callS (av := [vL a1, vL q19, vL (((q20 + q21.toInt64) - a3.toInt64) + (kJ 1))]) (st := []) hx hr (Or.inr ⟨_, q2048⟩) q872 q226 md_fcl_isIn np_fcl_isIn (ccl_isIn a1 q19 (((q20 + q21.toInt64) - a3.toInt64) + (kJ 1)) W) (by decide) (Nat.le_of_ble_eq_true rfl) (by decide +kernel)) ?_
  refine j_if_eq hx (off := 5) (tgt := 124) (by decide +kernel) (by decide) (fun _ => ?_) (fun _ => ?_)
  · exact wma_looked_124 h W
  refine j_runA hx 1 (tb := [(122, .iconst (-1))]) (jtb_ok (by decide +kernel)) (pc' := 123) (lv' := [(0, vR t), (1, vL a1), (3, vI a3), (4, vI a4)]) (st' := [vI (kI (-1))]) rfl ?_
  exact j_iret hx hm (by decide +kernel) rfl (he _)
theorem wma_looked_52 {x : jCx} {en : ((Nat × jW) ⊕ Int32 × jW) → Option (Outcome × jW)} {t : Nat} {a1 : Int64} {a3 : Int32} {a4 : Int32} (h : hma_looked x en t a1 a3 a4) (s0 : Int32) (s1 : Nat) (W : jW) : jJ x 6 52 [(0, vR t), (1, vL a1), (3, vI a3), (4, vI a4)] [vI s0, vR s1] W (fma_looked_52 t a1 a3 a4 s0 s1 W) en := by
  have h0 := h
  obtain ⟨hx, hm, hr, he, ht⟩ := h0
  unfold fma_looked_52
  refine j_gd (fun h9 => ?_)
  refine j_EV (j_callV (av := [vI s0]) (st := []) hx hr (Or.inl q2074) q2076 qs86 rfl md_fma_must np_fma_must (cma_must s1 s0 W) (by decide) (Nat.le_of_ble_eq_true rfl) h9 (by decide) (by decide +kernel)) (fun z _ r h9 => j_upE hm hx (ht z) h9) (fun q10 _ => ?_)
  refine j_runA hx 1 (tb := [(55, .aload_n 0)]) (jtb_ok (by decide +kernel)) (pc' := 56) (lv' := [(0, vR t), (1, vL a1), (3, vI a3), (4, vI a4)]) (st' := [vR t]) rfl ?_
  refine j_gd (fun h12 => ?_)
  refine j_getR hx flX15_60 kl1005 h12 (by decide) (by decide +kernel) ?_
  refine j_runA hx 2 (tb := [(59, .lload_n 1), (60, .iload_n 3)]) (jtb_ok (by decide +kernel)) (pc' := 61) (lv' := [(0, vR t), (1, vL a1), (3, vI a3), (4, vI a4)]) (st' := [vI a3, vL a1, vR (jR q10 1005 t)]) rfl ?_
  refine j_gd (fun h13 => ?_)
  refine j_OI (j_callV (av := [vL a1, vI a3]) (st := []) hx hr (Or.inl q2012) q2013 q2014 rfl md_fme_regionOf np_fme_regionOf (cme_regionOf (jR q10 1005 t) a1 a3 q10) (by decide) (Nat.le_of_ble_eq_true rfl) h13 (by decide) (by decide +kernel)) (fun q14 _ => ?_)
  refine j_runA hx 2 (tb := [(64, .istore 5), (66, .iload 5)]) (jtb_ok (by decide +kernel)) (pc' := 68) (lv' := [(5, vI q14), (0, vR t), (1, vL a1), (3, vI a3), (4, vI a4)]) (st' := [vI q14]) rfl ?_
  refine j_if_lt hx (off := 23) (tgt := 91) (by decide +kernel) (by decide) (fun _ => ?_) (fun _ => ?_)
  · refine j_lv (lv' := [(0, vR t), (1, vL a1), (3, vI a3), (4, vI a4)]) ⟨rfl, rfl, rfl, rfl, trivial⟩ ?_
    exact wma_looked_91 h q10
  refine j_runA hx 1 (tb := [(71, .iload 4)]) (jtb_ok (by decide +kernel)) (pc' := 73) (lv' := [(5, vI q14), (0, vR t), (1, vL a1), (3, vI a3), (4, vI a4)]) (st' := [vI a4]) rfl ?_
  refine j_if_eq hx (off := 15) (tgt := 88) (by decide +kernel) (by decide) (fun _ => ?_) (fun _ => ?_)
  · refine j_lv (lv' := [(0, vR t), (1, vL a1), (3, vI a3), (4, vI a4), (5, vI q14)]) ⟨rfl, rfl, rfl, rfl, rfl, trivial⟩ ?_
    exact wma_looked_88 h q14 q10
  refine j_runA hx 1 (tb := [(76, .aload_n 0)]) (jtb_ok (by decide +kernel)) (pc' := 77) (lv' := [(5, vI q14), (0, vR t), (1, vL a1), (3, vI a3), (4, vI a4)]) (st' := [vR t]) rfl ?_
  refine j_getR hx flX15_60 kl1005 h12 (by decide) (by decide +kernel) ?_
  refine j_runA hx 1 (tb := [(80, .iload 5)]) (jtb_ok (by decide +kernel)) (pc' := 82) (lv' := [(5, vI q14), (0, vR t), (1, vL a1), (3, vI a3), (4, vI a4)]) (st' := [vI q14, vR (jR q10 1005 t)]) rfl ?_
  refine j_OI (j_callV (av := [vI q14]) (st := []) hx hr (Or.inl q2189) q2190 q2191 rfl md_fme_mayStore np_fme_mayStore (cme_mayStore (jR q10 1005 t) q14 q10) (by decide) (Nat.le_of_ble_eq_true rfl) h13 (by decide) (by decide +kernel)) (fun q15 _ => ?_)
  refine j_if_eq hx (off := 6) (tgt := 91) (by decide +kernel) (by decide) (fun _ => ?_) (fun _ => ?_)
  · refine j_lv (lv' := [(0, vR t), (1, vL a1), (3, vI a3), (4, vI a4)]) ⟨rfl, rfl, rfl, rfl, trivial⟩ ?_
    exact wma_looked_91 h q10
  refine j_lv (lv' := [(0, vR t), (1, vL a1), (3, vI a3), (4, vI a4), (5, vI q14)]) ⟨rfl, rfl, rfl, rfl, rfl, trivial⟩ ?_
  exact wma_looked_88 h q14 q10
theorem wma_looked_47 {x : jCx} {en : ((Nat × jW) ⊕ Int32 × jW) → Option (Outcome × jW)} {t : Nat} {a1 : Int64} {a3 : Int32} {a4 : Int32} (h : hma_looked x en t a1 a3 a4) (s0 : Nat) (W : jW) : jJ x 6 47 [(0, vR t), (1, vL a1), (3, vI a3), (4, vI a4)] [vR s0] W (fma_looked_47 t a1 a3 a4 s0 W) en := by
  have h0 := h
  obtain ⟨hx, hm, hr, he, ht⟩ := h0
  unfold fma_looked_47
  refine j_runA hx 1 (tb := [(47, .iconst 1)]) (jtb_ok (by decide +kernel)) (pc' := 48) (lv' := [(0, vR t), (1, vL a1), (3, vI a3), (4, vI a4)]) (st' := [vI (kI 1), vR s0]) rfl ?_
  refine j_goto hx (off := 4) (by decide +kernel) (tgt := 52) (by decide) ?_
  exact wma_looked_52 h (kI 1) s0 W
theorem wma_looked_35 {x : jCx} {en : ((Nat × jW) ⊕ Int32 × jW) → Option (Outcome × jW)} {t : Nat} {a1 : Int64} {a3 : Int32} {a4 : Int32} (h : hma_looked x en t a1 a3 a4) (s0 : Nat) (W : jW) : jJ x 6 35 [(0, vR t), (1, vL a1), (3, vI a3), (4, vI a4)] [vR s0] W (fma_looked_35 t a1 a3 a4 s0 W) en := by
  have h0 := h
  obtain ⟨hx, hm, hr, he, ht⟩ := h0
  unfold fma_looked_35
  refine j_runA hx 1 (tb := [(35, .aload_n 0)]) (jtb_ok (by decide +kernel)) (pc' := 36) (lv' := [(0, vR t), (1, vL a1), (3, vI a3), (4, vI a4)]) (st' := [vR t, vR s0]) rfl ?_
  refine j_gd (fun h29 => ?_)
  refine j_getR hx flX15_60 kl1005 h29 (by decide) (by decide +kernel) ?_
  refine j_runA hx 2 (tb := [(39, .lload_n 1), (40, .iload_n 3)]) (jtb_ok (by decide +kernel)) (pc' := 41) (lv' := [(0, vR t), (1, vL a1), (3, vI a3), (4, vI a4)]) (st' := [vI a3, vL a1, vR (jR W 1005 t), vR s0]) rfl ?_
  refine j_gd (fun h30 => ?_)
  refine j_OI (j_callV (av := [vL a1, vI a3]) (st := [vR s0]) hx hr (Or.inl q2179) q2180 q2181 rfl md_fme_hasCode np_fme_hasCode (cme_hasCode (jR W 1005 t) a1 a3 W) (by decide) (Nat.le_of_ble_eq_true rfl) h30 (by decide) (by decide +kernel)) (fun q31 _ => ?_)
  refine j_if_ne hx (off := 7) (tgt := 51) (by decide +kernel) (by decide) (fun _ => ?_) (fun _ => ?_)
  · refine j_runA hx 1 (tb := [(51, .iconst 0)]) (jtb_ok (by decide +kernel)) (pc' := 52) (lv' := [(0, vR t), (1, vL a1), (3, vI a3), (4, vI a4)]) (st' := [vI (kI 0), vR s0]) rfl ?_
    exact wma_looked_52 h (kI 0) s0 W
  exact wma_looked_47 h s0 W
theorem wma_looked_15 {x : jCx} {en : ((Nat × jW) ⊕ Int32 × jW) → Option (Outcome × jW)} {t : Nat} {a1 : Int64} {a3 : Int32} {a4 : Int32} (h : hma_looked x en t a1 a3 a4) (s0 : Int32) (s1 : Nat) (W : jW) : jJ x 6 15 [(0, vR t), (1, vL a1), (3, vI a3), (4, vI a4)] [vI s0, vR s1] W (fma_looked_15 t a1 a3 a4 s0 s1 W) en := by
  have h0 := h
  obtain ⟨hx, hm, hr, he, ht⟩ := h0
  unfold fma_looked_15
  refine j_gd (fun h4 => ?_)
  refine j_EV (j_callV (av := [vI s0]) (st := []) hx hr (Or.inl q2074) q2076 qs86 rfl md_fma_must np_fma_must (cma_must s1 s0 W) (by decide) (Nat.le_of_ble_eq_true rfl) h4 (by decide) (by decide +kernel)) (fun z _ r h9 => j_upE hm hx (ht z) h9) (fun q5 _ => ?_)
  refine j_runA hx 3 (tb := [(18, .aload_n 0), (19, .iload_n 3), (20, .bipush 8)]) (jtb_ok (by decide +kernel)) (pc' := 22) (lv' := [(0, vR t), (1, vL a1), (3, vI a3), (4, vI a4)]) (st' := [vI (kI 8), vI a3, vR t]) rfl ?_
  refine j_icmp_ne hx (off := 13) (tgt := 35) (by decide +kernel) (by decide) (fun _ => ?_) (fun _ => ?_)
  · exact wma_looked_35 h t q5
  refine j_runA hx 1 (tb := [(25, .lload_n 1)]) (jtb_ok (by decide +kernel)) (pc' := 26) (lv' := [(0, vR t), (1, vL a1), (3, vI a3), (4, vI a4)]) (st' := [vL a1, vR t]) rfl ?_
  refine j_ldc2 hx (v := (kJ 8)) (jkd2 q2169 (by decide +kernel)) (by decide +kernel) ?_
  refine j_lrem hx (by decide +kernel) (by decide +kernel) ?_
  refine j_runA hx 1 (tb := [(30, .lconst 0)]) (jtb_ok (by decide +kernel)) (pc' := 31) (lv' := [(0, vR t), (1, vL a1), (3, vI a3), (4, vI a4)]) (st' := [vL (kJ 0), vL (lrm a1 (kJ 8)), vR t]) rfl ?_
  refine j_lcmp_eq hx (off := 15) (tgt := 47) (by decide +kernel) (by decide +kernel) (by decide) (fun _ => ?_) (fun _ => ?_)
  · exact wma_looked_47 h t q5
  exact wma_looked_35 h t q5
theorem wma_looked {x : jCx} {en : ((Nat × jW) ⊕ Int32 × jW) → Option (Outcome × jW)} {t : Nat} {a1 : Int64} {a3 : Int32} {a4 : Int32} (h : hma_looked x en t a1 a3 a4) (W : jW) : jJ x 6 0 [(0, vR t), (1, vL a1), (3, vI a3), (4, vI a4)] [] W (fma_looked t a1 a3 a4 W) en := by
  have h0 := h
  obtain ⟨hx, hm, hr, he, ht⟩ := h0
  unfold fma_looked
  refine j_runA hx 4 (tb := [(0, .aload_n 0), (1, .aload_n 0), (2, .lload_n 1), (3, .iload_n 3)]) (jtb_ok (by decide +kernel)) (pc' := 4) (lv' := [(0, vR t), (1, vL a1), (3, vI a3), (4, vI a4)]) (st' := [vI a3, vL a1, vR t, vR t]) rfl ?_
  refine j_gd (fun h1 => ?_)
  refine j_OI (j_callV (av := [vL a1, vI a3]) (st := [vR t]) hx hr (Or.inl q2174) q2176 qs106 rfl md_fma_isInTexts np_fma_isInTexts (cma_isInTexts t a1 a3 W) (by decide) (Nat.le_of_ble_eq_true rfl) h1 (by decide) (by decide +kernel)) (fun q2 _ => ?_)
  refine j_if_ne hx (off := 7) (tgt := 14) (by decide +kernel) (by decide) (fun _ => ?_) (fun _ => ?_)
  · refine j_runA hx 1 (tb := [(14, .iconst 0)]) (jtb_ok (by decide +kernel)) (pc' := 15) (lv' := [(0, vR t), (1, vL a1), (3, vI a3), (4, vI a4)]) (st' := [vI (kI 0), vR t]) rfl ?_
    exact wma_looked_15 h (kI 0) t W
  refine j_runA hx 1 (tb := [(10, .iconst 1)]) (jtb_ok (by decide +kernel)) (pc' := 11) (lv' := [(0, vR t), (1, vL a1), (3, vI a3), (4, vI a4)]) (st' := [vI (kI 1), vR t]) rfl ?_
  refine j_goto hx (off := 4) (by decide +kernel) (tgt := 15) (by decide) ?_
  exact wma_looked_15 h (kI 1) t W
theorem cma_looked (t : Nat) (a1 : Int64) (a3 : Int32) (a4 : Int32) (W : jW) : jM yX15_looked cX15_looked 6 (Option.some Jvm.ClassFile.FieldType.int) [] 5 79 [vR t, vL a1, vI a3, vI a4] W ((fma_looked t a1 a3 a4 W).bind (fun q => some (Sum.elim (fun z => (.threw (z.1 - 1), z.2)) (fun q => (.returned (some (.int q.1)), q.2)) q))) := 
  jM.of (Nat.le_of_ble_eq_true rfl) (fun x hx hm hr => wma_looked ⟨hx, hm, hr, fun _ => rfl, fun _ => rfl⟩ W)
def hme_placeOf (x : jCx) (en : (Int32) → Option (Outcome × jW)) (t : Nat) (a1 : Int32) (a2 : Int64) (W : jW) : Prop :=
  jOK x RX17 cX17_placeOf 4 ∧
  jMt x "placeOf" (Option.some Jvm.ClassFile.FieldType.int) [] ∧
  jRm x 3 41 ∧
  (∀ q : Int32, en q = some (.returned (some (.int q)), W))
theorem wme_placeOf {x : jCx} {en : (Int32) → Option (Outcome × jW)} {W : jW} {t : Nat} {a1 : Int32} {a2 : Int64} (h : hme_placeOf x en t a1 a2 W) : jJ x 4 0 [(0, vR t), (1, vI a1), (2, vL a2)] [] W (fme_placeOf t a1 a2 W) en := by
  have h0 := h
  obtain ⟨hx, hm, hr, he⟩ := h0
  unfold fme_placeOf
  refine j_runA hx 1 (tb := [(0, .aload_n 0)]) (jtb_ok (by decide +kernel)) (pc' := 1) (lv' := [(0, vR t), (1, vI a1), (2, vL a2)]) (st' := [vR t]) rfl ?_
  refine j_gd (fun h1 => ?_)
  refine j_getR hx flX17_16 kl1203 h1 (by decide) (by decide +kernel) ?_
  refine j_runA hx 1 (tb := [(4, .iload_n 1)]) (jtb_ok (by decide +kernel)) (pc' := 5) (lv' := [(0, vR t), (1, vI a1), (2, vL a2)]) (st' := [vI a1, vR (jR W 1203 t)]) rfl ?_
  refine j_gd (fun h2 => ?_)
  refine j_iald hx (f := 1203) (o := t) kd1203 rfl (by decide +kernel) h2 ?_
  refine j_runA hx 3 (tb := [(6, .lload_n 2), (7, .aload_n 0), (8, .iload_n 1)]) (jtb_ok (by decide +kernel)) (pc' := 9) (lv' := [(0, vR t), (1, vI a1), (2, vL a2)]) (st' := [vI a1, vR t, vL a2, vI (jA W 1203 t (ix a1))]) rfl ?_
  refine j_OL (j_callV (av := [vI a1]) (st := [vL a2, vI (jA W 1203 t (ix a1))]) hx hr (Or.inl q2016) q2018 qs77 rfl md_fme_addressOf np_fme_addressOf (cme_addressOf t a1 W) (by decide) (Nat.le_of_ble_eq_true rfl) h1 (by decide) (by decide +kernel)) (fun q3 _ => ?_)
  refine j_runA hx 3 (tb := [(12, .lsub), (13, .l2i), (14, .iadd)]) (jtb_ok (by decide +kernel)) (pc' := 15) (lv' := [(0, vR t), (1, vI a1), (2, vL a2)]) (st' := [vI ((jA W 1203 t (ix a1)) + ((a2 - q3).toInt32))]) rfl ?_
  exact j_iret hx hm (by decide +kernel) rfl (he _)
theorem cme_placeOf (t : Nat) (a1 : Int32) (a2 : Int64) (W : jW) : jM yX17_placeOf cX17_placeOf 4 (Option.some Jvm.ClassFile.FieldType.int) [] 3 41 [vR t, vI a1, vL a2] W ((fme_placeOf t a1 a2 W).bind (fun q => some (.returned (some (.int q)), W))) := 
  jM.of (Nat.le_of_ble_eq_true rfl) (fun x hx hm hr => wme_placeOf ⟨hx, hm, hr, fun _ => rfl⟩)
def hme_store (x : jCx) (en : (fme_store_S ⊕ (jW)) → Option (Outcome × jW)) (t : Nat) (a1 : Int32) (a2 : Int64) (a4 : Int32) (a5 : Int64) : Prop :=
  jOK x RX17 cX17_store 9 ∧
  jMt x "store" (Option.none : Option Jvm.ClassFile.FieldType) [] ∧
  jRm x 4 56 ∧
  (∀ q : jW, en (.inr q) = some (.returned none, q)) ∧
  (∀ (l7 : Int32) (l8 : Int32) (W : jW), jJ x 9 11 [(0, vR t), (1, vI a1), (2, vL a2), (4, vI a4), (5, vL a5), (7, vI l7), (8, vI l8)] [] W (some (.inl (l7, l8, W))) en)
theorem wme_store_11 {x : jCx} {en : (fme_store_S ⊕ (jW)) → Option (Outcome × jW)} {t : Nat} {a1 : Int32} {a2 : Int64} {a4 : Int32} {a5 : Int64} (h : hme_store x en t a1 a2 a4 a5) (l7 : Int32) (l8 : Int32) (W : jW) : jJ x 9 11 [(0, vR t), (1, vI a1), (2, vL a2), (4, vI a4), (5, vL a5), (7, vI l7), (8, vI l8)] [] W (fme_store_11 t a1 a2 a4 a5 l7 l8 W) en := by
  have h0 := h
  obtain ⟨hx, hm, hr, he, k11⟩ := h0
  unfold fme_store_11
  refine j_runA hx 2 (tb := [(11, .iload 8), (13, .iload 4)]) (jtb_ok (by decide +kernel)) (pc' := 15) (lv' := [(0, vR t), (1, vI a1), (2, vL a2), (4, vI a4), (5, vL a5), (7, vI l7), (8, vI l8)]) (st' := [vI a4, vI l8]) rfl ?_
  refine j_icmp_ge hx (off := 29) (tgt := 44) (by decide +kernel) (by decide) (fun _ => ?_) (fun _ => ?_)
  · exact j_vret hx hm (by decide +kernel) (he _)
  refine j_runA hx 1 (tb := [(18, .aload_n 0)]) (jtb_ok (by decide +kernel)) (pc' := 19) (lv' := [(0, vR t), (1, vI a1), (2, vL a2), (4, vI a4), (5, vL a5), (7, vI l7), (8, vI l8)]) (st' := [vR t]) rfl ?_
  refine j_gd (fun h4 => ?_)
  refine j_getR hx flX17_12 kl1202 h4 (by decide) (by decide +kernel) ?_
  refine j_runA hx 10 (tb := [(22, .iload 7), (24, .iload 8), (26, .iadd), (27, .lload 5), (29, .bipush 8), (31, .iload 8), (33, .imul), (34, .lshr), (35, .l2i), (36, .i2b)]) (jtb_ok (by decide +kernel)) (pc' := 37) (lv' := [(0, vR t), (1, vI a1), (2, vL a2), (4, vI a4), (5, vL a5), (7, vI l7), (8, vI l8)]) (st' := [vI (i2b ((lxr a5 ((kI 8) * l8)).toInt32)), vI (l7 + l8), vR (jR W 1202 t)]) rfl ?_
  refine j_gd (fun h5 => ?_)
  refine j_bast hx (f := 1202) (o := t) kd1202 rfl (by decide +kernel) h5 ?_
  refine j_ltw rfl (fun W6 hc7 => ?_)
  have h8 : jC W6 t = 12 := (congrFun hc7 _).trans h4
  refine j_runA hx 1 (tb := [(38, .iinc 8 1)]) (jtb_ok (by decide +kernel)) (pc' := 41) (lv' := [(8, vI (l8 + (kI 1))), (0, vR t), (1, vI a1), (2, vL a2), (4, vI a4), (5, vL a5), (7, vI l7)]) (st' := []) rfl ?_
  refine j_let (v := (l8 + (kI 1))) (lv := fun v10 => [(8, vI v10), (0, vR t), (1, vI a1), (2, vL a2), (4, vI a4), (5, vL a5), (7, vI l7)]) (st := fun _ => []) (fun v10 => ?_)
  refine j_goto hx (off := -30) (by decide +kernel) (tgt := 11) (by decide) ?_
  refine j_lv (lv' := [(0, vR t), (1, vI a1), (2, vL a2), (4, vI a4), (5, vL a5), (7, vI l7), (8, vI v10)]) ⟨rfl, rfl, rfl, rfl, rfl, rfl, rfl, trivial⟩ ?_
  exact k11 l7 v10 W6
theorem wme_store {x : jCx} {en : (fme_store_S ⊕ (jW)) → Option (Outcome × jW)} {t : Nat} {a1 : Int32} {a2 : Int64} {a4 : Int32} {a5 : Int64} (h : hme_store x en t a1 a2 a4 a5) (W : jW) : jJ x 9 0 [(0, vR t), (1, vI a1), (2, vL a2), (4, vI a4), (5, vL a5)] [] W (fme_store_0 t a1 a2 a4 a5 W) en := by
  have h0 := h
  obtain ⟨hx, hm, hr, he, k11⟩ := h0
  unfold fme_store_0
  refine j_runA hx 3 (tb := [(0, .aload_n 0), (1, .iload_n 1), (2, .lload_n 2)]) (jtb_ok (by decide +kernel)) (pc' := 3) (lv' := [(0, vR t), (1, vI a1), (2, vL a2), (4, vI a4), (5, vL a5)]) (st' := [vL a2, vI a1, vR t]) rfl ?_
  refine j_gd (fun h1 => ?_)
  refine j_OI (j_callV (av := [vI a1, vL a2]) (st := []) hx hr (Or.inl q2201) q2203 qs108 rfl md_fme_placeOf np_fme_placeOf (cme_placeOf t a1 a2 W) (by decide) (Nat.le_of_ble_eq_true rfl) h1 (by decide) (by decide +kernel)) (fun q2 _ => ?_)
  refine j_runA hx 3 (tb := [(6, .istore 7), (8, .iconst 0), (9, .istore 8)]) (jtb_ok (by decide +kernel)) (pc' := 11) (lv' := [(8, vI (kI 0)), (7, vI q2), (0, vR t), (1, vI a1), (2, vL a2), (4, vI a4), (5, vL a5)]) (st' := []) rfl ?_
  refine j_lv (lv' := [(0, vR t), (1, vI a1), (2, vL a2), (4, vI a4), (5, vL a5), (7, vI q2), (8, vI (kI 0))]) ⟨rfl, rfl, rfl, rfl, rfl, rfl, rfl, trivial⟩ ?_
  exact k11 q2 (kI 0) W
theorem cme_store (t : Nat) (a1 : Int32) (a2 : Int64) (a4 : Int32) (a5 : Int64) (W : jW) : jM yX17_store cX17_store 9 (Option.none : Option Jvm.ClassFile.FieldType) [] 4 56 [vR t, vI a1, vL a2, vI a4, vL a5] W ((fme_store t a1 a2 a4 a5 W).bind (fun q => some (.returned none, q))) := by
  refine jM.of (Nat.le_of_ble_eq_true rfl) (fun x hx hm hr => ?_)
  refine j_begin (P := (fun s => (11, [(0, vR t), (1, vI a1), (2, vL a2), (4, vI a4), (5, vL a5), (7, vI s.1), (8, vI s.2.1)], s.2.2))) (fun en he hk => ?_)
  have h : hme_store x en t a1 a2 a4 a5 := ⟨hx, hm, hr, fun q => he _, fun l7 l8 W => hk (l7, l8, W)⟩
  exact ⟨fun s => wme_store_11 h s.1 s.2.1 s.2.2, wme_store h W⟩
def hma_storeFrom (x : jCx) (en : (jW) → Option (Outcome × jW)) (t : Nat) (a1 : Int32) (a2 : Int32) (a3 : Int64) (a5 : Int32) : Prop :=
  jOK x RX15 cX15_storeFrom 6 ∧
  jMt x "storeFrom" (Option.none : Option Jvm.ClassFile.FieldType) [] ∧
  jRm x 5 76 ∧
  (∀ q : jW, en q = some (.returned none, q))
theorem wma_storeFrom_79 {x : jCx} {en : (jW) → Option (Outcome × jW)} {t : Nat} {a1 : Int32} {a2 : Int32} {a3 : Int64} {a5 : Int32} (h : hma_storeFrom x en t a1 a2 a3 a5) (s0 : Int32) (s1 : Int32) (s2 : Int64) (s3 : Int32) (s4 : Nat) (W : jW) : jJ x 6 79 [(0, vR t), (1, vI a1), (2, vI a2), (3, vL a3), (5, vI a5)] [vI s0, vI s1, vL s2, vI s3, vR s4] W (fma_storeFrom_79 t a1 a2 a3 a5 s0 s1 s2 s3 s4 W) en := by
  have h0 := h
  obtain ⟨hx, hm, hr, he⟩ := h0
  unfold fma_storeFrom_79
  refine j_gd (fun h12 => ?_)
  refine j_WV (j_callV (av := [vI s3, vL s2, vI s1, vI s0]) (st := []) hx hr (Or.inl q2021) q2022 q2023 rfl md_fme_tell np_fme_tell (cme_tell s4 s3 s2 s1 s0 W) (by decide) (Nat.le_of_ble_eq_true rfl) h12 (by decide) (by decide +kernel)) (fun q13 _ => ?_)
  exact j_vret hx hm (by decide +kernel) (he _)
theorem wma_storeFrom_63 {x : jCx} {en : (jW) → Option (Outcome × jW)} {t : Nat} {a1 : Int32} {a2 : Int32} {a3 : Int64} {a5 : Int32} (h : hma_storeFrom x en t a1 a2 a3 a5) (s0 : Int32) (s1 : Int64) (s2 : Int32) (s3 : Nat) (W : jW) : jJ x 6 63 [(0, vR t), (1, vI a1), (2, vI a2), (3, vL a3), (5, vI a5)] [vI s0, vL s1, vI s2, vR s3] W (fma_storeFrom_63 t a1 a2 a3 a5 s0 s1 s2 s3 W) en := by
  have h0 := h
  obtain ⟨hx, hm, hr, he⟩ := h0
  unfold fma_storeFrom_63
  refine j_runA hx 2 (tb := [(63, .iload_n 1), (64, .bipush 31)]) (jtb_ok (by decide +kernel)) (pc' := 66) (lv' := [(0, vR t), (1, vI a1), (2, vI a2), (3, vL a3), (5, vI a5)]) (st' := [vI (kI 31), vI a1, vI s0, vL s1, vI s2, vR s3]) rfl ?_
  refine j_icmp_ne hx (off := 7) (tgt := 73) (by decide +kernel) (by decide) (fun _ => ?_) (fun _ => ?_)
  · refine j_runA hx 1 (tb := [(73, .aload_n 0)]) (jtb_ok (by decide +kernel)) (pc' := 74) (lv' := [(0, vR t), (1, vI a1), (2, vI a2), (3, vL a3), (5, vI a5)]) (st' := [vR t, vI s0, vL s1, vI s2, vR s3]) rfl ?_
    refine j_gd (fun h9 => ?_)
    refine j_getR hx flX15_26 kl1009 h9 (by decide) (by decide +kernel) ?_
    refine j_runA hx 1 (tb := [(77, .iload_n 1)]) (jtb_ok (by decide +kernel)) (pc' := 78) (lv' := [(0, vR t), (1, vI a1), (2, vI a2), (3, vL a3), (5, vI a5)]) (st' := [vI a1, vR (jR W 1009 t), vI s0, vL s1, vI s2, vR s3]) rfl ?_
    refine j_gd (fun h10 => ?_)
    refine j_iald hx (f := 1009) (o := t) kd1009 rfl (by decide +kernel) h10 ?_
    exact wma_storeFrom_79 h (jA W 1009 t (ix a1)) s0 s1 s2 s3 W
  refine j_runA hx 1 (tb := [(69, .iconst 0)]) (jtb_ok (by decide +kernel)) (pc' := 70) (lv' := [(0, vR t), (1, vI a1), (2, vI a2), (3, vL a3), (5, vI a5)]) (st' := [vI (kI 0), vI s0, vL s1, vI s2, vR s3]) rfl ?_
  refine j_goto hx (off := 9) (by decide +kernel) (tgt := 79) (by decide) ?_
  exact wma_storeFrom_79 h (kI 0) s0 s1 s2 s3 W
theorem wma_storeFrom {x : jCx} {en : (jW) → Option (Outcome × jW)} {t : Nat} {a1 : Int32} {a2 : Int32} {a3 : Int64} {a5 : Int32} (h : hma_storeFrom x en t a1 a2 a3 a5) (W : jW) : jJ x 6 0 [(0, vR t), (1, vI a1), (2, vI a2), (3, vL a3), (5, vI a5)] [] W (fma_storeFrom t a1 a2 a3 a5 W) en := by
  have h0 := h
  obtain ⟨hx, hm, hr, he⟩ := h0
  unfold fma_storeFrom
  refine j_runA hx 1 (tb := [(0, .aload_n 0)]) (jtb_ok (by decide +kernel)) (pc' := 1) (lv' := [(0, vR t), (1, vI a1), (2, vI a2), (3, vL a3), (5, vI a5)]) (st' := [vR t]) rfl ?_
  refine j_gd (fun h1 => ?_)
  refine j_getR hx flX15_60 kl1005 h1 (by decide) (by decide +kernel) ?_
  refine j_runA hx 5 (tb := [(4, .iload_n 2), (5, .lload_n 3), (6, .iload 5), (8, .aload_n 0), (9, .iload_n 1)]) (jtb_ok (by decide +kernel)) (pc' := 10) (lv' := [(0, vR t), (1, vI a1), (2, vI a2), (3, vL a3), (5, vI a5)]) (st' := [vI a1, vR t, vI a5, vL a3, vI a2, vR (jR W 1005 t)]) rfl ?_
  refine j_OL (j_callV (av := [vI a1]) (st := [vI a5, vL a3, vI a2, vR (jR W 1005 t)]) hx hr (Or.inl q2118) q2120 qs95 rfl md_fma_get np_fma_get (cma_get t a1 W) (by decide) (Nat.le_of_ble_eq_true rfl) h1 (by decide) (by decide +kernel)) (fun q2 _ => ?_)
  refine j_gd (fun h3 => ?_)
  refine j_WV (j_callV (av := [vI a2, vL a3, vI a5, vL q2]) (st := []) hx hr (Or.inl q2197) q2198 q2199 rfl md_fme_store np_fme_store (cme_store (jR W 1005 t) a2 a3 a5 q2 W) (by decide) (Nat.le_of_ble_eq_true rfl) h3 (by decide) (by decide +kernel)) (fun q4 _ => ?_)
  refine j_runA hx 1 (tb := [(16, .aload_n 0)]) (jtb_ok (by decide +kernel)) (pc' := 17) (lv' := [(0, vR t), (1, vI a1), (2, vI a2), (3, vL a3), (5, vI a5)]) (st' := [vR t]) rfl ?_
  refine j_gd (fun h6 => ?_)
  refine j_getI hx flX15_39 kd1000 h6 (by decide) (by decide +kernel) ?_
  refine j_runA hx 1 (tb := [(20, .iconst 1)]) (jtb_ok (by decide +kernel)) (pc' := 21) (lv' := [(0, vR t), (1, vI a1), (2, vI a2), (3, vL a3), (5, vI a5)]) (st' := [vI (kI 1), vI (jI q4 1000 t)]) rfl ?_
  refine j_icmp_ne hx (off := 61) (tgt := 82) (by decide +kernel) (by decide) (fun _ => ?_) (fun _ => ?_)
  · exact j_vret hx hm (by decide +kernel) (he _)
  refine j_runA hx 2 (tb := [(24, .iload 5), (26, .bipush 8)]) (jtb_ok (by decide +kernel)) (pc' := 28) (lv' := [(0, vR t), (1, vI a1), (2, vI a2), (3, vL a3), (5, vI a5)]) (st' := [vI (kI 8), vI a5]) rfl ?_
  refine j_icmp_ne hx (off := 54) (tgt := 82) (by decide +kernel) (by decide) (fun _ => ?_) (fun _ => ?_)
  · exact j_vret hx hm (by decide +kernel) (he _)
  refine j_runA hx 1 (tb := [(31, .lload_n 3)]) (jtb_ok (by decide +kernel)) (pc' := 32) (lv' := [(0, vR t), (1, vI a1), (2, vI a2), (3, vL a3), (5, vI a5)]) (st' := [vL a3]) rfl ?_
  refine j_ldc2 hx (v := (kJ 8)) (jkd2 q2169 (by decide +kernel)) (by decide +kernel) ?_
  refine j_lrem hx (by decide +kernel) (by decide +kernel) ?_
  refine j_runA hx 1 (tb := [(36, .lconst 0)]) (jtb_ok (by decide +kernel)) (pc' := 37) (lv' := [(0, vR t), (1, vI a1), (2, vI a2), (3, vL a3), (5, vI a5)]) (st' := [vL (kJ 0), vL (lrm a3 (kJ 8))]) rfl ?_
  refine j_lcmp_ne hx (off := 44) (tgt := 82) (by decide +kernel) (by decide +kernel) (by decide) (fun _ => ?_) (fun _ => ?_)
  · exact j_vret hx hm (by decide +kernel) (he _)
  refine j_runA hx 1 (tb := [(41, .aload_n 0)]) (jtb_ok (by decide +kernel)) (pc' := 42) (lv' := [(0, vR t), (1, vI a1), (2, vI a2), (3, vL a3), (5, vI a5)]) (st' := [vR t]) rfl ?_
  refine j_getR hx flX15_60 kl1005 h6 (by decide) (by decide +kernel) ?_
  refine j_runA hx 4 (tb := [(45, .iload_n 2), (46, .lload_n 3), (47, .iload_n 1), (48, .bipush 31)]) (jtb_ok (by decide +kernel)) (pc' := 50) (lv' := [(0, vR t), (1, vI a1), (2, vI a2), (3, vL a3), (5, vI a5)]) (st' := [vI (kI 31), vI a1, vL a3, vI a2, vR (jR q4 1005 t)]) rfl ?_
  refine j_icmp_ne hx (off := 7) (tgt := 57) (by decide +kernel) (by decide) (fun _ => ?_) (fun _ => ?_)
  · refine j_runA hx 1 (tb := [(57, .aload_n 0)]) (jtb_ok (by decide +kernel)) (pc' := 58) (lv' := [(0, vR t), (1, vI a1), (2, vI a2), (3, vL a3), (5, vI a5)]) (st' := [vR t, vL a3, vI a2, vR (jR q4 1005 t)]) rfl ?_
    refine j_getR hx flX15_22 kl1008 h6 (by decide) (by decide +kernel) ?_
    refine j_runA hx 1 (tb := [(61, .iload_n 1)]) (jtb_ok (by decide +kernel)) (pc' := 62) (lv' := [(0, vR t), (1, vI a1), (2, vI a2), (3, vL a3), (5, vI a5)]) (st' := [vI a1, vR (jR q4 1008 t), vL a3, vI a2, vR (jR q4 1005 t)]) rfl ?_
    refine j_gd (fun h7 => ?_)
    refine j_iald hx (f := 1008) (o := t) kd1008 rfl (by decide +kernel) h7 ?_
    exact wma_storeFrom_63 h (jA q4 1008 t (ix a1)) a3 a2 (jR q4 1005 t) q4
  refine j_runA hx 1 (tb := [(53, .iconst 0)]) (jtb_ok (by decide +kernel)) (pc' := 54) (lv' := [(0, vR t), (1, vI a1), (2, vI a2), (3, vL a3), (5, vI a5)]) (st' := [vI (kI 0), vL a3, vI a2, vR (jR q4 1005 t)]) rfl ?_
  refine j_goto hx (off := 9) (by decide +kernel) (tgt := 63) (by decide) ?_
  exact wma_storeFrom_63 h (kI 0) a3 a2 (jR q4 1005 t) q4
theorem cma_storeFrom (t : Nat) (a1 : Int32) (a2 : Int32) (a3 : Int64) (a5 : Int32) (W : jW) : jM yX15_storeFrom cX15_storeFrom 6 (Option.none : Option Jvm.ClassFile.FieldType) [] 5 76 [vR t, vI a1, vI a2, vL a3, vI a5] W ((fma_storeFrom t a1 a2 a3 a5 W).bind (fun q => some (.returned none, q))) := 
  jM.of (Nat.le_of_ble_eq_true rfl) (fun x hx hm hr => wma_storeFrom ⟨hx, hm, hr, fun _ => rfl⟩ W)
def hme_load (x : jCx) (en : (fme_load_S ⊕ (Int64)) → Option (Outcome × jW)) (t : Nat) (a1 : Int32) (a2 : Int64) (a4 : Int32) (W : jW) : Prop :=
  jOK x RX17 cX17_load 9 ∧
  jMt x "load" (Option.some Jvm.ClassFile.FieldType.long) [] ∧
  jRm x 4 56 ∧
  (∀ q : Int64, en (.inr q) = some (.returned (some (.long q)), W)) ∧
  (∀ (l5 : Int64) (l7 : Int32) (l8 : Int32), jJ x 9 17 [(0, vR t), (1, vI a1), (2, vL a2), (4, vI a4), (5, vL l5), (7, vI l7), (8, vI l8)] [] W (some (.inl (l5, l7, l8))) en)
theorem wme_load_17 {x : jCx} {en : (fme_load_S ⊕ (Int64)) → Option (Outcome × jW)} {W : jW} {t : Nat} {a1 : Int32} {a2 : Int64} {a4 : Int32} (h : hme_load x en t a1 a2 a4 W) (l5 : Int64) (l7 : Int32) (l8 : Int32) : jJ x 9 17 [(0, vR t), (1, vI a1), (2, vL a2), (4, vI a4), (5, vL l5), (7, vI l7), (8, vI l8)] [] W (fme_load_17 t a1 a2 a4 l5 l7 l8 W) en := by
  have h0 := h
  obtain ⟨hx, hm, hr, he, k17⟩ := h0
  unfold fme_load_17
  refine j_runA hx 1 (tb := [(17, .iload 8)]) (jtb_ok (by decide +kernel)) (pc' := 19) (lv' := [(0, vR t), (1, vI a1), (2, vL a2), (4, vI a4), (5, vL l5), (7, vI l7), (8, vI l8)]) (st' := [vI l8]) rfl ?_
  refine j_if_lt hx (off := 32) (tgt := 51) (by decide +kernel) (by decide) (fun _ => ?_) (fun _ => ?_)
  · refine j_runA hx 1 (tb := [(51, .lload 5)]) (jtb_ok (by decide +kernel)) (pc' := 53) (lv' := [(0, vR t), (1, vI a1), (2, vL a2), (4, vI a4), (5, vL l5), (7, vI l7), (8, vI l8)]) (st' := [vL l5]) rfl ?_
    exact j_lret hx hm (by decide +kernel) (he _)
  refine j_runA hx 4 (tb := [(22, .lload 5), (24, .bipush 8), (26, .lshl), (27, .aload_n 0)]) (jtb_ok (by decide +kernel)) (pc' := 28) (lv' := [(0, vR t), (1, vI a1), (2, vL a2), (4, vI a4), (5, vL l5), (7, vI l7), (8, vI l8)]) (st' := [vR t, vL (lxl l5 (kI 8))]) rfl ?_
  refine j_gd (fun h5 => ?_)
  refine j_getR hx flX17_12 kl1202 h5 (by decide) (by decide +kernel) ?_
  refine j_runA hx 3 (tb := [(31, .iload 7), (33, .iload 8), (35, .iadd)]) (jtb_ok (by decide +kernel)) (pc' := 36) (lv' := [(0, vR t), (1, vI a1), (2, vL a2), (4, vI a4), (5, vL l5), (7, vI l7), (8, vI l8)]) (st' := [vI (l7 + l8), vR (jR W 1202 t), vL (lxl l5 (kI 8))]) rfl ?_
  refine j_gd (fun h6 => ?_)
  refine j_bald hx (f := 1202) (o := t) kd1202 rfl (by decide +kernel) h6 ?_
  refine j_runA hx 5 (tb := [(37, .sipush 255), (40, .iand), (41, .i2l), (42, .lor), (43, .lstore 5)]) (jtb_ok (by decide +kernel)) (pc' := 45) (lv' := [(5, vL ((lxl l5 (kI 8)) ||| (((jA W 1202 t (ix (l7 + l8))) &&& (kI 255)).toInt64))), (0, vR t), (1, vI a1), (2, vL a2), (4, vI a4), (7, vI l7), (8, vI l8)]) (st' := []) rfl ?_
  refine j_let (v := ((lxl l5 (kI 8)) ||| (((jA W 1202 t (ix (l7 + l8))) &&& (kI 255)).toInt64))) (lv := fun v7 => [(5, vL v7), (0, vR t), (1, vI a1), (2, vL a2), (4, vI a4), (7, vI l7), (8, vI l8)]) (st := fun _ => []) (fun v7 => ?_)
  refine j_runA hx 1 (tb := [(45, .iinc 8 (-1))]) (jtb_ok (by decide +kernel)) (pc' := 48) (lv' := [(8, vI (l8 + (kI (-1)))), (5, vL v7), (0, vR t), (1, vI a1), (2, vL a2), (4, vI a4), (7, vI l7)]) (st' := []) rfl ?_
  refine j_let (v := (l8 + (kI (-1)))) (lv := fun v8 => [(8, vI v8), (5, vL v7), (0, vR t), (1, vI a1), (2, vL a2), (4, vI a4), (7, vI l7)]) (st := fun _ => []) (fun v8 => ?_)
  refine j_goto hx (off := -31) (by decide +kernel) (tgt := 17) (by decide) ?_
  refine j_lv (lv' := [(0, vR t), (1, vI a1), (2, vL a2), (4, vI a4), (5, vL v7), (7, vI l7), (8, vI v8)]) ⟨rfl, rfl, rfl, rfl, rfl, rfl, rfl, trivial⟩ ?_
  exact k17 v7 l7 v8
theorem wme_load {x : jCx} {en : (fme_load_S ⊕ (Int64)) → Option (Outcome × jW)} {W : jW} {t : Nat} {a1 : Int32} {a2 : Int64} {a4 : Int32} (h : hme_load x en t a1 a2 a4 W) : jJ x 9 0 [(0, vR t), (1, vI a1), (2, vL a2), (4, vI a4)] [] W (fme_load_0 t a1 a2 a4 W) en := by
  have h0 := h
  obtain ⟨hx, hm, hr, he, k17⟩ := h0
  unfold fme_load_0
  refine j_runA hx 5 (tb := [(0, .lconst 0), (1, .lstore 5), (3, .aload_n 0), (4, .iload_n 1), (5, .lload_n 2)]) (jtb_ok (by decide +kernel)) (pc' := 6) (lv' := [(5, vL (kJ 0)), (0, vR t), (1, vI a1), (2, vL a2), (4, vI a4)]) (st' := [vL a2, vI a1, vR t]) rfl ?_
  refine j_gd (fun h1 => ?_)
  refine j_OI (j_callV (av := [vI a1, vL a2]) (st := []) hx hr (Or.inl q2201) q2203 qs108 rfl md_fme_placeOf np_fme_placeOf (cme_placeOf t a1 a2 W) (by decide) (Nat.le_of_ble_eq_true rfl) h1 (by decide) (by decide +kernel)) (fun q2 _ => ?_)
  refine j_runA hx 5 (tb := [(9, .istore 7), (11, .iload 4), (13, .iconst 1), (14, .isub), (15, .istore 8)]) (jtb_ok (by decide +kernel)) (pc' := 17) (lv' := [(8, vI (a4 - (kI 1))), (7, vI q2), (5, vL (kJ 0)), (0, vR t), (1, vI a1), (2, vL a2), (4, vI a4)]) (st' := []) rfl ?_
  refine j_let (v := (a4 - (kI 1))) (lv := fun v3 => [(8, vI v3), (7, vI q2), (5, vL (kJ 0)), (0, vR t), (1, vI a1), (2, vL a2), (4, vI a4)]) (st := fun _ => []) (fun v3 => ?_)
  refine j_lv (lv' := [(0, vR t), (1, vI a1), (2, vL a2), (4, vI a4), (5, vL (kJ 0)), (7, vI q2), (8, vI v3)]) ⟨rfl, rfl, rfl, rfl, rfl, rfl, rfl, trivial⟩ ?_
  exact k17 (kJ 0) q2 v3
theorem cme_load (t : Nat) (a1 : Int32) (a2 : Int64) (a4 : Int32) (W : jW) : jM yX17_load cX17_load 9 (Option.some Jvm.ClassFile.FieldType.long) [] 4 56 [vR t, vI a1, vL a2, vI a4] W ((fme_load t a1 a2 a4 W).bind (fun q => some (.returned (some (.long q)), W))) := by
  refine jM.of (Nat.le_of_ble_eq_true rfl) (fun x hx hm hr => ?_)
  refine j_begin (P := (fun s => (17, [(0, vR t), (1, vI a1), (2, vL a2), (4, vI a4), (5, vL s.1), (7, vI s.2.1), (8, vI s.2.2)], W))) (fun en he hk => ?_)
  have h : hme_load x en t a1 a2 a4 W := ⟨hx, hm, hr, fun q => he _, fun l5 l7 l8 => hk (l5, l7, l8)⟩
  exact ⟨fun s => wme_load_17 h s.1 s.2.1 s.2.2, wme_load h⟩
