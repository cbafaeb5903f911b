/-! ===== walks: fma_isKnown fma_to fma_gone fma_step fma_run fcl_run fcl_isRun ===== -/
set_option maxRecDepth 100000
def hma_isKnown (x : jCx) (en : (Int32) → Option (Outcome × jW)) (t : Nat) (a1 : Int64) (W : jW) : Prop :=
  jOK x RX15 cX15_isKnown 4 ∧
  jMt x "isKnown" (Option.some Jvm.ClassFile.FieldType.boolean) [] ∧
  jRm x 4 57 ∧
  (∀ q : Int32, en q = some (.returned (some (.int q)), W))
theorem wma_isKnown_36 {x : jCx} {en : (Int32) → Option (Outcome × jW)} {W : jW} {t : Nat} {a1 : Int64} (h : hma_isKnown x en t a1 W) : jJ x 4 36 [(0, vR t), (1, vL a1)] [] W (fma_isKnown_36 t a1 W) en := by
  have h0 := h
  obtain ⟨hx, hm, hr, he⟩ := h0
  unfold fma_isKnown_36
  refine j_runA hx 1 (tb := [(36, .iconst 0)]) (jtb_ok (by decide +kernel)) (pc' := 37) (lv' := [(0, vR t), (1, vL a1)]) (st' := [vI (kI 0)]) rfl ?_
  exact j_iret hx hm (by decide +kernel) jz0n (he _)
theorem wma_isKnown_100 {x : jCx} {en : (Int32) → Option (Outcome × jW)} {W : jW} {t : Nat} {a1 : Int64} (h : hma_isKnown x en t a1 W) : jJ x 4 100 [(0, vR t), (1, vL a1)] [] W (fma_isKnown_100 t a1 W) en := by
  have h0 := h
  obtain ⟨hx, hm, hr, he⟩ := h0
  unfold fma_isKnown_100
  refine j_runA hx 1 (tb := [(100, .iconst 0)]) (jtb_ok (by decide +kernel)) (pc' := 101) (lv' := [(0, vR t), (1, vL a1)]) (st' := [vI (kI 0)]) rfl ?_
  exact j_iret hx hm (by decide +kernel) jz0n (he _)
theorem wma_isKnown_83 {x : jCx} {en : (Int32) → Option (Outcome × jW)} {W : jW} {t : Nat} {a1 : Int64} (h : hma_isKnown x en t a1 W) (l3 : Int32) : jJ x 4 83 [(0, vR t), (1, vL a1), (3, vI l3)] [] W (fma_isKnown_83 t a1 l3 W) en := by
  have h0 := h
  obtain ⟨hx, hm, hr, he⟩ := h0
  unfold fma_isKnown_83
  refine j_runA hx 1 (tb := [(83, .aload_n 0)]) (jtb_ok (by decide +kernel)) (pc' := 84) (lv' := [(0, vR t), (1, vL a1), (3, vI l3)]) (st' := [vR t]) rfl ?_
  refine j_gd (fun h11 => ?_)
  refine j_getR hx flX15_47 kl1002 h11 (by decide) (by decide +kernel) ?_
  refine j_runA hx 1 (tb := [(87, .iload_n 3)]) (jtb_ok (by decide +kernel)) (pc' := 88) (lv' := [(0, vR t), (1, vL a1), (3, vI l3)]) (st' := [vI l3, vR (jR W 1002 t)]) rfl ?_
  refine j_gd (fun h12 => ?_)
  refine j_OL (j_callV (av := [vI l3]) (st := []) hx hr (Or.inl q2258) q2259 q2260 rfl md_fwr_behindEnd np_fwr_behindEnd (cwr_behindEnd (jR W 1002 t) l3 W) (by decide) (Nat.le_of_ble_eq_true rfl) h12 (by decide) (by decide +kernel)) (fun q13 _ => ?_)
  refine j_runA hx 1 (tb := [(91, .lload_n 1)]) (jtb_ok (by decide +kernel)) (pc' := 92) (lv' := [(0, vR t), (1, vL a1), (3, vI l3)]) (st' := [vL a1, vL q13]) rfl ?_
  refine j_lcmp_ne hx (off := 7) (tgt := 100) (by decide +kernel) (by decide +kernel) (by decide) (fun _ => ?_) (fun _ => ?_)
  · refine j_lv (lv' := [(0, vR t), (1, vL a1)]) ⟨rfl, rfl, trivial⟩ ?_
    exact wma_isKnown_100 h
  refine j_runA hx 1 (tb := [(96, .iconst 1)]) (jtb_ok (by decide +kernel)) (pc' := 97) (lv' := [(0, vR t), (1, vL a1), (3, vI l3)]) (st' := [vI (kI 1)]) rfl ?_
  refine j_goto hx (off := 4) (by decide +kernel) (tgt := 101) (by decide) ?_
  exact j_iret hx hm (by decide +kernel) jz1n (he _)
theorem wma_isKnown {x : jCx} {en : (Int32) → Option (Outcome × jW)} {W : jW} {t : Nat} {a1 : Int64} (h : hma_isKnown x en t a1 W) : jJ x 4 0 [(0, vR t), (1, vL a1)] [] W (fma_isKnown t a1 W) en := by
  have h0 := h
  obtain ⟨hx, hm, hr, he⟩ := h0
  unfold fma_isKnown
  refine j_runA hx 2 (tb := [(0, .aload_n 0), (1, .lload_n 1)]) (jtb_ok (by decide +kernel)) (pc' := 2) (lv' := [(0, vR t), (1, vL a1)]) (st' := [vL a1, vR t]) rfl ?_
  refine j_gd (fun h1 => ?_)
  refine j_OI (j_callV (av := [vL a1]) (st := []) hx hr (Or.inl q2035) q2037 qs79 rfl md_fma_blockOf np_fma_blockOf (cma_blockOf t a1 W) (by decide) (Nat.le_of_ble_eq_true rfl) h1 (by decide) (by decide +kernel)) (fun q2 _ => ?_)
  refine j_if_lt hx (off := 5) (tgt := 10) (by decide +kernel) (by decide) (fun _ => ?_) (fun _ => ?_)
  · refine j_runA hx 1 (tb := [(10, .aload_n 0)]) (jtb_ok (by decide +kernel)) (pc' := 11) (lv' := [(0, vR t), (1, vL a1)]) (st' := [vR t]) rfl ?_
    refine j_OI (j_callV (av := []) (st := []) hx hr (Or.inl q1978) q1980 qs72 rfl md_fma_isNew np_fma_isNew (cma_isNew t W) (by decide) (Nat.le_of_ble_eq_true rfl) h1 (by decide) (by decide +kernel)) (fun q3 _ => ?_)
    refine j_if_eq hx (off := 22) (tgt := 36) (by decide +kernel) (by decide) (fun _ => ?_) (fun _ => ?_)
    · exact wma_isKnown_36 h
    refine j_runA hx 1 (tb := [(17, .lload_n 1)]) (jtb_ok (by decide +kernel)) (pc' := 18) (lv' := [(0, vR t), (1, vL a1)]) (st' := [vL a1]) rfl ?_
    refine j_ldc2 hx (v := (kJ 4)) (jkd2 q2049 (by decide +kernel)) (by decide +kernel) ?_
    refine j_lrem hx (by decide +kernel) (by decide +kernel) ?_
    refine j_runA hx 1 (tb := [(22, .lconst 0)]) (jtb_ok (by decide +kernel)) (pc' := 23) (lv' := [(0, vR t), (1, vL a1)]) (st' := [vL (kJ 0), vL (lrm a1 (kJ 4))]) rfl ?_
    refine j_lcmp_ne hx (off := 12) (tgt := 36) (by decide +kernel) (by decide +kernel) (by decide) (fun _ => ?_) (fun _ => ?_)
    · exact wma_isKnown_36 h
    refine j_runA hx 2 (tb := [(27, .lload_n 1), (28, .aload_n 0)]) (jtb_ok (by decide +kernel)) (pc' := 29) (lv' := [(0, vR t), (1, vL a1)]) (st' := [vR t, vL a1]) rfl ?_
    refine j_OL (j_callV (av := []) (st := [vL a1]) hx hr (Or.inl q2039) q2041 qs80 rfl md_fma_begin np_fma_begin (cma_begin t W) (by decide) (Nat.le_of_ble_eq_true rfl) h1 (by decide) (by decide +kernel)) (fun q4 _ => ?_)
    refine j_lcmp_ne hx (off := 5) (tgt := 38) (by decide +kernel) (by decide +kernel) (by decide) (fun _ => ?_) (fun _ => ?_)
    · refine j_runA hx 3 (tb := [(38, .aload_n 0), (39, .lload_n 1), (40, .aload_n 0)]) (jtb_ok (by decide +kernel)) (pc' := 41) (lv' := [(0, vR t), (1, vL a1)]) (st' := [vR t, vL a1, vR t]) rfl ?_
      refine j_OL (j_callV (av := []) (st := [vL a1, vR t]) hx hr (Or.inl q2039) q2041 qs80 rfl md_fma_begin np_fma_begin (cma_begin t W) (by decide) (Nat.le_of_ble_eq_true rfl) h1 (by decide) (by decide +kernel)) (fun q5 _ => ?_)
      refine j_runA hx 5 (tb := [(44, .lsub), (45, .l2i), (46, .iconst 4), (47, .isub), (48, .iconst 0)]) (jtb_ok (by decide +kernel)) (pc' := 49) (lv' := [(0, vR t), (1, vL a1)]) (st' := [vI (kI 0), vI (((a1 - q5).toInt32) - (kI 4)), vR t]) rfl ?_
      refine j_OI (j_callV (av := [vI (((a1 - q5).toInt32) - (kI 4)), vI (kI 0)]) (st := []) hx hr (Or.inl q2050) q2052 qs82 rfl md_fma_blockFrom np_fma_blockFrom (cma_blockFrom t (((a1 - q5).toInt32) - (kI 4)) (kI 0) W) (by decide) (Nat.le_of_ble_eq_true rfl) h1 (by decide) (by decide +kernel)) (fun q6 _ => ?_)
      refine j_runA hx 2 (tb := [(52, .istore_n 3), (53, .iload_n 3)]) (jtb_ok (by decide +kernel)) (pc' := 54) (lv' := [(3, vI q6), (0, vR t), (1, vL a1)]) (st' := [vI q6]) rfl ?_
      refine j_if_lt hx (off := 46) (tgt := 100) (by decide +kernel) (by decide) (fun _ => ?_) (fun _ => ?_)
      · refine j_lv (lv' := [(0, vR t), (1, vL a1)]) ⟨rfl, rfl, trivial⟩ ?_
        exact wma_isKnown_100 h
      refine j_runA hx 1 (tb := [(57, .aload_n 0)]) (jtb_ok (by decide +kernel)) (pc' := 58) (lv' := [(3, vI q6), (0, vR t), (1, vL a1)]) (st' := [vR t]) rfl ?_
      refine j_getR hx flX15_43 kl1001 h1 (by decide) (by decide +kernel) ?_
      refine j_gd (fun h7 => ?_)
      refine j_getR hx flX15_236 kl214 h7 (by decide) (by decide +kernel) ?_
      refine j_runA hx 1 (tb := [(64, .iload_n 3)]) (jtb_ok (by decide +kernel)) (pc' := 65) (lv' := [(3, vI q6), (0, vR t), (1, vL a1)]) (st' := [vI q6, vR (jR W 214 (jR W 1001 t))]) rfl ?_
      refine j_gd (fun h8 => ?_)
      refine j_iald hx (f := 214) (o := (jR W 1001 t)) kd214 rfl (by decide +kernel) h8 ?_
      refine j_runA hx 1 (tb := [(66, .iconst 4)]) (jtb_ok (by decide +kernel)) (pc' := 67) (lv' := [(3, vI q6), (0, vR t), (1, vL a1)]) (st' := [vI (kI 4), vI (jA W 214 (jR W 1001 t) (ix q6))]) rfl ?_
      refine j_icmp_eq hx (off := 16) (tgt := 83) (by decide +kernel) (by decide) (fun _ => ?_) (fun _ => ?_)
      · refine j_lv (lv' := [(0, vR t), (1, vL a1), (3, vI q6)]) ⟨rfl, rfl, rfl, trivial⟩ ?_
        exact wma_isKnown_83 h q6
      refine j_runA hx 1 (tb := [(70, .aload_n 0)]) (jtb_ok (by decide +kernel)) (pc' := 71) (lv' := [(3, vI q6), (0, vR t), (1, vL a1)]) (st' := [vR t]) rfl ?_
      refine j_getR hx flX15_43 kl1001 h1 (by decide) (by decide +kernel) ?_
      refine j_getR hx flX15_236 kl214 h7 (by decide) (by decide +kernel) ?_
      refine j_runA hx 1 (tb := [(77, .iload_n 3)]) (jtb_ok (by decide +kernel)) (pc' := 78) (lv' := [(3, vI q6), (0, vR t), (1, vL a1)]) (st' := [vI q6, vR (jR W 214 (jR W 1001 t))]) rfl ?_
      refine j_gd (fun h9 => ?_)
      refine j_iald hx (f := 214) (o := (jR W 1001 t)) kd214 rfl (by decide +kernel) h9 ?_
      refine j_runA hx 1 (tb := [(79, .iconst 5)]) (jtb_ok (by decide +kernel)) (pc' := 80) (lv' := [(3, vI q6), (0, vR t), (1, vL a1)]) (st' := [vI (kI 5), vI (jA W 214 (jR W 1001 t) (ix q6))]) rfl ?_
      refine j_icmp_ne hx (off := 20) (tgt := 100) (by decide +kernel) (by decide) (fun _ => ?_) (fun _ => ?_)
      · refine j_lv (lv' := [(0, vR t), (1, vL a1)]) ⟨rfl, rfl, trivial⟩ ?_
        exact wma_isKnown_100 h
      refine j_lv (lv' := [(0, vR t), (1, vL a1), (3, vI q6)]) ⟨rfl, rfl, rfl, trivial⟩ ?_
      exact wma_isKnown_83 h q6
    exact wma_isKnown_36 h
  refine j_runA hx 1 (tb := [(8, .iconst 1)]) (jtb_ok (by decide +kernel)) (pc' := 9) (lv' := [(0, vR t), (1, vL a1)]) (st' := [vI (kI 1)]) rfl ?_
  exact j_iret hx hm (by decide +kernel) jz1n (he _)
theorem cma_isKnown (t : Nat) (a1 : Int64) (W : jW) : jM yX15_isKnown cX15_isKnown 4 (Option.some Jvm.ClassFile.FieldType.boolean) [] 4 57 [vR t, vL a1] W ((fma_isKnown t a1 W).bind (fun q => some (.returned (some (.int q)), W))) := 
  jM.of (Nat.le_of_ble_eq_true rfl) (fun x hx hm hr => wma_isKnown ⟨hx, hm, hr, fun _ => rfl⟩)
def hma_to (x : jCx) (en : ((Nat × jW) ⊕ Int64 × jW) → Option (Outcome × jW)) (t : Nat) (a1 : Int32) (a2 : Int32) (a3 : Int32) : Prop :=
  jOK x RX15 cX15_to 7 ∧
  jMt x "to" (Option.some Jvm.ClassFile.FieldType.long) [] ∧
  jRm x 5 72 ∧
  (∀ q : Int64 × jW, en (.inr q) = some (.returned (some (.long q.1)), q.2)) ∧
  (∀ z : Nat × jW, en (.inl z) = some (.threw (z.1 - 1), z.2))
theorem wma_to_119 {x : jCx} {en : ((Nat × jW) ⊕ Int64 × jW) → Option (Outcome × jW)} {t : Nat} {a1 : Int32} {a2 : Int32} {a3 : Int32} (h : hma_to x en t a1 a2 a3) (l5 : Int64) (W : jW) : jJ x 7 119 [(0, vR t), (1, vI a1), (2, vI a2), (3, vI a3), (5, vL l5)] [] W (fma_to_119 t a1 a2 a3 l5 W) en := by
  have h0 := h
  obtain ⟨hx, hm, hr, he, ht⟩ := h0
  unfold fma_to_119
  refine j_runA hx 1 (tb := [(119, .lload 5)]) (jtb_ok (by decide +kernel)) (pc' := 121) (lv' := [(0, vR t), (1, vI a1), (2, vI a2), (3, vI a3), (5, vL l5)]) (st' := [vL l5]) rfl ?_
  exact j_lret hx hm (by decide +kernel) (he _)
theorem wma_to_108 {x : jCx} {en : ((Nat × jW) ⊕ Int64 × jW) → Option (Outcome × jW)} {t : Nat} {a1 : Int32} {a2 : Int32} {a3 : Int32} (h : hma_to x en t a1 a2 a3) (l5 : Int64) (W : jW) : jJ x 7 108 [(0, vR t), (1, vI a1), (2, vI a2), (3, vI a3), (5, vL l5)] [] W (fma_to_108 t a1 a2 a3 l5 W) en := by
  have h0 := h
  obtain ⟨hx, hm, hr, he, ht⟩ := h0
  unfold fma_to_108
  refine j_runA hx 2 (tb := [(108, .iload_n 2), (109, .bipush 18)]) (jtb_ok (by decide +kernel)) (pc' := 111) (lv' := [(0, vR t), (1, vI a1), (2, vI a2), (3, vI a3), (5, vL l5)]) (st' := [vI (kI 18), vI a2]) rfl ?_
  refine j_icmp_ne hx (off := 8) (tgt := 119) (by decide +kernel) (by decide) (fun _ => ?_) (fun _ => ?_)
  · exact wma_to_119 h l5 W
  refine j_runA hx 2 (tb := [(114, .aload_n 0), (115, .iload_n 3)]) (jtb_ok (by decide +kernel)) (pc' := 116) (lv' := [(0, vR t), (1, vI a1), (2, vI a2), (3, vI a3), (5, vL l5)]) (st' := [vI a3, vR t]) rfl ?_
  refine j_gd (fun h19 => ?_)
  refine j_WV (j_callV (av := [vI a3]) (st := []) hx hr (Or.inl q2246) q2248 qs115 rfl md_fma_link np_fma_link (cma_link t a3 W) (by decide) (Nat.le_of_ble_eq_true rfl) h19 (by decide) (by decide +kernel)) (fun q20 _ => ?_)
  exact wma_to_119 h l5 q20
theorem wma_to_81 {x : jCx} {en : ((Nat × jW) ⊕ Int64 × jW) → Option (Outcome × jW)} {t : Nat} {a1 : Int32} {a2 : Int32} {a3 : Int32} (h : hma_to x en t a1 a2 a3) (l5 : Int64) (W : jW) : jJ x 7 81 [(0, vR t), (1, vI a1), (2, vI a2), (3, vI a3), (5, vL l5)] [] W (fma_to_81 t a1 a2 a3 l5 W) en := by
  have h0 := h
  obtain ⟨hx, hm, hr, he, ht⟩ := h0
  unfold fma_to_81
  refine j_runA hx 2 (tb := [(81, .aload_n 0), (82, .lload 5)]) (jtb_ok (by decide +kernel)) (pc' := 84) (lv' := [(0, vR t), (1, vI a1), (2, vI a2), (3, vI a3), (5, vL l5)]) (st' := [vL l5, vR t]) rfl ?_
  refine j_gd (fun h11 => ?_)
  refine j_OI (j_callV (av := [vL l5]) (st := []) hx hr (Or.inl q2059) q2061 qs84 rfl md_fma_isText np_fma_isText (cma_isText t l5 W) (by decide) (Nat.le_of_ble_eq_true rfl) h11 (by decide) (by decide +kernel)) (fun q12 _ => ?_)
  refine j_if_eq hx (off := 21) (tgt := 108) (by decide +kernel) (by decide) (fun _ => ?_) (fun _ => ?_)
  · exact wma_to_108 h l5 W
  refine j_runA hx 2 (tb := [(90, .aload_n 0), (91, .lload 5)]) (jtb_ok (by decide +kernel)) (pc' := 93) (lv' := [(0, vR t), (1, vI a1), (2, vI a2), (3, vI a3), (5, vL l5)]) (st' := [vL l5, vR t]) rfl ?_
  refine j_OI (j_callV (av := [vL l5]) (st := []) hx hr (Or.inl q2254) q2256 qs117 rfl md_fma_isKnown np_fma_isKnown (cma_isKnown t l5 W) (by decide) (Nat.le_of_ble_eq_true rfl) h11 (by decide) (by decide +kernel)) (fun q13 _ => ?_)
  refine j_if_ne hx (off := 12) (tgt := 108) (by decide +kernel) (by decide) (fun _ => ?_) (fun _ => ?_)
  · exact wma_to_108 h l5 W
  refine j_runA hx 1 (tb := [(99, .aload_n 0)]) (jtb_ok (by decide +kernel)) (pc' := 100) (lv' := [(0, vR t), (1, vI a1), (2, vI a2), (3, vI a3), (5, vL l5)]) (st' := [vR t]) rfl ?_
  refine j_getR hx flX15_12 kl1004 h11 (by decide) (by decide +kernel) ?_
  refine j_runA hx 1 (tb := [(103, .iconst 4)]) (jtb_ok (by decide +kernel)) (pc' := 104) (lv' := [(0, vR t), (1, vI a1), (2, vI a2), (3, vI a3), (5, vL l5)]) (st' := [vI (kI 4), vR (jR W 1004 t)]) rfl ?_
  refine j_gd (fun h14 => ?_)
  refine j_WR (j_callV (av := [vI (kI 4)]) (st := []) hx hr (Or.inl q2063) q2064 q2065 rfl md_fha_by np_fha_by (cha_by (jR W 1004 t) (kI 4) W) (by decide) (Nat.le_of_ble_eq_true rfl) h14 (by decide) (by decide +kernel)) (fun q15 _ => ?_)
  refine j_gd (fun h17 => ?_)
  exact j_athrow hx hm (by decide +kernel) h17 (ht _)
theorem wma_to_56 {x : jCx} {en : ((Nat × jW) ⊕ Int64 × jW) → Option (Outcome × jW)} {t : Nat} {a1 : Int32} {a2 : Int32} {a3 : Int32} (h : hma_to x en t a1 a2 a3) (l5 : Int64) (s0 : Int32) (s1 : Nat) (W : jW) : jJ x 7 56 [(0, vR t), (1, vI a1), (2, vI a2), (3, vI a3), (5, vL l5)] [vI s0, vR s1] W (fma_to_56 t a1 a2 a3 l5 s0 s1 W) en := by
  have h0 := h
  obtain ⟨hx, hm, hr, he, ht⟩ := h0
  unfold fma_to_56
  refine j_gd (fun h7 => ?_)
  refine j_EV (j_callV (av := [vI s0]) (st := []) hx hr (Or.inl q2074) q2076 qs86 rfl md_fma_must np_fma_must (cma_must s1 s0 W) (by decide) (Nat.le_of_ble_eq_true rfl) h7 (by decide) (by decide +kernel)) (fun z _ r h9 => j_upE hm hx (ht z) h9) (fun q8 _ => ?_)
  refine j_goto hx (off := 22) (by decide +kernel) (tgt := 81) (by decide) ?_
  exact wma_to_81 h l5 q8
theorem wma_to_78 {x : jCx} {en : ((Nat × jW) ⊕ Int64 × jW) → Option (Outcome × jW)} {t : Nat} {a1 : Int32} {a2 : Int32} {a3 : Int32} (h : hma_to x en t a1 a2 a3) (l5 : Int64) (s0 : Int32) (s1 : Nat) (W : jW) : jJ x 7 78 [(0, vR t), (1, vI a1), (2, vI a2), (3, vI a3), (5, vL l5)] [vI s0, vR s1] W (fma_to_78 t a1 a2 a3 l5 s0 s1 W) en := by
  have h0 := h
  obtain ⟨hx, hm, hr, he, ht⟩ := h0
  unfold fma_to_78
  refine j_gd (fun h27 => ?_)
  refine j_EV (j_callV (av := [vI s0]) (st := []) hx hr (Or.inl q2074) q2076 qs86 rfl md_fma_must np_fma_must (cma_must s1 s0 W) (by decide) (Nat.le_of_ble_eq_true rfl) h27 (by decide) (by decide +kernel)) (fun z _ r h9 => j_upE hm hx (ht z) h9) (fun q28 _ => ?_)
  exact wma_to_81 h l5 q28
theorem wma_to_62 {x : jCx} {en : ((Nat × jW) ⊕ Int64 × jW) → Option (Outcome × jW)} {t : Nat} {a1 : Int32} {a2 : Int32} {a3 : Int32} (h : hma_to x en t a1 a2 a3) (l5 : Int64) (W : jW) : jJ x 7 62 [(0, vR t), (1, vI a1), (2, vI a2), (3, vI a3), (5, vL l5)] [] W (fma_to_62 t a1 a2 a3 l5 W) en := by
  have h0 := h
  obtain ⟨hx, hm, hr, he, ht⟩ := h0
  unfold fma_to_62
  refine j_runA hx 4 (tb := [(62, .aload_n 0), (63, .aload_n 0), (64, .lload 5), (66, .iconst 4)]) (jtb_ok (by decide +kernel)) (pc' := 67) (lv' := [(0, vR t), (1, vI a1), (2, vI a2), (3, vI a3), (5, vL l5)]) (st' := [vI (kI 4), vL l5, vR t, vR t]) rfl ?_
  refine j_gd (fun h24 => ?_)
  refine j_OI (j_callV (av := [vL l5, vI (kI 4)]) (st := [vR t]) hx hr (Or.inl q2174) q2176 qs106 rfl md_fma_isInTexts np_fma_isInTexts (cma_isInTexts t l5 (kI 4) W) (by decide) (Nat.le_of_ble_eq_true rfl) h24 (by decide) (by decide +kernel)) (fun q25 _ => ?_)
  refine j_if_ne hx (off := 7) (tgt := 77) (by decide +kernel) (by decide) (fun _ => ?_) (fun _ => ?_)
  · refine j_runA hx 1 (tb := [(77, .iconst 0)]) (jtb_ok (by decide +kernel)) (pc' := 78) (lv' := [(0, vR t), (1, vI a1), (2, vI a2), (3, vI a3), (5, vL l5)]) (st' := [vI (kI 0), vR t]) rfl ?_
    exact wma_to_78 h l5 (kI 0) t W
  refine j_runA hx 1 (tb := [(73, .iconst 1)]) (jtb_ok (by decide +kernel)) (pc' := 74) (lv' := [(0, vR t), (1, vI a1), (2, vI a2), (3, vI a3), (5, vL l5)]) (st' := [vI (kI 1), vR t]) rfl ?_
  refine j_goto hx (off := 4) (by decide +kernel) (tgt := 78) (by decide) ?_
  exact wma_to_78 h l5 (kI 1) t W
theorem wma_to {x : jCx} {en : ((Nat × jW) ⊕ Int64 × jW) → Option (Outcome × jW)} {t : Nat} {a1 : Int32} {a2 : Int32} {a3 : Int32} (h : hma_to x en t a1 a2 a3) (W : jW) : jJ x 7 0 [(0, vR t), (1, vI a1), (2, vI a2), (3, vI a3)] [] W (fma_to t a1 a2 a3 W) en := by
  have h0 := h
  obtain ⟨hx, hm, hr, he, ht⟩ := h0
  unfold fma_to
  refine j_runA hx 1 (tb := [(0, .iload_n 1)]) (jtb_ok (by decide +kernel)) (pc' := 1) (lv' := [(0, vR t), (1, vI a1), (2, vI a2), (3, vI a3)]) (st' := [vI a1]) rfl ?_
  refine j_TI (j_callS (av := [vI a1]) (st := []) hx hr (Or.inl q2073) q998 q247 md_fwo_n np_fwo_n (cwo_n a1 W) (by decide) (Nat.le_of_ble_eq_true rfl) (by decide +kernel)) ?_
  refine j_runA hx 1 (tb := [(4, .istore 4)]) (jtb_ok (by decide +kernel)) (pc' := 6) (lv' := [(4, vI (fwo_n a1)), (0, vR t), (1, vI a1), (2, vI a2), (3, vI a3)]) (st' := []) rfl ?_
  refine j_let (v := (fwo_n a1)) (lv := fun v1 => [(4, vI v1), (0, vR t), (1, vI a1), (2, vI a2), (3, vI a3)]) (st := fun _ => []) (fun v1 => ?_)
  refine j_runA hx 2 (tb := [(6, .aload_n 0), (7, .iload 4)]) (jtb_ok (by decide +kernel)) (pc' := 9) (lv' := [(4, vI v1), (0, vR t), (1, vI a1), (2, vI a2), (3, vI a3)]) (st' := [vI v1, vR t]) rfl ?_
  refine j_gd (fun h2 => ?_)
  refine j_OL (j_callV (av := [vI v1]) (st := []) hx hr (Or.inl q2118) q2120 qs95 rfl md_fma_get np_fma_get (cma_get t v1 W) (by decide) (Nat.le_of_ble_eq_true rfl) h2 (by decide) (by decide +kernel)) (fun q3 _ => ?_)
  refine j_runA hx 2 (tb := [(12, .lstore 5), (14, .aload_n 0)]) (jtb_ok (by decide +kernel)) (pc' := 15) (lv' := [(5, vL q3), (4, vI v1), (0, vR t), (1, vI a1), (2, vI a2), (3, vI a3)]) (st' := [vR t]) rfl ?_
  refine j_getI hx flX15_39 kd1000 h2 (by decide) (by decide +kernel) ?_
  refine j_runA hx 1 (tb := [(18, .iconst 1)]) (jtb_ok (by decide +kernel)) (pc' := 19) (lv' := [(5, vL q3), (4, vI v1), (0, vR t), (1, vI a1), (2, vI a2), (3, vI a3)]) (st' := [vI (kI 1), vI (jI W 1000 t)]) rfl ?_
  refine j_icmp_ne hx (off := 43) (tgt := 62) (by decide +kernel) (by decide) (fun _ => ?_) (fun _ => ?_)
  · refine j_lv (lv' := [(0, vR t), (1, vI a1), (2, vI a2), (3, vI a3), (5, vL q3)]) ⟨rfl, rfl, rfl, rfl, rfl, trivial⟩ ?_
    exact wma_to_62 h q3 W
  refine j_runA hx 2 (tb := [(22, .iload 4), (24, .bipush 31)]) (jtb_ok (by decide +kernel)) (pc' := 26) (lv' := [(5, vL q3), (4, vI v1), (0, vR t), (1, vI a1), (2, vI a2), (3, vI a3)]) (st' := [vI (kI 31), vI v1]) rfl ?_
  refine j_icmp_eq hx (off := 36) (tgt := 62) (by decide +kernel) (by decide) (fun _ => ?_) (fun _ => ?_)
  · refine j_lv (lv' := [(0, vR t), (1, vI a1), (2, vI a2), (3, vI a3), (5, vL q3)]) ⟨rfl, rfl, rfl, rfl, rfl, trivial⟩ ?_
    exact wma_to_62 h q3 W
  refine j_runA hx 1 (tb := [(29, .aload_n 0)]) (jtb_ok (by decide +kernel)) (pc' := 30) (lv' := [(5, vL q3), (4, vI v1), (0, vR t), (1, vI a1), (2, vI a2), (3, vI a3)]) (st' := [vR t]) rfl ?_
  refine j_getR hx flX15_22 kl1008 h2 (by decide) (by decide +kernel) ?_
  refine j_runA hx 1 (tb := [(33, .iload 4)]) (jtb_ok (by decide +kernel)) (pc' := 35) (lv' := [(5, vL q3), (4, vI v1), (0, vR t), (1, vI a1), (2, vI a2), (3, vI a3)]) (st' := [vI v1, vR (jR W 1008 t)]) rfl ?_
  refine j_gd (fun h4 => ?_)
  refine j_iald hx (f := 1008) (o := t) kd1008 rfl (by decide +kernel) h4 ?_
  refine j_if_eq hx (off := 26) (tgt := 62) (by decide +kernel) (by decide) (fun _ => ?_) (fun _ => ?_)
  · refine j_lv (lv' := [(0, vR t), (1, vI a1), (2, vI a2), (3, vI a3), (5, vL q3)]) ⟨rfl, rfl, rfl, rfl, rfl, trivial⟩ ?_
    exact wma_to_62 h q3 W
  refine j_runA hx 2 (tb := [(39, .aload_n 0), (40, .aload_n 0)]) (jtb_ok (by decide +kernel)) (pc' := 41) (lv' := [(5, vL q3), (4, vI v1), (0, vR t), (1, vI a1), (2, vI a2), (3, vI a3)]) (st' := [vR t, vR t]) rfl ?_
  refine j_getR hx flX15_22 kl1008 h2 (by decide) (by decide +kernel) ?_
  refine j_runA hx 1 (tb := [(44, .iload 4)]) (jtb_ok (by decide +kernel)) (pc' := 46) (lv' := [(5, vL q3), (4, vI v1), (0, vR t), (1, vI a1), (2, vI a2), (3, vI a3)]) (st' := [vI v1, vR (jR W 1008 t), vR t]) rfl ?_
  refine j_gd (fun h5 => ?_)
  refine j_iald hx (f := 1008) (o := t) kd1008 rfl (by decide +kernel) h5 ?_
  refine j_runA hx 1 (tb := [(47, .iconst 3)]) (jtb_ok (by decide +kernel)) (pc' := 48) (lv' := [(5, vL q3), (4, vI v1), (0, vR t), (1, vI a1), (2, vI a2), (3, vI a3)]) (st' := [vI (kI 3), vI (jA W 1008 t (ix v1)), vR t]) rfl ?_
  refine j_icmp_eq hx (off := 7) (tgt := 55) (by decide +kernel) (by decide) (fun _ => ?_) (fun _ => ?_)
  · refine j_runA hx 1 (tb := [(55, .iconst 0)]) (jtb_ok (by decide +kernel)) (pc' := 56) (lv' := [(5, vL q3), (4, vI v1), (0, vR t), (1, vI a1), (2, vI a2), (3, vI a3)]) (st' := [vI (kI 0), vR t]) rfl ?_
    refine j_lv (lv' := [(0, vR t), (1, vI a1), (2, vI a2), (3, vI a3), (5, vL q3)]) ⟨rfl, rfl, rfl, rfl, rfl, trivial⟩ ?_
    exact wma_to_56 h q3 (kI 0) t W
  refine j_runA hx 1 (tb := [(51, .iconst 1)]) (jtb_ok (by decide +kernel)) (pc' := 52) (lv' := [(5, vL q3), (4, vI v1), (0, vR t), (1, vI a1), (2, vI a2), (3, vI a3)]) (st' := [vI (kI 1), vR t]) rfl ?_
  refine j_goto hx (off := 4) (by decide +kernel) (tgt := 56) (by decide) ?_
  refine j_lv (lv' := [(0, vR t), (1, vI a1), (2, vI a2), (3, vI a3), (5, vL q3)]) ⟨rfl, rfl, rfl, rfl, rfl, trivial⟩ ?_
  exact wma_to_56 h q3 (kI 1) t W
theorem cma_to (t : Nat) (a1 : Int32) (a2 : Int32) (a3 : Int32) (W : jW) : jM yX15_to cX15_to 7 (Option.some Jvm.ClassFile.FieldType.long) [] 5 72 [vR t, vI a1, vI a2, vI a3] W ((fma_to t a1 a2 a3 W).bind (fun q => some (Sum.elim (fun z => (.threw (z.1 - 1), z.2)) (fun q => (.returned (some (.long q.1)), q.2)) q))) := 
  jM.of (Nat.le_of_ble_eq_true rfl) (fun x hx hm hr => wma_to ⟨hx, hm, hr, fun _ => rfl, fun _ => rfl⟩ W)
def hma_gone (x : jCx) (en : ((Nat × jW) ⊕ Int64 × jW) → Option (Outcome × jW)) (t : Nat) (a1 : Int32) (a2 : Int32) (a3 : Int32) : Prop :=
  jOK x RX15 cX15_gone 9 ∧
  jMt x "gone" (Option.some Jvm.ClassFile.FieldType.long) [] ∧
  jRm x 6 90 ∧
  (∀ q : Int64 × jW, en (.inr q) = some (.returned (some (.long q.1)), q.2)) ∧
  (∀ z : Nat × jW, en (.inl z) = some (.threw (z.1 - 1), z.2))
theorem wma_gone_201 {x : jCx} {en : ((Nat × jW) ⊕ Int64 × jW) → Option (Outcome × jW)} {t : Nat} {a1 : Int32} {a2 : Int32} {a3 : Int32} (h : hma_gone x en t a1 a2 a3) (l4 : Int32) (W : jW) : jJ x 9 201 [(0, vR t), (1, vI a1), (2, vI a2), (3, vI a3), (4, vI l4)] [] W (fma_gone_201 t a1 a2 a3 l4 W) en := by
  have h0 := h
  obtain ⟨hx, hm, hr, he, ht⟩ := h0
  unfold fma_gone_201
  refine j_runA hx 1 (tb := [(201, .iload 4)]) (jtb_ok (by decide +kernel)) (pc' := 203) (lv' := [(0, vR t), (1, vI a1), (2, vI a2), (3, vI a3), (4, vI l4)]) (st' := [vI l4]) rfl ?_
  refine j_if_eq hx (off := 17) (tgt := 220) (by decide +kernel) (by decide) (fun _ => ?_) (fun _ => ?_)
  · refine j_runA hx 1 (tb := [(220, .aload_n 0)]) (jtb_ok (by decide +kernel)) (pc' := 221) (lv' := [(0, vR t), (1, vI a1), (2, vI a2), (3, vI a3), (4, vI l4)]) (st' := [vR t]) rfl ?_
    refine j_gd (fun h29 => ?_)
    refine j_getL hx flX15_134 kd1014 h29 (by decide) (by decide +kernel) ?_
    refine j_ldc2 hx (v := (kJ 4)) (jkd2 q2049 (by decide +kernel)) (by decide +kernel) ?_
    refine j_runA hx 1 (tb := [(227, .ladd)]) (jtb_ok (by decide +kernel)) (pc' := 228) (lv' := [(0, vR t), (1, vI a1), (2, vI a2), (3, vI a3), (4, vI l4)]) (st' := [vL ((jL W 1014 t) + (kJ 4))]) rfl ?_
    exact j_lret hx hm (by decide +kernel) (he _)
  refine j_runA hx 1 (tb := [(206, .aload_n 0)]) (jtb_ok (by decide +kernel)) (pc' := 207) (lv' := [(0, vR t), (1, vI a1), (2, vI a2), (3, vI a3), (4, vI l4)]) (st' := [vR t]) rfl ?_
  refine j_gd (fun h30 => ?_)
  refine j_getL hx flX15_134 kd1014 h30 (by decide) (by decide +kernel) ?_
  refine j_runA hx 2 (tb := [(210, .iload_n 1), (211, .iload_n 2)]) (jtb_ok (by decide +kernel)) (pc' := 212) (lv' := [(0, vR t), (1, vI a1), (2, vI a2), (3, vI a3), (4, vI l4)]) (st' := [vI a2, vI a1, vL (jL W 1014 t)]) rfl ?_
  refine j_TI (j_callS (av := [vI a1, vI a2]) (st := [vL (jL W 1014 t)]) hx hr (Or.inl q2245) q1086 q247 md_fwo_by np_fwo_by (cwo_by a1 a2 W) (by decide) (Nat.le_of_ble_eq_true rfl) (by decide +kernel)) ?_
  refine j_runA hx 2 (tb := [(215, .i2l), (216, .ladd)]) (jtb_ok (by decide +kernel)) (pc' := 217) (lv' := [(0, vR t), (1, vI a1), (2, vI a2), (3, vI a3), (4, vI l4)]) (st' := [vL ((jL W 1014 t) + ((fwo_by a1 a2).toInt64))]) rfl ?_
  refine j_goto hx (off := 11) (by decide +kernel) (tgt := 228) (by decide) ?_
  exact j_lret hx hm (by decide +kernel) (he _)
theorem wma_gone_138 {x : jCx} {en : ((Nat × jW) ⊕ Int64 × jW) → Option (Outcome × jW)} {t : Nat} {a1 : Int32} {a2 : Int32} {a3 : Int32} (h : hma_gone x en t a1 a2 a3) (s0 : Int32) (W : jW) : jJ x 9 138 [(0, vR t), (1, vI a1), (2, vI a2), (3, vI a3)] [vI s0] W (fma_gone_138 t a1 a2 a3 s0 W) en := by
  have h0 := h
  obtain ⟨hx, hm, hr, he, ht⟩ := h0
  unfold fma_gone_138
  refine j_runA hx 1 (tb := [(138, .istore 4)]) (jtb_ok (by decide +kernel)) (pc' := 140) (lv' := [(4, vI s0), (0, vR t), (1, vI a1), (2, vI a2), (3, vI a3)]) (st' := []) rfl ?_
  refine j_goto hx (off := 61) (by decide +kernel) (tgt := 201) (by decide) ?_
  refine j_lv (lv' := [(0, vR t), (1, vI a1), (2, vI a2), (3, vI a3), (4, vI s0)]) ⟨rfl, rfl, rfl, rfl, rfl, trivial⟩ ?_
  exact wma_gone_201 h s0 W
theorem wma_gone_130 {x : jCx} {en : ((Nat × jW) ⊕ Int64 × jW) → Option (Outcome × jW)} {t : Nat} {a1 : Int32} {a2 : Int32} {a3 : Int32} (h : hma_gone x en t a1 a2 a3) (s0 : Int32) (s1 : Int32) (W : jW) : jJ x 9 130 [(0, vR t), (1, vI a1), (2, vI a2), (3, vI a3)] [vI s0, vI s1] W (fma_gone_130 t a1 a2 a3 s0 s1 W) en := by
  have h0 := h
  obtain ⟨hx, hm, hr, he, ht⟩ := h0
  unfold fma_gone_130
  refine j_icmp_ne hx (off := 7) (tgt := 137) (by decide +kernel) (by decide) (fun _ => ?_) (fun _ => ?_)
  · refine j_runA hx 1 (tb := [(137, .iconst 0)]) (jtb_ok (by decide +kernel)) (pc' := 138) (lv' := [(0, vR t), (1, vI a1), (2, vI a2), (3, vI a3)]) (st' := [vI (kI 0)]) rfl ?_
    exact wma_gone_138 h (kI 0) W
  refine j_runA hx 1 (tb := [(133, .iconst 1)]) (jtb_ok (by decide +kernel)) (pc' := 134) (lv' := [(0, vR t), (1, vI a1), (2, vI a2), (3, vI a3)]) (st' := [vI (kI 1)]) rfl ?_
  refine j_goto hx (off := 4) (by decide +kernel) (tgt := 138) (by decide) ?_
  exact wma_gone_138 h (kI 1) W
theorem wma_gone_116 {x : jCx} {en : ((Nat × jW) ⊕ Int64 × jW) → Option (Outcome × jW)} {t : Nat} {a1 : Int32} {a2 : Int32} {a3 : Int32} (h : hma_gone x en t a1 a2 a3) (s0 : Int32) (W : jW) : jJ x 9 116 [(0, vR t), (1, vI a1), (2, vI a2), (3, vI a3)] [vI s0] W (fma_gone_116 t a1 a2 a3 s0 W) en := by
  have h0 := h
  obtain ⟨hx, hm, hr, he, ht⟩ := h0
  unfold fma_gone_116
  refine j_runA hx 5 (tb := [(116, .iload_n 1), (117, .bipush 24), (119, .ishr), (120, .iconst 1), (121, .iand)]) (jtb_ok (by decide +kernel)) (pc' := 122) (lv' := [(0, vR t), (1, vI a1), (2, vI a2), (3, vI a3)]) (st' := [vI ((ixr a1 (kI 24)) &&& (kI 1)), vI s0]) rfl ?_
  refine j_if_ne hx (off := 7) (tgt := 129) (by decide +kernel) (by decide) (fun _ => ?_) (fun _ => ?_)
  · refine j_runA hx 1 (tb := [(129, .iconst 0)]) (jtb_ok (by decide +kernel)) (pc' := 130) (lv' := [(0, vR t), (1, vI a1), (2, vI a2), (3, vI a3)]) (st' := [vI (kI 0), vI s0]) rfl ?_
    exact wma_gone_130 h (kI 0) s0 W
  refine j_runA hx 1 (tb := [(125, .iconst 1)]) (jtb_ok (by decide +kernel)) (pc' := 126) (lv' := [(0, vR t), (1, vI a1), (2, vI a2), (3, vI a3)]) (st' := [vI (kI 1), vI s0]) rfl ?_
  refine j_goto hx (off := 4) (by decide +kernel) (tgt := 130) (by decide) ?_
  exact wma_gone_130 h (kI 1) s0 W
theorem wma_gone_106 {x : jCx} {en : ((Nat × jW) ⊕ Int64 × jW) → Option (Outcome × jW)} {t : Nat} {a1 : Int32} {a2 : Int32} {a3 : Int32} (h : hma_gone x en t a1 a2 a3) (s0 : Int64) (W : jW) : jJ x 9 106 [(0, vR t), (1, vI a1), (2, vI a2), (3, vI a3)] [vL s0] W (fma_gone_106 t a1 a2 a3 s0 W) en := by
  have h0 := h
  obtain ⟨hx, hm, hr, he, ht⟩ := h0
  unfold fma_gone_106
  refine j_runA hx 1 (tb := [(106, .lconst 0)]) (jtb_ok (by decide +kernel)) (pc' := 107) (lv' := [(0, vR t), (1, vI a1), (2, vI a2), (3, vI a3)]) (st' := [vL (kJ 0), vL s0]) rfl ?_
  refine j_lcmp_ne hx (off := 7) (tgt := 115) (by decide +kernel) (by decide +kernel) (by decide) (fun _ => ?_) (fun _ => ?_)
  · refine j_runA hx 1 (tb := [(115, .iconst 0)]) (jtb_ok (by decide +kernel)) (pc' := 116) (lv' := [(0, vR t), (1, vI a1), (2, vI a2), (3, vI a3)]) (st' := [vI (kI 0)]) rfl ?_
    exact wma_gone_116 h (kI 0) W
  refine j_runA hx 1 (tb := [(111, .iconst 1)]) (jtb_ok (by decide +kernel)) (pc' := 112) (lv' := [(0, vR t), (1, vI a1), (2, vI a2), (3, vI a3)]) (st' := [vI (kI 1)]) rfl ?_
  refine j_goto hx (off := 4) (by decide +kernel) (tgt := 116) (by decide) ?_
  exact wma_gone_116 h (kI 1) W
theorem wma_gone_188 {x : jCx} {en : ((Nat × jW) ⊕ Int64 × jW) → Option (Outcome × jW)} {t : Nat} {a1 : Int32} {a2 : Int32} {a3 : Int32} (h : hma_gone x en t a1 a2 a3) (s0 : Int32) (W : jW) : jJ x 9 188 [(0, vR t), (1, vI a1), (2, vI a2), (3, vI a3)] [vI s0] W (fma_gone_188 t a1 a2 a3 s0 W) en := by
  have h0 := h
  obtain ⟨hx, hm, hr, he, ht⟩ := h0
  unfold fma_gone_188
  refine j_runA hx 1 (tb := [(188, .istore 4)]) (jtb_ok (by decide +kernel)) (pc' := 190) (lv' := [(4, vI s0), (0, vR t), (1, vI a1), (2, vI a2), (3, vI a3)]) (st' := []) rfl ?_
  refine j_goto hx (off := 11) (by decide +kernel) (tgt := 201) (by decide) ?_
  refine j_lv (lv' := [(0, vR t), (1, vI a1), (2, vI a2), (3, vI a3), (4, vI s0)]) ⟨rfl, rfl, rfl, rfl, rfl, trivial⟩ ?_
  exact wma_gone_201 h s0 W
theorem wma_gone {x : jCx} {en : ((Nat × jW) ⊕ Int64 × jW) → Option (Outcome × jW)} {t : Nat} {a1 : Int32} {a2 : Int32} {a3 : Int32} (h : hma_gone x en t a1 a2 a3) (W : jW) : jJ x 9 0 [(0, vR t), (1, vI a1), (2, vI a2), (3, vI a3)] [] W (fma_gone t a1 a2 a3 W) en := by
  have h0 := h
  obtain ⟨hx, hm, hr, he, ht⟩ := h0
  unfold fma_gone
  refine j_runA hx 1 (tb := [(0, .iload_n 2)]) (jtb_ok (by decide +kernel)) (pc' := 1) (lv' := [(0, vR t), (1, vI a1), (2, vI a2), (3, vI a3)]) (st' := [vI a2]) rfl ?_
  refine j_tab hx (dflt := 192) (lo := 12) (hi := 16) (offs := #[35, 47, 64, 77, 142]) (len := 35) (k := 12) (off := 35) (tgt := 36) (by decide +kernel) (by decide) (by decide) (by decide) rfl (by decide) (fun _ => ?_) (fun h1 => ?_)
  · refine j_runA hx 1 (tb := [(36, .aload_n 0)]) (jtb_ok (by decide +kernel)) (pc' := 37) (lv' := [(0, vR t), (1, vI a1), (2, vI a2), (3, vI a3)]) (st' := [vR t]) rfl ?_
    refine j_gd (fun h2 => ?_)
    refine j_getL hx flX15_134 kd1014 h2 (by decide) (by decide +kernel) ?_
    refine j_runA hx 2 (tb := [(40, .iload_n 1), (41, .iload_n 2)]) (jtb_ok (by decide +kernel)) (pc' := 42) (lv' := [(0, vR t), (1, vI a1), (2, vI a2), (3, vI a3)]) (st' := [vI a2, vI a1, vL (jL W 1014 t)]) rfl ?_
    refine j_TI (j_callS (av := [vI a1, vI a2]) (st := [vL (jL W 1014 t)]) hx hr (Or.inl q2245) q1086 q247 md_fwo_by np_fwo_by (cwo_by a1 a2 W) (by decide) (Nat.le_of_ble_eq_true rfl) (by decide +kernel)) ?_
    refine j_runA hx 2 (tb := [(45, .i2l), (46, .ladd)]) (jtb_ok (by decide +kernel)) (pc' := 47) (lv' := [(0, vR t), (1, vI a1), (2, vI a2), (3, vI a3)]) (st' := [vL ((jL W 1014 t) + ((fwo_by a1 a2).toInt64))]) rfl ?_
    exact j_lret hx hm (by decide +kernel) (he _)
  refine j_tab hx (dflt := 192) (lo := 12) (hi := 16) (offs := #[35, 47, 64, 77, 142]) (len := 35) (k := 13) (off := 47) (tgt := 48) (by decide +kernel) (by decide) (by decide) (by decide) rfl (by decide) (fun _ => ?_) (fun h3 => ?_)
  · refine j_runA hx 2 (tb := [(48, .aload_n 0), (49, .iload_n 3)]) (jtb_ok (by decide +kernel)) (pc' := 50) (lv' := [(0, vR t), (1, vI a1), (2, vI a2), (3, vI a3)]) (st' := [vI a3, vR t]) rfl ?_
    refine j_gd (fun h4 => ?_)
    refine j_WV (j_callV (av := [vI a3]) (st := []) hx hr (Or.inl q2246) q2248 qs115 rfl md_fma_link np_fma_link (cma_link t a3 W) (by decide) (Nat.le_of_ble_eq_true rfl) h4 (by decide) (by decide +kernel)) (fun q5 _ => ?_)
    refine j_runA hx 1 (tb := [(53, .aload_n 0)]) (jtb_ok (by decide +kernel)) (pc' := 54) (lv' := [(0, vR t), (1, vI a1), (2, vI a2), (3, vI a3)]) (st' := [vR t]) rfl ?_
    refine j_gd (fun h7 => ?_)
    refine j_getL hx flX15_134 kd1014 h7 (by decide) (by decide +kernel) ?_
    refine j_runA hx 2 (tb := [(57, .iload_n 1), (58, .iload_n 2)]) (jtb_ok (by decide +kernel)) (pc' := 59) (lv' := [(0, vR t), (1, vI a1), (2, vI a2), (3, vI a3)]) (st' := [vI a2, vI a1, vL (jL q5 1014 t)]) rfl ?_
    refine j_TI (j_callS (av := [vI a1, vI a2]) (st := [vL (jL q5 1014 t)]) hx hr (Or.inl q2245) q1086 q247 md_fwo_by np_fwo_by (cwo_by a1 a2 q5) (by decide) (Nat.le_of_ble_eq_true rfl) (by decide +kernel)) ?_
    refine j_runA hx 2 (tb := [(62, .i2l), (63, .ladd)]) (jtb_ok (by decide +kernel)) (pc' := 64) (lv' := [(0, vR t), (1, vI a1), (2, vI a2), (3, vI a3)]) (st' := [vL ((jL q5 1014 t) + ((fwo_by a1 a2).toInt64))]) rfl ?_
    exact j_lret hx hm (by decide +kernel) (he _)
  refine j_tab hx (dflt := 192) (lo := 12) (hi := 16) (offs := #[35, 47, 64, 77, 142]) (len := 35) (k := 14) (off := 64) (tgt := 65) (by decide +kernel) (by decide) (by decide) (by decide) rfl (by decide) (fun _ => ?_) (fun h8 => ?_)
  · refine j_runA hx 4 (tb := [(65, .aload_n 0), (66, .iload_n 1), (67, .bipush 15), (69, .iand)]) (jtb_ok (by decide +kernel)) (pc' := 70) (lv' := [(0, vR t), (1, vI a1), (2, vI a2), (3, vI a3)]) (st' := [vI (a1 &&& (kI 15)), vR t]) rfl ?_
    refine j_gd (fun h9 => ?_)
    refine j_OI (j_callV (av := [vI (a1 &&& (kI 15))]) (st := []) hx hr (Or.inl q2156) q2158 qs102 rfl md_fma_holds np_fma_holds (cma_holds t (a1 &&& (kI 15)) W) (by decide) (Nat.le_of_ble_eq_true rfl) h9 (by decide) (by decide +kernel)) (fun q10 _ => ?_)
    refine j_runA hx 1 (tb := [(73, .istore 4)]) (jtb_ok (by decide +kernel)) (pc' := 75) (lv' := [(4, vI q10), (0, vR t), (1, vI a1), (2, vI a2), (3, vI a3)]) (st' := []) rfl ?_
    refine j_goto hx (off := 126) (by decide +kernel) (tgt := 201) (by decide) ?_
    refine j_lv (lv' := [(0, vR t), (1, vI a1), (2, vI a2), (3, vI a3), (4, vI q10)]) ⟨rfl, rfl, rfl, rfl, rfl, trivial⟩ ?_
    exact wma_gone_201 h q10 W
  refine j_tab hx (dflt := 192) (lo := 12) (hi := 16) (offs := #[35, 47, 64, 77, 142]) (len := 35) (k := 15) (off := 77) (tgt := 78) (by decide +kernel) (by decide) (by decide) (by decide) rfl (by decide) (fun _ => ?_) (fun h11 => ?_)
  · refine j_runA hx 2 (tb := [(78, .aload_n 0), (79, .iload_n 1)]) (jtb_ok (by decide +kernel)) (pc' := 80) (lv' := [(0, vR t), (1, vI a1), (2, vI a2), (3, vI a3)]) (st' := [vI a1, vR t]) rfl ?_
    refine j_TI (j_callS (av := [vI a1]) (st := [vR t]) hx hr (Or.inl q2078) q992 q247 md_fwo_d np_fwo_d (cwo_d a1 W) (by decide) (Nat.le_of_ble_eq_true rfl) (by decide +kernel)) ?_
    refine j_gd (fun h12 => ?_)
    refine j_EL (j_callV (av := [vI (fwo_d a1)]) (st := []) hx hr (Or.inl q2114) q2116 qs94 rfl md_fma_number np_fma_number (cma_number t (fwo_d a1) W) (by decide) (Nat.le_of_ble_eq_true rfl) h12 (by decide) (by decide +kernel)) (fun z _ r h9 => j_upE hm hx (ht z) h9) (fun q13 _ => ?_)
    refine j_runA hx 2 (tb := [(86, .lstore 5), (88, .iload_n 1)]) (jtb_ok (by decide +kernel)) (pc' := 89) (lv' := [(5, vL q13.1), (0, vR t), (1, vI a1), (2, vI a2), (3, vI a3)]) (st' := [vI a1]) rfl ?_
    refine j_TI (j_callS (av := [vI a1]) (st := []) hx hr (Or.inl q2084) q961 q247 md_fwo_isLong np_fwo_isLong (cwo_isLong a1 q13.2) (by decide) (Nat.le_of_ble_eq_true rfl) (by decide +kernel)) ?_
    refine j_if_eq hx (off := 8) (tgt := 100) (by decide +kernel) (by decide) (fun _ => ?_) (fun _ => ?_)
    · refine j_runA hx 1 (tb := [(100, .lload 5)]) (jtb_ok (by decide +kernel)) (pc' := 102) (lv' := [(5, vL q13.1), (0, vR t), (1, vI a1), (2, vI a2), (3, vI a3)]) (st' := [vL q13.1]) rfl ?_
      refine j_ldc2 hx (v := (kJ 4294967295)) (jkd2 q2089 (by decide +kernel)) (by decide +kernel) ?_
      refine j_runA hx 1 (tb := [(105, .land)]) (jtb_ok (by decide +kernel)) (pc' := 106) (lv' := [(5, vL q13.1), (0, vR t), (1, vI a1), (2, vI a2), (3, vI a3)]) (st' := [vL (q13.1 &&& (kJ 4294967295))]) rfl ?_
      refine j_lv (lv' := [(0, vR t), (1, vI a1), (2, vI a2), (3, vI a3)]) ⟨rfl, rfl, rfl, rfl, trivial⟩ ?_
      exact wma_gone_106 h (q13.1 &&& (kJ 4294967295)) q13.2
    refine j_runA hx 1 (tb := [(95, .lload 5)]) (jtb_ok (by decide +kernel)) (pc' := 97) (lv' := [(5, vL q13.1), (0, vR t), (1, vI a1), (2, vI a2), (3, vI a3)]) (st' := [vL q13.1]) rfl ?_
    refine j_goto hx (off := 9) (by decide +kernel) (tgt := 106) (by decide) ?_
    refine j_lv (lv' := [(0, vR t), (1, vI a1), (2, vI a2), (3, vI a3)]) ⟨rfl, rfl, rfl, rfl, trivial⟩ ?_
    exact wma_gone_106 h q13.1 q13.2
  refine j_tab hx (dflt := 192) (lo := 12) (hi := 16) (offs := #[35, 47, 64, 77, 142]) (len := 35) (k := 16) (off := 142) (tgt := 143) (by decide +kernel) (by decide) (by decide) (by decide) rfl (by decide) (fun _ => ?_) (fun h15 => ?_)
  · refine j_runA hx 2 (tb := [(143, .aload_n 0), (144, .iload_n 1)]) (jtb_ok (by decide +kernel)) (pc' := 145) (lv' := [(0, vR t), (1, vI a1), (2, vI a2), (3, vI a3)]) (st' := [vI a1, vR t]) rfl ?_
    refine j_TI (j_callS (av := [vI a1]) (st := [vR t]) hx hr (Or.inl q2078) q992 q247 md_fwo_d np_fwo_d (cwo_d a1 W) (by decide) (Nat.le_of_ble_eq_true rfl) (by decide +kernel)) ?_
    refine j_gd (fun h16 => ?_)
    refine j_EL (j_callV (av := [vI (fwo_d a1)]) (st := []) hx hr (Or.inl q2114) q2116 qs94 rfl md_fma_number np_fma_number (cma_number t (fwo_d a1) W) (by decide) (Nat.le_of_ble_eq_true rfl) h16 (by decide) (by decide +kernel)) (fun z _ r h9 => j_upE hm hx (ht z) h9) (fun q17 _ => ?_)
    refine j_runA hx 15 (tb := [(151, .iload_n 1), (152, .bipush 31), (154, .iushr), (155, .iconst 5), (156, .ishl), (157, .iload_n 1), (158, .bipush 19), (160, .ishr), (161, .bipush 31), (163, .iand), (164, .ior), (165, .lushr), (166, .lconst 1), (167, .land), (168, .lstore 7)]) (jtb_ok (by decide +kernel)) (pc' := 170) (lv' := [(7, vL ((lxu q17.1 ((ixl (ixu a1 (kI 31)) (kI 5)) ||| ((ixr a1 (kI 19)) &&& (kI 31)))) &&& (kJ 1))), (0, vR t), (1, vI a1), (2, vI a2), (3, vI a3)]) (st' := []) rfl ?_
    refine j_let (v := ((lxu q17.1 ((ixl (ixu a1 (kI 31)) (kI 5)) ||| ((ixr a1 (kI 19)) &&& (kI 31)))) &&& (kJ 1))) (lv := fun v19 => [(7, vL v19), (0, vR t), (1, vI a1), (2, vI a2), (3, vI a3)]) (st := fun _ => []) (fun v19 => ?_)
    refine j_runA hx 7 (tb := [(170, .lload 7), (172, .iload_n 1), (173, .bipush 24), (175, .ishr), (176, .iconst 1), (177, .iand), (178, .i2l)]) (jtb_ok (by decide +kernel)) (pc' := 179) (lv' := [(7, vL v19), (0, vR t), (1, vI a1), (2, vI a2), (3, vI a3)]) (st' := [vL (((ixr a1 (kI 24)) &&& (kI 1)).toInt64), vL v19]) rfl ?_
    refine j_lcmp_ne hx (off := 7) (tgt := 187) (by decide +kernel) (by decide +kernel) (by decide) (fun _ => ?_) (fun _ => ?_)
    · refine j_runA hx 1 (tb := [(187, .iconst 0)]) (jtb_ok (by decide +kernel)) (pc' := 188) (lv' := [(7, vL v19), (0, vR t), (1, vI a1), (2, vI a2), (3, vI a3)]) (st' := [vI (kI 0)]) rfl ?_
      refine j_lv (lv' := [(0, vR t), (1, vI a1), (2, vI a2), (3, vI a3)]) ⟨rfl, rfl, rfl, rfl, trivial⟩ ?_
      exact wma_gone_188 h (kI 0) q17.2
    refine j_runA hx 1 (tb := [(183, .iconst 1)]) (jtb_ok (by decide +kernel)) (pc' := 184) (lv' := [(7, vL v19), (0, vR t), (1, vI a1), (2, vI a2), (3, vI a3)]) (st' := [vI (kI 1)]) rfl ?_
    refine j_goto hx (off := 4) (by decide +kernel) (tgt := 188) (by decide) ?_
    refine j_lv (lv' := [(0, vR t), (1, vI a1), (2, vI a2), (3, vI a3)]) ⟨rfl, rfl, rfl, rfl, trivial⟩ ?_
    exact wma_gone_188 h (kI 1) q17.2
  refine j_tabD hx (dflt := 192) (lo := 12) (hi := 16) (offs := #[35, 47, 64, 77, 142]) (len := 35) (tgt := 193) (by decide +kernel) (by decide) (fun i hi => by
    match i, hi with
    | 0, _ => exact Or.inr h1
    | 1, _ => exact Or.inr h3
    | 2, _ => exact Or.inr h8
    | 3, _ => exact Or.inr h11
    | 4, _ => exact Or.inr h15
    | n + 5, h => exact absurd h (by omega)) ?_
  refine j_runA hx 4 (tb := [(193, .aload_n 0), (194, .iload_n 1), (195, .iload_n 2), (196, .iload_n 3)]) (jtb_ok (by decide +kernel)) (pc' := 197) (lv' := [(0, vR t), (1, vI a1), (2, vI a2), (3, vI a3)]) (st' := [vI a3, vI a2, vI a1, vR t]) rfl ?_
  refine j_gd (fun h20 => ?_)
  refine j_EL (j_callV (av := [vI a1, vI a2, vI a3]) (st := []) hx hr (Or.inl q2250) q2252 qs116 rfl md_fma_to np_fma_to (cma_to t a1 a2 a3 W) (by decide) (Nat.le_of_ble_eq_true rfl) h20 (by decide) (by decide +kernel)) (fun z _ r h9 => j_upE hm hx (ht z) h9) (fun q21 _ => ?_)
  exact j_lret hx hm (by decide +kernel) (he _)
theorem cma_gone (t : Nat) (a1 : Int32) (a2 : Int32) (a3 : Int32) (W : jW) : jM yX15_gone cX15_gone 9 (Option.some Jvm.ClassFile.FieldType.long) [] 6 90 [vR t, vI a1, vI a2, vI a3] W ((fma_gone t a1 a2 a3 W).bind (fun q => some (Sum.elim (fun z => (.threw (z.1 - 1), z.2)) (fun q => (.returned (some (.long q.1)), q.2)) q))) := 
  jM.of (Nat.le_of_ble_eq_true rfl) (fun x hx hm hr => wma_gone ⟨hx, hm, hr, fun _ => rfl, fun _ => rfl⟩ W)
def hma_step (x : jCx) (en : ((Nat × jW) ⊕ jW) → Option (Outcome × jW)) (t : Nat) : Prop :=
  jOK x RX15 cX15_step 12 ∧
  jMt x "step" (Option.none : Option Jvm.ClassFile.FieldType) [] ∧
  jRm x 10 146 ∧
  (∀ q : jW, en (.inr q) = some (.returned none, q)) ∧
  (∀ z : Nat × jW, en (.inl z) = some (.threw (z.1 - 1), z.2))
theorem wma_step_24 {x : jCx} {en : ((Nat × jW) ⊕ jW) → Option (Outcome × jW)} {t : Nat} (h : hma_step x en t) (W : jW) : jJ x 12 24 [(0, vR t)] [] W (fma_step_24 t W) en := by
  have h0 := h
  obtain ⟨hx, hm, hr, he, ht⟩ := h0
  unfold fma_step_24
  refine j_runA hx 1 (tb := [(24, .aload_n 0)]) (jtb_ok (by decide +kernel)) (pc' := 25) (lv' := [(0, vR t)]) (st' := [vR t]) rfl ?_
  refine j_gd (fun h96 => ?_)
  refine j_getR hx flX15_12 kl1004 h96 (by decide) (by decide +kernel) ?_
  refine j_runA hx 1 (tb := [(28, .iconst 2)]) (jtb_ok (by decide +kernel)) (pc' := 29) (lv' := [(0, vR t)]) (st' := [vI (kI 2), vR (jR W 1004 t)]) rfl ?_
  refine j_gd (fun h97 => ?_)
  refine j_WR (j_callV (av := [vI (kI 2)]) (st := []) hx hr (Or.inl q2063) q2064 q2065 rfl md_fha_by np_fha_by (cha_by (jR W 1004 t) (kI 2) W) (by decide) (Nat.le_of_ble_eq_true rfl) h97 (by decide) (by decide +kernel)) (fun q98 _ => ?_)
  refine j_gd (fun h100 => ?_)
  exact j_athrow hx hm (by decide +kernel) h100 (ht _)
theorem wma_step_460 {x : jCx} {en : ((Nat × jW) ⊕ jW) → Option (Outcome × jW)} {t : Nat} (h : hma_step x en t) (l4 : Int64) (W : jW) : jJ x 12 460 [(0, vR t), (4, vL l4)] [] W (fma_step_460 t l4 W) en := by
  have h0 := h
  obtain ⟨hx, hm, hr, he, ht⟩ := h0
  unfold fma_step_460
  refine j_runA hx 2 (tb := [(460, .aload_n 0), (461, .dup)]) (jtb_ok (by decide +kernel)) (pc' := 462) (lv' := [(0, vR t), (4, vL l4)]) (st' := [vR t, vR t]) rfl ?_
  refine j_gd (fun h86 => ?_)
  refine j_getI hx flX15_102 kd1016 h86 (by decide) (by decide +kernel) ?_
  refine j_runA hx 2 (tb := [(465, .iconst 1), (466, .iadd)]) (jtb_ok (by decide +kernel)) (pc' := 467) (lv' := [(0, vR t), (4, vL l4)]) (st' := [vI ((jI W 1016 t) + (kI 1)), vR t]) rfl ?_
  refine j_putI hx fwX15_102 wf1016 kd1016 h86 (by decide) (by decide +kernel) (ni1016 _) (fi1016 _) ?_
  refine j_ltw rfl (fun W87 hc88 => ?_)
  have h89 : jC W87 t = 10 := (congrFun hc88 _).trans h86
  refine j_runA hx 1 (tb := [(470, .aload_n 0)]) (jtb_ok (by decide +kernel)) (pc' := 471) (lv' := [(0, vR t), (4, vL l4)]) (st' := [vR t]) rfl ?_
  refine j_getI hx flX15_137 kd1019 h89 (by decide) (by decide +kernel) ?_
  refine j_if_ge hx (off := 9) (tgt := 483) (by decide +kernel) (by decide) (fun _ => ?_) (fun _ => ?_)
  · exact j_vret hx hm (by decide +kernel) (he _)
  refine j_runA hx 2 (tb := [(477, .aload_n 0), (478, .lload 4)]) (jtb_ok (by decide +kernel)) (pc' := 480) (lv' := [(0, vR t), (4, vL l4)]) (st' := [vL l4, vR t]) rfl ?_
  refine j_putL hx fwX15_134 wf1014 kd1014 h89 (by decide) (by decide +kernel) (nl1014 _) (ff1014 _) ?_
  refine j_ltw rfl (fun W91 hc92 => ?_)
  have h93 : jC W91 t = 10 := (congrFun hc92 _).trans h89
  exact j_vret hx hm (by decide +kernel) (he _)
theorem wma_step_449 {x : jCx} {en : ((Nat × jW) ⊕ jW) → Option (Outcome × jW)} {t : Nat} (h : hma_step x en t) (l1 : Int32) (l2 : Int32) (l3 : Int32) (W : jW) : jJ x 12 449 [(0, vR t), (1, vI l1), (2, vI l2), (3, vI l3)] [] W (fma_step_449 t l1 l2 l3 W) en := by
  have h0 := h
  obtain ⟨hx, hm, hr, he, ht⟩ := h0
  unfold fma_step_449
  refine j_runA hx 5 (tb := [(449, .aload_n 0), (450, .iload_n 2), (451, .iload_n 3), (452, .iload_n 1), (453, .iconst 4)]) (jtb_ok (by decide +kernel)) (pc' := 454) (lv' := [(0, vR t), (1, vI l1), (2, vI l2), (3, vI l3)]) (st' := [vI (kI 4), vI l1, vI l3, vI l2, vR t]) rfl ?_
  refine j_idiv hx (by decide +kernel) (by decide +kernel) ?_
  refine j_gd (fun h74 => ?_)
  refine j_EL (j_callV (av := [vI l2, vI l3, vI (l1 / (kI 4))]) (st := []) hx hr (Or.inl q2241) q2243 qs114 rfl md_fma_gone np_fma_gone (cma_gone t l2 l3 (l1 / (kI 4)) W) (by decide) (Nat.le_of_ble_eq_true rfl) h74 (by decide) (by decide +kernel)) (fun z _ r h9 => j_upE hm hx (ht z) h9) (fun q75 _ => ?_)
  refine j_runA hx 1 (tb := [(458, .lstore 4)]) (jtb_ok (by decide +kernel)) (pc' := 460) (lv' := [(4, vL q75.1), (0, vR t), (1, vI l1), (2, vI l2), (3, vI l3)]) (st' := []) rfl ?_
  refine j_lv (lv' := [(0, vR t), (4, vL q75.1)]) ⟨rfl, rfl, trivial⟩ ?_
  exact wma_step_460 h q75.1 q75.2
theorem wma_step_327 {x : jCx} {en : ((Nat × jW) ⊕ jW) → Option (Outcome × jW)} {t : Nat} (h : hma_step x en t) (l2 : Int32) (l4 : Int64) (s0 : Int64) (s1 : Int32) (s2 : Nat) (W : jW) : jJ x 12 327 [(0, vR t), (2, vI l2), (4, vL l4)] [vL s0, vI s1, vR s2] W (fma_step_327 t l2 l4 s0 s1 s2 W) en := by
  have h0 := h
  obtain ⟨hx, hm, hr, he, ht⟩ := h0
  unfold fma_step_327
  refine j_runA hx 1 (tb := [(327, .iload_n 2)]) (jtb_ok (by decide +kernel)) (pc' := 328) (lv' := [(0, vR t), (2, vI l2), (4, vL l4)]) (st' := [vI l2, vL s0, vI s1, vR s2]) rfl ?_
  refine j_TI (j_callS (av := [vI l2]) (st := [vL s0, vI s1, vR s2]) hx hr (Or.inl q2084) q961 q247 md_fwo_isLong np_fwo_isLong (cwo_isLong l2 W) (by decide) (Nat.le_of_ble_eq_true rfl) (by decide +kernel)) ?_
  refine j_gd (fun h82 => ?_)
  refine j_WV (j_callV (av := [vI s1, vL s0, vI (fwo_isLong l2)]) (st := []) hx hr (Or.inl q2095) q2097 qs90 rfl md_fma_put np_fma_put (cma_put s2 s1 s0 (fwo_isLong l2) W) (by decide) (Nat.le_of_ble_eq_true rfl) h82 (by decide) (by decide +kernel)) (fun q83 _ => ?_)
  refine j_goto hx (off := 126) (by decide +kernel) (tgt := 460) (by decide) ?_
  refine j_lv (lv' := [(0, vR t), (4, vL l4)]) ⟨rfl, rfl, trivial⟩ ?_
  exact wma_step_460 h l4 q83
theorem wma_step_424 {x : jCx} {en : ((Nat × jW) ⊕ jW) → Option (Outcome × jW)} {t : Nat} (h : hma_step x en t) (l4 : Int64) (s0 : Int64) (s1 : Int64) (s2 : Int32) (s3 : Nat) (W : jW) : jJ x 12 424 [(0, vR t), (4, vL l4)] [vL s0, vL s1, vI s2, vR s3] W (fma_step_424 t l4 s0 s1 s2 s3 W) en := by
  have h0 := h
  obtain ⟨hx, hm, hr, he, ht⟩ := h0
  unfold fma_step_424
  refine j_runA hx 1 (tb := [(424, .ladd)]) (jtb_ok (by decide +kernel)) (pc' := 425) (lv' := [(0, vR t), (4, vL l4)]) (st' := [vL (s1 + s0), vI s2, vR s3]) rfl ?_
  refine j_gd (fun h78 => ?_)
  refine j_EV (j_callV (av := [vI s2, vL (s1 + s0)]) (st := []) hx hr (Or.inl q2161) q2163 qs103 rfl md_fma_access np_fma_access (cma_access s3 s2 (s1 + s0) W) (by decide) (Nat.le_of_ble_eq_true rfl) h78 (by decide) (by decide +kernel)) (fun z _ r h9 => j_upE hm hx (ht z) h9) (fun q79 _ => ?_)
  refine j_goto hx (off := 32) (by decide +kernel) (tgt := 460) (by decide) ?_
  exact wma_step_460 h l4 q79
theorem wma_step_99 {x : jCx} {en : ((Nat × jW) ⊕ jW) → Option (Outcome × jW)} {t : Nat} (h : hma_step x en t) (l1 : Int32) (l2 : Int32) (s0 : Int32) (W : jW) : jJ x 12 99 [(0, vR t), (1, vI l1), (2, vI l2)] [vI s0] W (fma_step_99 t l1 l2 s0 W) en := by
  have h0 := h
  obtain ⟨hx, hm, hr, he, ht⟩ := h0
  unfold fma_step_99
  refine j_runA hx 2 (tb := [(99, .istore_n 3), (100, .iload_n 3)]) (jtb_ok (by decide +kernel)) (pc' := 101) (lv' := [(3, vI s0), (0, vR t), (1, vI l1), (2, vI l2)]) (st' := [vI s0]) rfl ?_
  refine j_if_ne hx (off := 12) (tgt := 113) (by decide +kernel) (by decide) (fun _ => ?_) (fun _ => ?_)
  · refine j_runA hx 1 (tb := [(113, .aload_n 0)]) (jtb_ok (by decide +kernel)) (pc' := 114) (lv' := [(3, vI s0), (0, vR t), (1, vI l1), (2, vI l2)]) (st' := [vR t]) rfl ?_
    refine j_gd (fun h16 => ?_)
    refine j_getL hx flX15_134 kd1014 h16 (by decide) (by decide +kernel) ?_
    refine j_ldc2 hx (v := (kJ 4)) (jkd2 q2049 (by decide +kernel)) (by decide +kernel) ?_
    refine j_runA hx 2 (tb := [(120, .ladd), (121, .lstore 4)]) (jtb_ok (by decide +kernel)) (pc' := 123) (lv' := [(4, vL ((jL W 1014 t) + (kJ 4))), (3, vI s0), (0, vR t), (1, vI l1), (2, vI l2)]) (st' := []) rfl ?_
    refine j_let (v := ((jL W 1014 t) + (kJ 4))) (lv := fun v17 => [(4, vL v17), (3, vI s0), (0, vR t), (1, vI l1), (2, vI l2)]) (st := fun _ => []) (fun v17 => ?_)
    refine j_runA hx 1 (tb := [(123, .iload_n 3)]) (jtb_ok (by decide +kernel)) (pc' := 124) (lv' := [(4, vL v17), (3, vI s0), (0, vR t), (1, vI l1), (2, vI l2)]) (st' := [vI s0]) rfl ?_
    refine j_tab hx (dflt := 325) (lo := 1) (hi := 21) (offs := #[100, 111, 119, 127, 135, 146, 213, 221, 229, 257, 307, 325, 325, 325, 325, 325, 325, 325, 325, 315, 322]) (len := 100) (k := 1) (off := 100) (tgt := 224) (by decide +kernel) (by decide) (by decide) (by decide) rfl (by decide) (fun _ => ?_) (fun h18 => ?_)
    · refine j_runA hx 4 (tb := [(224, .aload_n 0), (225, .iload_n 2), (226, .iload_n 1), (227, .iconst 4)]) (jtb_ok (by decide +kernel)) (pc' := 228) (lv' := [(4, vL v17), (3, vI s0), (0, vR t), (1, vI l1), (2, vI l2)]) (st' := [vI (kI 4), vI l1, vI l2, vR t]) rfl ?_
      refine j_idiv hx (by decide +kernel) (by decide +kernel) ?_
      refine j_EV (j_callV (av := [vI l2, vI (l1 / (kI 4))]) (st := []) hx hr (Or.inl q2069) q2071 qs85 rfl md_fma_addNumber np_fma_addNumber (cma_addNumber t l2 (l1 / (kI 4)) W) (by decide) (Nat.le_of_ble_eq_true rfl) h16 (by decide) (by decide +kernel)) (fun z _ r h9 => j_upE hm hx (ht z) h9) (fun q19 _ => ?_)
      refine j_goto hx (off := 228) (by decide +kernel) (tgt := 460) (by decide) ?_
      refine j_lv (lv' := [(0, vR t), (4, vL v17)]) ⟨rfl, rfl, trivial⟩ ?_
      exact wma_step_460 h v17 q19
    refine j_tab hx (dflt := 325) (lo := 1) (hi := 21) (offs := #[100, 111, 119, 127, 135, 146, 213, 221, 229, 257, 307, 325, 325, 325, 325, 325, 325, 325, 325, 315, 322]) (len := 100) (k := 2) (off := 111) (tgt := 235) (by decide +kernel) (by decide) (by decide) (by decide) rfl (by decide) (fun _ => ?_) (fun h21 => ?_)
    · refine j_runA hx 2 (tb := [(235, .aload_n 0), (236, .iload_n 2)]) (jtb_ok (by decide +kernel)) (pc' := 237) (lv' := [(4, vL v17), (3, vI s0), (0, vR t), (1, vI l1), (2, vI l2)]) (st' := [vI l2, vR t]) rfl ?_
      refine j_EV (j_callV (av := [vI l2]) (st := []) hx hr (Or.inl q2103) q2105 qs92 rfl md_fma_add np_fma_add (cma_add t l2 W) (by decide) (Nat.le_of_ble_eq_true rfl) h16 (by decide) (by decide +kernel)) (fun z _ r h9 => j_upE hm hx (ht z) h9) (fun q22 _ => ?_)
      refine j_goto hx (off := 220) (by decide +kernel) (tgt := 460) (by decide) ?_
      refine j_lv (lv' := [(0, vR t), (4, vL v17)]) ⟨rfl, rfl, trivial⟩ ?_
      exact wma_step_460 h v17 q22
    refine j_tab hx (dflt := 325) (lo := 1) (hi := 21) (offs := #[100, 111, 119, 127, 135, 146, 213, 221, 229, 257, 307, 325, 325, 325, 325, 325, 325, 325, 325, 315, 322]) (len := 100) (k := 3) (off := 119) (tgt := 243) (by decide +kernel) (by decide) (by decide) (by decide) rfl (by decide) (fun _ => ?_) (fun h24 => ?_)
    · refine j_runA hx 2 (tb := [(243, .aload_n 0), (244, .iload_n 2)]) (jtb_ok (by decide +kernel)) (pc' := 245) (lv' := [(4, vL v17), (3, vI s0), (0, vR t), (1, vI l1), (2, vI l2)]) (st' := [vI l2, vR t]) rfl ?_
      refine j_EV (j_callV (av := [vI l2]) (st := []) hx hr (Or.inl q2123) q2125 qs96 rfl md_fma_and np_fma_and (cma_and t l2 W) (by decide) (Nat.le_of_ble_eq_true rfl) h16 (by decide) (by decide +kernel)) (fun z _ r h9 => j_upE hm hx (ht z) h9) (fun q25 _ => ?_)
      refine j_goto hx (off := 212) (by decide +kernel) (tgt := 460) (by decide) ?_
      refine j_lv (lv' := [(0, vR t), (4, vL v17)]) ⟨rfl, rfl, trivial⟩ ?_
      exact wma_step_460 h v17 q25
    refine j_tab hx (dflt := 325) (lo := 1) (hi := 21) (offs := #[100, 111, 119, 127, 135, 146, 213, 221, 229, 257, 307, 325, 325, 325, 325, 325, 325, 325, 325, 315, 322]) (len := 100) (k := 4) (off := 127) (tgt := 251) (by decide +kernel) (by decide) (by decide) (by decide) rfl (by decide) (fun _ => ?_) (fun h27 => ?_)
    · refine j_runA hx 2 (tb := [(251, .aload_n 0), (252, .iload_n 2)]) (jtb_ok (by decide +kernel)) (pc' := 253) (lv' := [(4, vL v17), (3, vI s0), (0, vR t), (1, vI l1), (2, vI l2)]) (st' := [vI l2, vR t]) rfl ?_
      refine j_EV (j_callV (av := [vI l2]) (st := []) hx hr (Or.inl q2132) q2134 qs98 rfl md_fma_move np_fma_move (cma_move t l2 W) (by decide) (Nat.le_of_ble_eq_true rfl) h16 (by decide) (by decide +kernel)) (fun z _ r h9 => j_upE hm hx (ht z) h9) (fun q28 _ => ?_)
      refine j_goto hx (off := 204) (by decide +kernel) (tgt := 460) (by decide) ?_
      refine j_lv (lv' := [(0, vR t), (4, vL v17)]) ⟨rfl, rfl, trivial⟩ ?_
      exact wma_step_460 h v17 q28
    refine j_tab hx (dflt := 325) (lo := 1) (hi := 21) (offs := #[100, 111, 119, 127, 135, 146, 213, 221, 229, 257, 307, 325, 325, 325, 325, 325, 325, 325, 325, 315, 322]) (len := 100) (k := 5) (off := 135) (tgt := 259) (by decide +kernel) (by decide) (by decide) (by decide) rfl (by decide) (fun _ => ?_) (fun h30 => ?_)
    · refine j_runA hx 4 (tb := [(259, .aload_n 0), (260, .iload_n 2), (261, .iload_n 1), (262, .iconst 4)]) (jtb_ok (by decide +kernel)) (pc' := 263) (lv' := [(4, vL v17), (3, vI s0), (0, vR t), (1, vI l1), (2, vI l2)]) (st' := [vI (kI 4), vI l1, vI l2, vR t]) rfl ?_
      refine j_idiv hx (by decide +kernel) (by decide +kernel) ?_
      refine j_WV (j_callV (av := [vI l2, vI (l1 / (kI 4))]) (st := []) hx hr (Or.inl q2138) q2140 qs99 rfl md_fma_page np_fma_page (cma_page t l2 (l1 / (kI 4)) W) (by decide) (Nat.le_of_ble_eq_true rfl) h16 (by decide) (by decide +kernel)) (fun q31 _ => ?_)
      refine j_goto hx (off := 193) (by decide +kernel) (tgt := 460) (by decide) ?_
      refine j_lv (lv' := [(0, vR t), (4, vL v17)]) ⟨rfl, rfl, trivial⟩ ?_
      exact wma_step_460 h v17 q31
    refine j_tab hx (dflt := 325) (lo := 1) (hi := 21) (offs := #[100, 111, 119, 127, 135, 146, 213, 221, 229, 257, 307, 325, 325, 325, 325, 325, 325, 325, 325, 315, 322]) (len := 100) (k := 6) (off := 146) (tgt := 270) (by decide +kernel) (by decide) (by decide) (by decide) rfl (by decide) (fun _ => ?_) (fun h33 => ?_)
    · refine j_runA hx 2 (tb := [(270, .aload_n 0), (271, .iload_n 2)]) (jtb_ok (by decide +kernel)) (pc' := 272) (lv' := [(4, vL v17), (3, vI s0), (0, vR t), (1, vI l1), (2, vI l2)]) (st' := [vI l2, vR t]) rfl ?_
      refine j_TI (j_callS (av := [vI l2]) (st := [vR t]) hx hr (Or.inl q2073) q998 q247 md_fwo_n np_fwo_n (cwo_n l2 W) (by decide) (Nat.le_of_ble_eq_true rfl) (by decide +kernel)) ?_
      refine j_EL (j_callV (av := [vI (fwo_n l2)]) (st := []) hx hr (Or.inl q2114) q2116 qs94 rfl md_fma_number np_fma_number (cma_number t (fwo_n l2) W) (by decide) (Nat.le_of_ble_eq_true rfl) h16 (by decide) (by decide +kernel)) (fun z _ r h9 => j_upE hm hx (ht z) h9) (fun q34 _ => ?_)
      refine j_runA hx 2 (tb := [(278, .aload_n 0), (279, .iload_n 2)]) (jtb_ok (by decide +kernel)) (pc' := 280) (lv' := [(4, vL v17), (3, vI s0), (0, vR t), (1, vI l1), (2, vI l2)]) (st' := [vI l2, vR t, vL q34.1]) rfl ?_
      refine j_TI (j_callS (av := [vI l2]) (st := [vR t, vL q34.1]) hx hr (Or.inl q2111) q2112 q247 md_fwo_m np_fwo_m (cwo_m l2 q34.2) (by decide) (Nat.le_of_ble_eq_true rfl) (by decide +kernel)) ?_
      refine j_gd (fun h36 => ?_)
      refine j_EL (j_callV (av := [vI (fwo_m l2)]) (st := [vL q34.1]) hx hr (Or.inl q2114) q2116 qs94 rfl md_fma_number np_fma_number (cma_number t (fwo_m l2) q34.2) (by decide) (Nat.le_of_ble_eq_true rfl) h36 (by decide) (by decide +kernel)) (fun z _ r h9 => j_upE hm hx (ht z) h9) (fun q37 _ => ?_)
      refine j_runA hx 2 (tb := [(286, .lmul), (287, .lstore 6)]) (jtb_ok (by decide +kernel)) (pc' := 289) (lv' := [(6, vL (q34.1 * q37.1)), (4, vL v17), (3, vI s0), (0, vR t), (1, vI l1), (2, vI l2)]) (st' := []) rfl ?_
      refine j_let (v := (q34.1 * q37.1)) (lv := fun v39 => [(6, vL v39), (4, vL v17), (3, vI s0), (0, vR t), (1, vI l1), (2, vI l2)]) (st := fun _ => []) (fun v39 => ?_)
      refine j_runA hx 2 (tb := [(289, .aload_n 0), (290, .iload_n 2)]) (jtb_ok (by decide +kernel)) (pc' := 291) (lv' := [(6, vL v39), (4, vL v17), (3, vI s0), (0, vR t), (1, vI l1), (2, vI l2)]) (st' := [vI l2, vR t]) rfl ?_
      refine j_TI (j_callS (av := [vI l2]) (st := [vR t]) hx hr (Or.inl q2144) q995 q247 md_fwo_a np_fwo_a (cwo_a l2 q37.2) (by decide) (Nat.le_of_ble_eq_true rfl) (by decide +kernel)) ?_
      refine j_gd (fun h40 => ?_)
      refine j_EL (j_callV (av := [vI (fwo_a l2)]) (st := []) hx hr (Or.inl q2114) q2116 qs94 rfl md_fma_number np_fma_number (cma_number t (fwo_a l2) q37.2) (by decide) (Nat.le_of_ble_eq_true rfl) h40 (by decide) (by decide +kernel)) (fun z _ r h9 => j_upE hm hx (ht z) h9) (fun q41 _ => ?_)
      refine j_runA hx 3 (tb := [(297, .lstore 8), (299, .aload_n 0), (300, .iload_n 2)]) (jtb_ok (by decide +kernel)) (pc' := 301) (lv' := [(8, vL q41.1), (6, vL v39), (4, vL v17), (3, vI s0), (0, vR t), (1, vI l1), (2, vI l2)]) (st' := [vI l2, vR t]) rfl ?_
      refine j_TI (j_callS (av := [vI l2]) (st := [vR t]) hx hr (Or.inl q2078) q992 q247 md_fwo_d np_fwo_d (cwo_d l2 q41.2) (by decide) (Nat.le_of_ble_eq_true rfl) (by decide +kernel)) ?_
      refine j_runA hx 6 (tb := [(304, .iload_n 2), (305, .bipush 15), (307, .ishr), (308, .iconst 1), (309, .iand), (310, .iconst 1)]) (jtb_ok (by decide +kernel)) (pc' := 311) (lv' := [(8, vL q41.1), (6, vL v39), (4, vL v17), (3, vI s0), (0, vR t), (1, vI l1), (2, vI l2)]) (st' := [vI (kI 1), vI ((ixr l2 (kI 15)) &&& (kI 1)), vI (fwo_d l2), vR t]) rfl ?_
      refine j_icmp_ne hx (off := 11) (tgt := 322) (by decide +kernel) (by decide) (fun _ => ?_) (fun _ => ?_)
      · refine j_runA hx 3 (tb := [(322, .lload 8), (324, .lload 6), (326, .ladd)]) (jtb_ok (by decide +kernel)) (pc' := 327) (lv' := [(8, vL q41.1), (6, vL v39), (4, vL v17), (3, vI s0), (0, vR t), (1, vI l1), (2, vI l2)]) (st' := [vL (q41.1 + v39), vI (fwo_d l2), vR t]) rfl ?_
        refine j_lv (lv' := [(0, vR t), (2, vI l2), (4, vL v17)]) ⟨rfl, rfl, rfl, trivial⟩ ?_
        exact wma_step_327 h l2 v17 (q41.1 + v39) (fwo_d l2) t q41.2
      refine j_runA hx 3 (tb := [(314, .lload 8), (316, .lload 6), (318, .lsub)]) (jtb_ok (by decide +kernel)) (pc' := 319) (lv' := [(8, vL q41.1), (6, vL v39), (4, vL v17), (3, vI s0), (0, vR t), (1, vI l1), (2, vI l2)]) (st' := [vL (q41.1 - v39), vI (fwo_d l2), vR t]) rfl ?_
      refine j_goto hx (off := 8) (by decide +kernel) (tgt := 327) (by decide) ?_
      refine j_lv (lv' := [(0, vR t), (2, vI l2), (4, vL v17)]) ⟨rfl, rfl, rfl, trivial⟩ ?_
      exact wma_step_327 h l2 v17 (q41.1 - v39) (fwo_d l2) t q41.2
    refine j_tab hx (dflt := 325) (lo := 1) (hi := 21) (offs := #[100, 111, 119, 127, 135, 146, 213, 221, 229, 257, 307, 325, 325, 325, 325, 325, 325, 325, 325, 315, 322]) (len := 100) (k := 7) (off := 213) (tgt := 337) (by decide +kernel) (by decide) (by decide) (by decide) rfl (by decide) (fun _ => ?_) (fun h43 => ?_)
    · refine j_runA hx 2 (tb := [(337, .aload_n 0), (338, .iload_n 2)]) (jtb_ok (by decide +kernel)) (pc' := 339) (lv' := [(4, vL v17), (3, vI s0), (0, vR t), (1, vI l1), (2, vI l2)]) (st' := [vI l2, vR t]) rfl ?_
      refine j_EV (j_callV (av := [vI l2]) (st := []) hx hr (Or.inl q2145) q2147 qs100 rfl md_fma_two np_fma_two (cma_two t l2 W) (by decide) (Nat.le_of_ble_eq_true rfl) h16 (by decide) (by decide +kernel)) (fun z _ r h9 => j_upE hm hx (ht z) h9) (fun q44 _ => ?_)
      refine j_goto hx (off := 118) (by decide +kernel) (tgt := 460) (by decide) ?_
      refine j_lv (lv' := [(0, vR t), (4, vL v17)]) ⟨rfl, rfl, trivial⟩ ?_
      exact wma_step_460 h v17 q44
    refine j_tab hx (dflt := 325) (lo := 1) (hi := 21) (offs := #[100, 111, 119, 127, 135, 146, 213, 221, 229, 257, 307, 325, 325, 325, 325, 325, 325, 325, 325, 315, 322]) (len := 100) (k := 8) (off := 221) (tgt := 345) (by decide +kernel) (by decide) (by decide) (by decide) rfl (by decide) (fun _ => ?_) (fun h46 => ?_)
    · refine j_runA hx 2 (tb := [(345, .aload_n 0), (346, .iload_n 2)]) (jtb_ok (by decide +kernel)) (pc' := 347) (lv' := [(4, vL v17), (3, vI s0), (0, vR t), (1, vI l1), (2, vI l2)]) (st' := [vI l2, vR t]) rfl ?_
      refine j_EV (j_callV (av := [vI l2]) (st := []) hx hr (Or.inl q2152) q2154 qs101 rfl md_fma_choose np_fma_choose (cma_choose t l2 W) (by decide) (Nat.le_of_ble_eq_true rfl) h16 (by decide) (by decide +kernel)) (fun z _ r h9 => j_upE hm hx (ht z) h9) (fun q47 _ => ?_)
      refine j_goto hx (off := 110) (by decide +kernel) (tgt := 460) (by decide) ?_
      refine j_lv (lv' := [(0, vR t), (4, vL v17)]) ⟨rfl, rfl, trivial⟩ ?_
      exact wma_step_460 h v17 q47
    refine j_tab hx (dflt := 325) (lo := 1) (hi := 21) (offs := #[100, 111, 119, 127, 135, 146, 213, 221, 229, 257, 307, 325, 325, 325, 325, 325, 325, 325, 325, 315, 322]) (len := 100) (k := 9) (off := 229) (tgt := 353) (by decide +kernel) (by decide) (by decide) (by decide) rfl (by decide) (fun _ => ?_) (fun h49 => ?_)
    · refine j_runA hx 4 (tb := [(353, .aload_n 0), (354, .iload_n 2), (355, .aload_n 0), (356, .iload_n 2)]) (jtb_ok (by decide +kernel)) (pc' := 357) (lv' := [(4, vL v17), (3, vI s0), (0, vR t), (1, vI l1), (2, vI l2)]) (st' := [vI l2, vR t, vI l2, vR t]) rfl ?_
      refine j_TI (j_callS (av := [vI l2]) (st := [vR t, vI l2, vR t]) hx hr (Or.inl q2073) q998 q247 md_fwo_n np_fwo_n (cwo_n l2 W) (by decide) (Nat.le_of_ble_eq_true rfl) (by decide +kernel)) ?_
      refine j_EL (j_callV (av := [vI (fwo_n l2)]) (st := [vI l2, vR t]) hx hr (Or.inl q2085) q2087 qs88 rfl md_fma_base np_fma_base (cma_base t (fwo_n l2) W) (by decide) (Nat.le_of_ble_eq_true rfl) h16 (by decide) (by decide +kernel)) (fun z _ r h9 => j_upE hm hx (ht z) h9) (fun q50 _ => ?_)
      refine j_runA hx 1 (tb := [(363, .iload_n 2)]) (jtb_ok (by decide +kernel)) (pc' := 364) (lv' := [(4, vL v17), (3, vI s0), (0, vR t), (1, vI l1), (2, vI l2)]) (st' := [vI l2, vL q50.1, vI l2, vR t]) rfl ?_
      refine j_TI (j_callS (av := [vI l2]) (st := [vL q50.1, vI l2, vR t]) hx hr (Or.inl q2083) q1082 q247 md_fwo_twelve np_fwo_twelve (cwo_twelve l2 q50.2) (by decide) (Nat.le_of_ble_eq_true rfl) (by decide +kernel)) ?_
      refine j_runA hx 2 (tb := [(367, .i2l), (368, .iload_n 2)]) (jtb_ok (by decide +kernel)) (pc' := 369) (lv' := [(4, vL v17), (3, vI s0), (0, vR t), (1, vI l1), (2, vI l2)]) (st' := [vI l2, vL ((fwo_twelve l2).toInt64), vL q50.1, vI l2, vR t]) rfl ?_
      refine j_TI (j_callS (av := [vI l2]) (st := [vL ((fwo_twelve l2).toInt64), vL q50.1, vI l2, vR t]) hx hr (Or.inl q2160) q1092 q247 md_fwo_bytesOf np_fwo_bytesOf (cwo_bytesOf l2 q50.2) (by decide) (Nat.le_of_ble_eq_true rfl) (by decide +kernel)) ?_
      refine j_runA hx 3 (tb := [(372, .i2l), (373, .lmul), (374, .ladd)]) (jtb_ok (by decide +kernel)) (pc' := 375) (lv' := [(4, vL v17), (3, vI s0), (0, vR t), (1, vI l1), (2, vI l2)]) (st' := [vL (q50.1 + (((fwo_twelve l2).toInt64) * ((fwo_bytesOf l2).toInt64))), vI l2, vR t]) rfl ?_
      refine j_gd (fun h52 => ?_)
      refine j_EV (j_callV (av := [vI l2, vL (q50.1 + (((fwo_twelve l2).toInt64) * ((fwo_bytesOf l2).toInt64)))]) (st := []) hx hr (Or.inl q2161) q2163 qs103 rfl md_fma_access np_fma_access (cma_access t l2 (q50.1 + (((fwo_twelve l2).toInt64) * ((fwo_bytesOf l2).toInt64))) q50.2) (by decide) (Nat.le_of_ble_eq_true rfl) h52 (by decide) (by decide +kernel)) (fun z _ r h9 => j_upE hm hx (ht z) h9) (fun q53 _ => ?_)
      refine j_goto hx (off := 82) (by decide +kernel) (tgt := 460) (by decide) ?_
      refine j_lv (lv' := [(0, vR t), (4, vL v17)]) ⟨rfl, rfl, trivial⟩ ?_
      exact wma_step_460 h v17 q53
    refine j_tab hx (dflt := 325) (lo := 1) (hi := 21) (offs := #[100, 111, 119, 127, 135, 146, 213, 221, 229, 257, 307, 325, 325, 325, 325, 325, 325, 325, 325, 315, 322]) (len := 100) (k := 10) (off := 257) (tgt := 381) (by decide +kernel) (by decide) (by decide) (by decide) rfl (by decide) (fun _ => ?_) (fun h55 => ?_)
    · refine j_runA hx 2 (tb := [(381, .aload_n 0), (382, .iload_n 2)]) (jtb_ok (by decide +kernel)) (pc' := 383) (lv' := [(4, vL v17), (3, vI s0), (0, vR t), (1, vI l1), (2, vI l2)]) (st' := [vI l2, vR t]) rfl ?_
      refine j_TI (j_callS (av := [vI l2]) (st := [vR t]) hx hr (Or.inl q2111) q2112 q247 md_fwo_m np_fwo_m (cwo_m l2 W) (by decide) (Nat.le_of_ble_eq_true rfl) (by decide +kernel)) ?_
      refine j_EL (j_callV (av := [vI (fwo_m l2)]) (st := []) hx hr (Or.inl q2114) q2116 qs94 rfl md_fma_number np_fma_number (cma_number t (fwo_m l2) W) (by decide) (Nat.le_of_ble_eq_true rfl) h16 (by decide) (by decide +kernel)) (fun z _ r h9 => j_upE hm hx (ht z) h9) (fun q56 _ => ?_)
      refine j_runA hx 5 (tb := [(389, .lstore 10), (391, .aload_n 0), (392, .iload_n 2), (393, .aload_n 0), (394, .iload_n 2)]) (jtb_ok (by decide +kernel)) (pc' := 395) (lv' := [(10, vL q56.1), (4, vL v17), (3, vI s0), (0, vR t), (1, vI l1), (2, vI l2)]) (st' := [vI l2, vR t, vI l2, vR t]) rfl ?_
      refine j_TI (j_callS (av := [vI l2]) (st := [vR t, vI l2, vR t]) hx hr (Or.inl q2073) q998 q247 md_fwo_n np_fwo_n (cwo_n l2 q56.2) (by decide) (Nat.le_of_ble_eq_true rfl) (by decide +kernel)) ?_
      refine j_gd (fun h58 => ?_)
      refine j_EL (j_callV (av := [vI (fwo_n l2)]) (st := [vI l2, vR t]) hx hr (Or.inl q2085) q2087 qs88 rfl md_fma_base np_fma_base (cma_base t (fwo_n l2) q56.2) (by decide) (Nat.le_of_ble_eq_true rfl) h58 (by decide) (by decide +kernel)) (fun z _ r h9 => j_upE hm hx (ht z) h9) (fun q59 _ => ?_)
      refine j_runA hx 6 (tb := [(401, .iload_n 2), (402, .bipush 12), (404, .ishr), (405, .iconst 1), (406, .iand), (407, .iconst 1)]) (jtb_ok (by decide +kernel)) (pc' := 408) (lv' := [(10, vL q56.1), (4, vL v17), (3, vI s0), (0, vR t), (1, vI l1), (2, vI l2)]) (st' := [vI (kI 1), vI ((ixr l2 (kI 12)) &&& (kI 1)), vL q59.1, vI l2, vR t]) rfl ?_
      refine j_icmp_ne hx (off := 14) (tgt := 422) (by decide +kernel) (by decide) (fun _ => ?_) (fun _ => ?_)
      · refine j_runA hx 1 (tb := [(422, .lload 10)]) (jtb_ok (by decide +kernel)) (pc' := 424) (lv' := [(10, vL q56.1), (4, vL v17), (3, vI s0), (0, vR t), (1, vI l1), (2, vI l2)]) (st' := [vL q56.1, vL q59.1, vI l2, vR t]) rfl ?_
        refine j_lv (lv' := [(0, vR t), (4, vL v17)]) ⟨rfl, rfl, trivial⟩ ?_
        exact wma_step_424 h v17 q56.1 q59.1 l2 t q59.2
      refine j_runA hx 2 (tb := [(411, .lload 10), (413, .iload_n 2)]) (jtb_ok (by decide +kernel)) (pc' := 414) (lv' := [(10, vL q56.1), (4, vL v17), (3, vI s0), (0, vR t), (1, vI l1), (2, vI l2)]) (st' := [vI l2, vL q56.1, vL q59.1, vI l2, vR t]) rfl ?_
      refine j_TI (j_callS (av := [vI l2]) (st := [vL q56.1, vL q59.1, vI l2, vR t]) hx hr (Or.inl q2160) q1092 q247 md_fwo_bytesOf np_fwo_bytesOf (cwo_bytesOf l2 q59.2) (by decide) (Nat.le_of_ble_eq_true rfl) (by decide +kernel)) ?_
      refine j_runA hx 2 (tb := [(417, .i2l), (418, .lmul)]) (jtb_ok (by decide +kernel)) (pc' := 419) (lv' := [(10, vL q56.1), (4, vL v17), (3, vI s0), (0, vR t), (1, vI l1), (2, vI l2)]) (st' := [vL (q56.1 * ((fwo_bytesOf l2).toInt64)), vL q59.1, vI l2, vR t]) rfl ?_
      refine j_goto hx (off := 5) (by decide +kernel) (tgt := 424) (by decide) ?_
      refine j_lv (lv' := [(0, vR t), (4, vL v17)]) ⟨rfl, rfl, trivial⟩ ?_
      exact wma_step_424 h v17 (q56.1 * ((fwo_bytesOf l2).toInt64)) q59.1 l2 t q59.2
    refine j_tab hx (dflt := 325) (lo := 1) (hi := 21) (offs := #[100, 111, 119, 127, 135, 146, 213, 221, 229, 257, 307, 325, 325, 325, 325, 325, 325, 325, 325, 315, 322]) (len := 100) (k := 11) (off := 307) (tgt := 431) (by decide +kernel) (by decide) (by decide) (by decide) rfl (by decide) (fun _ => ?_) (fun h61 => ?_)
    · refine j_runA hx 2 (tb := [(431, .aload_n 0), (432, .iload_n 2)]) (jtb_ok (by decide +kernel)) (pc' := 433) (lv' := [(4, vL v17), (3, vI s0), (0, vR t), (1, vI l1), (2, vI l2)]) (st' := [vI l2, vR t]) rfl ?_
      refine j_EV (j_callV (av := [vI l2]) (st := []) hx hr (Or.inl q2229) q2231 qs112 rfl md_fma_pair np_fma_pair (cma_pair t l2 W) (by decide) (Nat.le_of_ble_eq_true rfl) h16 (by decide) (by decide +kernel)) (fun z _ r h9 => j_upE hm hx (ht z) h9) (fun q62 _ => ?_)
      refine j_goto hx (off := 24) (by decide +kernel) (tgt := 460) (by decide) ?_
      refine j_lv (lv' := [(0, vR t), (4, vL v17)]) ⟨rfl, rfl, trivial⟩ ?_
      exact wma_step_460 h v17 q62
    refine j_tab hx (dflt := 325) (lo := 1) (hi := 21) (offs := #[100, 111, 119, 127, 135, 146, 213, 221, 229, 257, 307, 325, 325, 325, 325, 325, 325, 325, 325, 315, 322]) (len := 100) (k := 20) (off := 315) (tgt := 439) (by decide +kernel) (by decide) (by decide) (by decide) rfl (by decide) (fun _ => ?_) (fun h64 => ?_)
    · refine j_runA hx 1 (tb := [(439, .aload_n 0)]) (jtb_ok (by decide +kernel)) (pc' := 440) (lv' := [(4, vL v17), (3, vI s0), (0, vR t), (1, vI l1), (2, vI l2)]) (st' := [vR t]) rfl ?_
      refine j_EV (j_callV (av := []) (st := []) hx hr (Or.inl q2233) q2235 qs113 rfl md_fma_host np_fma_host (cma_host t W) (by decide) (Nat.le_of_ble_eq_true rfl) h16 (by decide) (by decide +kernel)) (fun z _ r h9 => j_upE hm hx (ht z) h9) (fun q65 _ => ?_)
      refine j_goto hx (off := 17) (by decide +kernel) (tgt := 460) (by decide) ?_
      refine j_lv (lv' := [(0, vR t), (4, vL v17)]) ⟨rfl, rfl, trivial⟩ ?_
      exact wma_step_460 h v17 q65
    refine j_tab hx (dflt := 325) (lo := 1) (hi := 21) (offs := #[100, 111, 119, 127, 135, 146, 213, 221, 229, 257, 307, 325, 325, 325, 325, 325, 325, 325, 325, 315, 322]) (len := 100) (k := 21) (off := 322) (tgt := 446) (by decide +kernel) (by decide) (by decide) (by decide) rfl (by decide) (fun _ => ?_) (fun h67 => ?_)
    · refine j_goto hx (off := 14) (by decide +kernel) (tgt := 460) (by decide) ?_
      refine j_lv (lv' := [(0, vR t), (4, vL v17)]) ⟨rfl, rfl, trivial⟩ ?_
      exact wma_step_460 h v17 W
    refine j_tabD hx (dflt := 325) (lo := 1) (hi := 21) (offs := #[100, 111, 119, 127, 135, 146, 213, 221, 229, 257, 307, 325, 325, 325, 325, 325, 325, 325, 325, 315, 322]) (len := 100) (tgt := 449) (by decide +kernel) (by decide) (fun i hi => by
      match i, hi with
      | 0, _ => exact Or.inr h18
      | 1, _ => exact Or.inr h21
      | 2, _ => exact Or.inr h24
      | 3, _ => exact Or.inr h27
      | 4, _ => exact Or.inr h30
      | 5, _ => exact Or.inr h33
      | 6, _ => exact Or.inr h43
      | 7, _ => exact Or.inr h46
      | 8, _ => exact Or.inr h49
      | 9, _ => exact Or.inr h55
      | 10, _ => exact Or.inr h61
      | 11, _ => exact Or.inl rfl
      | 12, _ => exact Or.inl rfl
      | 13, _ => exact Or.inl rfl
      | 14, _ => exact Or.inl rfl
      | 15, _ => exact Or.inl rfl
      | 16, _ => exact Or.inl rfl
      | 17, _ => exact Or.inl rfl
      | 18, _ => exact Or.inl rfl
      | 19, _ => exact Or.inr h64
      | 20, _ => exact Or.inr h67
      | n + 21, h => exact absurd h (by omega)) ?_
    refine j_lv (lv' := [(0, vR t), (1, vI l1), (2, vI l2), (3, vI s0)]) ⟨rfl, rfl, rfl, rfl, trivial⟩ ?_
    exact wma_step_449 h l1 l2 s0 W
  refine j_runA hx 1 (tb := [(104, .aload_n 0)]) (jtb_ok (by decide +kernel)) (pc' := 105) (lv' := [(3, vI s0), (0, vR t), (1, vI l1), (2, vI l2)]) (st' := [vR t]) rfl ?_
  refine j_gd (fun h68 => ?_)
  refine j_getR hx flX15_12 kl1004 h68 (by decide) (by decide +kernel) ?_
  refine j_runA hx 1 (tb := [(108, .iconst 2)]) (jtb_ok (by decide +kernel)) (pc' := 109) (lv' := [(3, vI s0), (0, vR t), (1, vI l1), (2, vI l2)]) (st' := [vI (kI 2), vR (jR W 1004 t)]) rfl ?_
  refine j_gd (fun h69 => ?_)
  refine j_WR (j_callV (av := [vI (kI 2)]) (st := []) hx hr (Or.inl q2063) q2064 q2065 rfl md_fha_by np_fha_by (cha_by (jR W 1004 t) (kI 2) W) (by decide) (Nat.le_of_ble_eq_true rfl) h69 (by decide) (by decide +kernel)) (fun q70 _ => ?_)
  refine j_gd (fun h72 => ?_)
  exact j_athrow hx hm (by decide +kernel) h72 (ht _)
theorem wma_step_73 {x : jCx} {en : ((Nat × jW) ⊕ jW) → Option (Outcome × jW)} {t : Nat} (h : hma_step x en t) (l1 : Int32) (s0 : Int32) (W : jW) : jJ x 12 73 [(0, vR t), (1, vI l1)] [vI s0] W (fma_step_73 t l1 s0 W) en := by
  have h0 := h
  obtain ⟨hx, hm, hr, he, ht⟩ := h0
  unfold fma_step_73
  refine j_runA hx 2 (tb := [(73, .istore_n 2), (74, .aload_n 0)]) (jtb_ok (by decide +kernel)) (pc' := 75) (lv' := [(2, vI s0), (0, vR t), (1, vI l1)]) (st' := [vR t]) rfl ?_
  refine j_gd (fun h11 => ?_)
  refine j_OI (j_callV (av := []) (st := []) hx hr (Or.inl q1978) q1980 qs72 rfl md_fma_isNew np_fma_isNew (cma_isNew t W) (by decide) (Nat.le_of_ble_eq_true rfl) h11 (by decide) (by decide +kernel)) (fun q12 _ => ?_)
  refine j_if_eq hx (off := 10) (tgt := 88) (by decide +kernel) (by decide) (fun _ => ?_) (fun _ => ?_)
  · refine j_runA hx 1 (tb := [(88, .aload_n 0)]) (jtb_ok (by decide +kernel)) (pc' := 89) (lv' := [(2, vI s0), (0, vR t), (1, vI l1)]) (st' := [vR t]) rfl ?_
    refine j_getR hx flX15_43 kl1001 h11 (by decide) (by decide +kernel) ?_
    refine j_gd (fun h13 => ?_)
    refine j_getR hx flX15_274 kl205 h13 (by decide) (by decide +kernel) ?_
    refine j_runA hx 2 (tb := [(95, .iload_n 1), (96, .iconst 4)]) (jtb_ok (by decide +kernel)) (pc' := 97) (lv' := [(2, vI s0), (0, vR t), (1, vI l1)]) (st' := [vI (kI 4), vI l1, vR (jR W 205 (jR W 1001 t))]) rfl ?_
    refine j_idiv hx (by decide +kernel) (by decide +kernel) ?_
    refine j_gd (fun h14 => ?_)
    refine j_iald hx (f := 205) (o := (jR W 1001 t)) kd205 rfl (by decide +kernel) h14 ?_
    refine j_lv (lv' := [(0, vR t), (1, vI l1), (2, vI s0)]) ⟨rfl, rfl, rfl, trivial⟩ ?_
    exact wma_step_99 h l1 s0 (jA W 205 (jR W 1001 t) (ix (l1 / (kI 4)))) W
  refine j_runA hx 1 (tb := [(81, .iload_n 2)]) (jtb_ok (by decide +kernel)) (pc' := 82) (lv' := [(2, vI s0), (0, vR t), (1, vI l1)]) (st' := [vI s0]) rfl ?_
  refine j_TI (j_callS (av := [vI s0]) (st := []) hx hr (Or.inl q2068) q948 q247 md_fwo_kindOf np_fwo_kindOf (cwo_kindOf s0 W) (by decide) (Nat.le_of_ble_eq_true rfl) (by decide +kernel)) ?_
  refine j_goto hx (off := 14) (by decide +kernel) (tgt := 99) (by decide) ?_
  refine j_lv (lv' := [(0, vR t), (1, vI l1), (2, vI s0)]) ⟨rfl, rfl, rfl, trivial⟩ ?_
  exact wma_step_99 h l1 s0 (fwo_kindOf s0) W
theorem wma_step {x : jCx} {en : ((Nat × jW) ⊕ jW) → Option (Outcome × jW)} {t : Nat} (h : hma_step x en t) (W : jW) : jJ x 12 0 [(0, vR t)] [] W (fma_step t W) en := by
  have h0 := h
  obtain ⟨hx, hm, hr, he, ht⟩ := h0
  unfold fma_step
  refine j_runA hx 2 (tb := [(0, .aload_n 0), (1, .aload_n 0)]) (jtb_ok (by decide +kernel)) (pc' := 2) (lv' := [(0, vR t)]) (st' := [vR t, vR t]) rfl ?_
  refine j_gd (fun h1 => ?_)
  refine j_getL hx flX15_134 kd1014 h1 (by decide) (by decide +kernel) ?_
  refine j_OI (j_callV (av := [vL (jL W 1014 t)]) (st := []) hx hr (Or.inl q2059) q2061 qs84 rfl md_fma_isText np_fma_isText (cma_isText t (jL W 1014 t) W) (by decide) (Nat.le_of_ble_eq_true rfl) h1 (by decide) (by decide +kernel)) (fun q2 _ => ?_)
  refine j_if_eq hx (off := 16) (tgt := 24) (by decide +kernel) (by decide) (fun _ => ?_) (fun _ => ?_)
  · exact wma_step_24 h W
  refine j_runA hx 1 (tb := [(11, .aload_n 0)]) (jtb_ok (by decide +kernel)) (pc' := 12) (lv' := [(0, vR t)]) (st' := [vR t]) rfl ?_
  refine j_getL hx flX15_134 kd1014 h1 (by decide) (by decide +kernel) ?_
  refine j_ldc2 hx (v := (kJ 4)) (jkd2 q2049 (by decide +kernel)) (by decide +kernel) ?_
  refine j_lrem hx (by decide +kernel) (by decide +kernel) ?_
  refine j_runA hx 1 (tb := [(19, .lconst 0)]) (jtb_ok (by decide +kernel)) (pc' := 20) (lv' := [(0, vR t)]) (st' := [vL (kJ 0), vL (lrm (jL W 1014 t) (kJ 4))]) rfl ?_
  refine j_lcmp_eq hx (off := 12) (tgt := 33) (by decide +kernel) (by decide +kernel) (by decide) (fun _ => ?_) (fun _ => ?_)
  · refine j_runA hx 1 (tb := [(33, .aload_n 0)]) (jtb_ok (by decide +kernel)) (pc' := 34) (lv' := [(0, vR t)]) (st' := [vR t]) rfl ?_
    refine j_getL hx flX15_134 kd1014 h1 (by decide) (by decide +kernel) ?_
    refine j_runA hx 1 (tb := [(37, .aload_n 0)]) (jtb_ok (by decide +kernel)) (pc' := 38) (lv' := [(0, vR t)]) (st' := [vR t, vL (jL W 1014 t)]) rfl ?_
    refine j_OL (j_callV (av := []) (st := [vL (jL W 1014 t)]) hx hr (Or.inl q2039) q2041 qs80 rfl md_fma_begin np_fma_begin (cma_begin t W) (by decide) (Nat.le_of_ble_eq_true rfl) h1 (by decide) (by decide +kernel)) (fun q3 _ => ?_)
    refine j_runA hx 3 (tb := [(41, .lsub), (42, .l2i), (43, .istore_n 1)]) (jtb_ok (by decide +kernel)) (pc' := 44) (lv' := [(1, vI (((jL W 1014 t) - q3).toInt32)), (0, vR t)]) (st' := []) rfl ?_
    refine j_let (v := ((jL W 1014 t) - q3).toInt32) (lv := fun v4 => [(1, vI v4), (0, vR t)]) (st := fun _ => []) (fun v4 => ?_)
    refine j_runA hx 1 (tb := [(44, .aload_n 0)]) (jtb_ok (by decide +kernel)) (pc' := 45) (lv' := [(1, vI v4), (0, vR t)]) (st' := [vR t]) rfl ?_
    refine j_OI (j_callV (av := []) (st := []) hx hr (Or.inl q1978) q1980 qs72 rfl md_fma_isNew np_fma_isNew (cma_isNew t W) (by decide) (Nat.le_of_ble_eq_true rfl) h1 (by decide) (by decide +kernel)) (fun q5 _ => ?_)
    refine j_if_eq hx (off := 14) (tgt := 62) (by decide +kernel) (by decide) (fun _ => ?_) (fun _ => ?_)
    · refine j_runA hx 1 (tb := [(62, .aload_n 0)]) (jtb_ok (by decide +kernel)) (pc' := 63) (lv' := [(1, vI v4), (0, vR t)]) (st' := [vR t]) rfl ?_
      refine j_getR hx flX15_43 kl1001 h1 (by decide) (by decide +kernel) ?_
      refine j_gd (fun h6 => ?_)
      refine j_getR hx flX15_266 kl204 h6 (by decide) (by decide +kernel) ?_
      refine j_runA hx 2 (tb := [(69, .iload_n 1), (70, .iconst 4)]) (jtb_ok (by decide +kernel)) (pc' := 71) (lv' := [(1, vI v4), (0, vR t)]) (st' := [vI (kI 4), vI v4, vR (jR W 204 (jR W 1001 t))]) rfl ?_
      refine j_idiv hx (by decide +kernel) (by decide +kernel) ?_
      refine j_gd (fun h7 => ?_)
      refine j_iald hx (f := 204) (o := (jR W 1001 t)) kd204 rfl (by decide +kernel) h7 ?_
      refine j_lv (lv' := [(0, vR t), (1, vI v4)]) ⟨rfl, rfl, trivial⟩ ?_
      exact wma_step_73 h v4 (jA W 204 (jR W 1001 t) (ix (v4 / (kI 4)))) W
    refine j_runA hx 1 (tb := [(51, .aload_n 0)]) (jtb_ok (by decide +kernel)) (pc' := 52) (lv' := [(1, vI v4), (0, vR t)]) (st' := [vR t]) rfl ?_
    refine j_getR hx flX15_47 kl1002 h1 (by decide) (by decide +kernel) ?_
    refine j_runA hx 1 (tb := [(55, .iload_n 1)]) (jtb_ok (by decide +kernel)) (pc' := 56) (lv' := [(1, vI v4), (0, vR t)]) (st' := [vI v4, vR (jR W 1002 t)]) rfl ?_
    refine j_gd (fun h8 => ?_)
    refine j_OI (j_callV (av := [vI v4]) (st := []) hx hr (Or.inl q2067) q797 q798 rfl md_fwr_wordAt np_fwr_wordAt (cwr_wordAt (jR W 1002 t) v4 W) (by decide) (Nat.le_of_ble_eq_true rfl) h8 (by decide) (by decide +kernel)) (fun q9 _ => ?_)
    refine j_goto hx (off := 14) (by decide +kernel) (tgt := 73) (by decide) ?_
    refine j_lv (lv' := [(0, vR t), (1, vI v4)]) ⟨rfl, rfl, trivial⟩ ?_
    exact wma_step_73 h v4 q9 W
  exact wma_step_24 h W
theorem cma_step (t : Nat) (W : jW) : jM yX15_step cX15_step 12 (Option.none : Option Jvm.ClassFile.FieldType) [] 10 146 [vR t] W ((fma_step t W).bind (fun q => some (Sum.elim (fun z => (.threw (z.1 - 1), z.2)) (fun q => (.returned none, q)) q))) := 
  jM.of (Nat.le_of_ble_eq_true rfl) (fun x hx hm hr => wma_step ⟨hx, hm, hr, fun _ => rfl, fun _ => rfl⟩ W)
def hma_run (x : jCx) (en : (fma_run_S ⊕ (Int32 × jW)) → Option (Outcome × jW)) (t : Nat) (a1 : Int32) (a2 : Int32) : Prop :=
  jOK x RX15 cX15_run 6 ∧
  jMt x "run" (Option.some Jvm.ClassFile.FieldType.int) [(186, 277, 280, 151)] ∧
  jRm x 11 169 ∧
  (∀ q : Int32 × jW, en (.inr q) = some (.returned (some (.int q.1)), q.2)) ∧
  (∀ (l3 : Int32) (W : jW), jJ x 6 40 [(0, vR t), (1, vI a1), (2, vI a2), (3, vI l3)] [] W (some (.inl (.inl (l3, W)))) en) ∧
  (∀ (l4 : Int32) (W : jW), jJ x 6 186 [(0, vR t), (1, vI a1), (2, vI a2), (4, vI l4)] [] W (some (.inl (.inr (l4, W)))) en)
theorem wma_run_274 {x : jCx} {en : (fma_run_S ⊕ (Int32 × jW)) → Option (Outcome × jW)} {t : Nat} {a1 : Int32} {a2 : Int32} (h : hma_run x en t a1 a2) (l4 : Int32) (W : jW) : jJ x 6 274 [(0, vR t), (1, vI a1), (2, vI a2), (4, vI l4)] [] W (fma_run_274 t a1 a2 l4 W) en := by
  have h0 := h
  obtain ⟨hx, hm, hr, he, k40, k186⟩ := h0
  unfold fma_run_274
  refine j_goto hx (off := -88) (by decide +kernel) (tgt := 186) (by decide) ?_
  exact k186 l4 W
theorem wma_run_293 {x : jCx} {en : (fma_run_S ⊕ (Int32 × jW)) → Option (Outcome × jW)} {t : Nat} {a1 : Int32} {a2 : Int32} (h : hma_run x en t a1 a2) (W : jW) : jJ x 6 293 [(0, vR t), (1, vI a1), (2, vI a2)] [] W (fma_run_293 t a1 a2 W) en := by
  have h0 := h
  obtain ⟨hx, hm, hr, he, k40, k186⟩ := h0
  unfold fma_run_293
  refine j_runA hx 1 (tb := [(293, .aload_n 0)]) (jtb_ok (by decide +kernel)) (pc' := 294) (lv' := [(0, vR t), (1, vI a1), (2, vI a2)]) (st' := [vR t]) rfl ?_
  refine j_gd (fun h128 => ?_)
  refine j_getI hx flX15_137 kd1019 h128 (by decide) (by decide +kernel) ?_
  exact j_iret hx hm (by decide +kernel) rfl (he _)
theorem wma_run_280 {x : jCx} {en : (fma_run_S ⊕ (Int32 × jW)) → Option (Outcome × jW)} {t : Nat} {a1 : Int32} {a2 : Int32} (h : hma_run x en t a1 a2) (s0 : Nat) (W : jW) : jJ x 6 280 [(0, vR t), (1, vI a1), (2, vI a2)] [vR s0] W (fma_run_280 t a1 a2 s0 W) en := by
  have h0 := h
  obtain ⟨hx, hm, hr, he, k40, k186⟩ := h0
  unfold fma_run_280
  refine j_runA hx 3 (tb := [(280, .astore 5), (282, .aload_n 0), (283, .aload_n 0)]) (jtb_ok (by decide +kernel)) (pc' := 284) (lv' := [(5, vR s0), (0, vR t), (1, vI a1), (2, vI a2)]) (st' := [vR t, vR t]) rfl ?_
  refine j_gd (fun h119 => ?_)
  refine j_getR hx flX15_12 kl1004 h119 (by decide) (by decide +kernel) ?_
  refine j_gd (fun h120 => ?_)
  refine j_getI hx flX15_153 kd1100 h120 (by decide) (by decide +kernel) ?_
  refine j_putI hx fwX15_137 wf1019 kd1019 h119 (by decide) (by decide +kernel) (ni1019 _) (fi1019 _) ?_
  refine j_ltw rfl (fun W121 hc122 => ?_)
  have h123 : jC W121 t = 10 := (congrFun hc122 _).trans h119
  have h124 : jC W121 (jR W 1004 t) = 11 := (congrFun hc122 _).trans h120
  refine j_lv (lv' := [(0, vR t), (1, vI a1), (2, vI a2)]) ⟨rfl, rfl, rfl, trivial⟩ ?_
  exact wma_run_293 h W121
theorem wma_run_263 {x : jCx} {en : (fma_run_S ⊕ (Int32 × jW)) → Option (Outcome × jW)} {t : Nat} {a1 : Int32} {a2 : Int32} (h : hma_run x en t a1 a2) (l4 : Int32) (W : jW) : jJ x 6 263 [(0, vR t), (1, vI a1), (2, vI a2), (4, vI l4)] [] W (fma_run_263 t a1 a2 l4 W) en := by
  have h0 := h
  obtain ⟨hx, hm, hr, he, k40, k186⟩ := h0
  unfold fma_run_263
  refine j_runA hx 1 (tb := [(263, .aload_n 0)]) (jtb_ok (by decide +kernel)) (pc' := 264) (lv' := [(0, vR t), (1, vI a1), (2, vI a2), (4, vI l4)]) (st' := [vR t]) rfl ?_
  refine j_gd (fun h114 => ?_)
  refine j_getI hx flX15_137 kd1019 h114 (by decide) (by decide +kernel) ?_
  refine j_if_ge hx (off := 7) (tgt := 274) (by decide +kernel) (by decide) (fun _ => ?_) (fun _ => ?_)
  · exact wma_run_274 h l4 W
  refine j_runA hx 1 (tb := [(270, .aload_n 0)]) (jtb_ok (by decide +kernel)) (pc' := 271) (lv' := [(0, vR t), (1, vI a1), (2, vI a2), (4, vI l4)]) (st' := [vR t]) rfl ?_
  refine j_EV (j_callV (av := []) (st := []) hx hr (Or.inl q2055) q2057 qs83 rfl md_fma_step np_fma_step (cma_step t W) (by decide) (Nat.le_of_ble_eq_true rfl) h114 (by decide) (by decide +kernel)) (fun z _ => j_catch hx hm q1977 rfl (by decide) (by decide) (fun _ => ?_)) (fun q115 _ => ?_)
  · refine j_lv (lv' := [(0, vR t), (1, vI a1), (2, vI a2)]) ⟨rfl, rfl, rfl, trivial⟩ ?_
    exact wma_run_280 h z.1 z.2
  exact wma_run_274 h l4 q115
theorem wma_run_234 {x : jCx} {en : (fma_run_S ⊕ (Int32 × jW)) → Option (Outcome × jW)} {t : Nat} {a1 : Int32} {a2 : Int32} (h : hma_run x en t a1 a2) (l4 : Int32) (W : jW) : jJ x 6 234 [(0, vR t), (1, vI a1), (2, vI a2), (4, vI l4)] [] W (fma_run_234 t a1 a2 l4 W) en := by
  have h0 := h
  obtain ⟨hx, hm, hr, he, k40, k186⟩ := h0
  unfold fma_run_234
  refine j_runA hx 2 (tb := [(234, .aload_n 0), (235, .iconst 0)]) (jtb_ok (by decide +kernel)) (pc' := 236) (lv' := [(0, vR t), (1, vI a1), (2, vI a2), (4, vI l4)]) (st' := [vI (kI 0), vR t]) rfl ?_
  refine j_gd (fun h108 => ?_)
  refine j_putI hx fwX15_137 wf1019 kd1019 h108 (by decide) (by decide +kernel) (ni1019 _) (fi1019 _) ?_
  refine j_ltw rfl (fun W109 hc110 => ?_)
  have h111 : jC W109 t = 10 := (congrFun hc110 _).trans h108
  refine j_goto hx (off := 24) (by decide +kernel) (tgt := 263) (by decide) ?_
  exact wma_run_263 h l4 W109
theorem wma_run_186 {x : jCx} {en : (fma_run_S ⊕ (Int32 × jW)) → Option (Outcome × jW)} {t : Nat} {a1 : Int32} {a2 : Int32} (h : hma_run x en t a1 a2) (l4 : Int32) (W : jW) : jJ x 6 186 [(0, vR t), (1, vI a1), (2, vI a2), (4, vI l4)] [] W (fma_run_186 t a1 a2 l4 W) en := by
  have h0 := h
  obtain ⟨hx, hm, hr, he, k40, k186⟩ := h0
  unfold fma_run_186
  refine j_runA hx 1 (tb := [(186, .aload_n 0)]) (jtb_ok (by decide +kernel)) (pc' := 187) (lv' := [(0, vR t), (1, vI a1), (2, vI a2), (4, vI l4)]) (st' := [vR t]) rfl ?_
  refine j_gd (fun h91 => ?_)
  refine j_getI hx flX15_137 kd1019 h91 (by decide) (by decide +kernel) ?_
  refine j_if_ge hx (off := 87) (tgt := 277) (by decide +kernel) (by decide) (fun _ => ?_) (fun _ => ?_)
  · refine j_goto hx (off := 16) (by decide +kernel) (tgt := 293) (by decide) ?_
    refine j_lv (lv' := [(0, vR t), (1, vI a1), (2, vI a2)]) ⟨rfl, rfl, rfl, trivial⟩ ?_
    exact wma_run_293 h W
  refine j_runA hx 1 (tb := [(193, .aload_n 0)]) (jtb_ok (by decide +kernel)) (pc' := 194) (lv' := [(0, vR t), (1, vI a1), (2, vI a2), (4, vI l4)]) (st' := [vR t]) rfl ?_
  refine j_OI (j_callV (av := []) (st := []) hx hr (Or.inl q2031) q2033 qs78 rfl md_fma_blockHere np_fma_blockHere (cma_blockHere t W) (by decide) (Nat.le_of_ble_eq_true rfl) h91 (by decide) (by decide +kernel)) (fun q92 _ => ?_)
  refine j_runA hx 2 (tb := [(197, .istore 5), (199, .iload 5)]) (jtb_ok (by decide +kernel)) (pc' := 201) (lv' := [(5, vI q92), (0, vR t), (1, vI a1), (2, vI a2), (4, vI l4)]) (st' := [vI q92]) rfl ?_
  refine j_if_lt hx (off := 62) (tgt := 263) (by decide +kernel) (by decide) (fun _ => ?_) (fun _ => ?_)
  · refine j_lv (lv' := [(0, vR t), (1, vI a1), (2, vI a2), (4, vI l4)]) ⟨rfl, rfl, rfl, rfl, trivial⟩ ?_
    exact wma_run_263 h l4 W
  refine j_runA hx 2 (tb := [(204, .iload 4), (206, .aload_n 0)]) (jtb_ok (by decide +kernel)) (pc' := 207) (lv' := [(5, vI q92), (0, vR t), (1, vI a1), (2, vI a2), (4, vI l4)]) (st' := [vR t, vI l4]) rfl ?_
  refine j_getR hx flX15_43 kl1001 h91 (by decide) (by decide +kernel) ?_
  refine j_runA hx 1 (tb := [(210, .iload 5)]) (jtb_ok (by decide +kernel)) (pc' := 212) (lv' := [(5, vI q92), (0, vR t), (1, vI a1), (2, vI a2), (4, vI l4)]) (st' := [vI q92, vR (jR W 1001 t), vI l4]) rfl ?_
  refine j_gd (fun h93 => ?_)
  refine j_OI (j_callV (av := [vI q92]) (st := [vI l4]) hx hr (Or.inl q2054) q1133 q1134 rfl md_fpg_wordsOf np_fpg_wordsOf (cpg_wordsOf (jR W 1001 t) q92 W) (by decide) (Nat.le_of_ble_eq_true rfl) h93 (by decide) (by decide +kernel)) (fun q94 _ => ?_)
  refine j_runA hx 2 (tb := [(215, .iadd), (216, .istore 4)]) (jtb_ok (by decide +kernel)) (pc' := 218) (lv' := [(4, vI (l4 + q94)), (5, vI q92), (0, vR t), (1, vI a1), (2, vI a2)]) (st' := []) rfl ?_
  refine j_let (v := (l4 + q94)) (lv := fun v95 => [(4, vI v95), (5, vI q92), (0, vR t), (1, vI a1), (2, vI a2)]) (st := fun _ => []) (fun v95 => ?_)
  refine j_runA hx 1 (tb := [(218, .aload_n 0)]) (jtb_ok (by decide +kernel)) (pc' := 219) (lv' := [(4, vI v95), (5, vI q92), (0, vR t), (1, vI a1), (2, vI a2)]) (st' := [vR t]) rfl ?_
  refine j_getI hx flX15_99 kd1015 h91 (by decide) (by decide +kernel) ?_
  refine j_runA hx 1 (tb := [(222, .iload_n 1)]) (jtb_ok (by decide +kernel)) (pc' := 223) (lv' := [(4, vI v95), (5, vI q92), (0, vR t), (1, vI a1), (2, vI a2)]) (st' := [vI a1, vI (jI W 1015 t)]) rfl ?_
  refine j_icmp_eq hx (off := 11) (tgt := 234) (by decide +kernel) (by decide) (fun _ => ?_) (fun _ => ?_)
  · refine j_lv (lv' := [(0, vR t), (1, vI a1), (2, vI a2), (4, vI v95)]) ⟨rfl, rfl, rfl, rfl, trivial⟩ ?_
    exact wma_run_234 h v95 W
  refine j_runA hx 2 (tb := [(226, .iload 4), (228, .sipush 20000)]) (jtb_ok (by decide +kernel)) (pc' := 231) (lv' := [(4, vI v95), (5, vI q92), (0, vR t), (1, vI a1), (2, vI a2)]) (st' := [vI (kI 20000), vI v95]) rfl ?_
  refine j_icmp_le hx (off := 11) (tgt := 242) (by decide +kernel) (by decide) (fun _ => ?_) (fun _ => ?_)
  · refine j_runA hx 1 (tb := [(242, .aload_n 0)]) (jtb_ok (by decide +kernel)) (pc' := 243) (lv' := [(4, vI v95), (5, vI q92), (0, vR t), (1, vI a1), (2, vI a2)]) (st' := [vR t]) rfl ?_
    refine j_getR hx flX15_29 kl1020 h91 (by decide) (by decide +kernel) ?_
    refine j_runA hx 1 (tb := [(246, .aload_n 0)]) (jtb_ok (by decide +kernel)) (pc' := 247) (lv' := [(4, vI v95), (5, vI q92), (0, vR t), (1, vI a1), (2, vI a2)]) (st' := [vR t, vR (jR W 1020 t)]) rfl ?_
    refine j_getI hx flX15_99 kd1015 h91 (by decide) (by decide +kernel) ?_
    refine j_runA hx 1 (tb := [(250, .iload 5)]) (jtb_ok (by decide +kernel)) (pc' := 252) (lv' := [(4, vI v95), (5, vI q92), (0, vR t), (1, vI a1), (2, vI a2)]) (st' := [vI q92, vI (jI W 1015 t), vR (jR W 1020 t)]) rfl ?_
    refine j_gd (fun h96 => ?_)
    refine j_iast hx (f := 1020) (o := t) kd1020 rfl (by decide +kernel) h96 ?_
    refine j_ltw rfl (fun W97 hc98 => ?_)
    have h99 : jC W97 t = 10 := (congrFun hc98 _).trans h91
    have h100 : jC W97 (jR W 1001 t) = 2 := (congrFun hc98 _).trans h93
    refine j_runA hx 2 (tb := [(253, .aload_n 0), (254, .dup)]) (jtb_ok (by decide +kernel)) (pc' := 255) (lv' := [(4, vI v95), (5, vI q92), (0, vR t), (1, vI a1), (2, vI a2)]) (st' := [vR t, vR t]) rfl ?_
    refine j_getI hx flX15_99 kd1015 h99 (by decide) (by decide +kernel) ?_
    refine j_runA hx 2 (tb := [(258, .iconst 1), (259, .iadd)]) (jtb_ok (by decide +kernel)) (pc' := 260) (lv' := [(4, vI v95), (5, vI q92), (0, vR t), (1, vI a1), (2, vI a2)]) (st' := [vI ((jI W97 1015 t) + (kI 1)), vR t]) rfl ?_
    refine j_putI hx fwX15_99 wf1015 kd1015 h99 (by decide) (by decide +kernel) (ni1015 _) (fi1015 _) ?_
    refine j_ltw rfl (fun W102 hc103 => ?_)
    have h104 : jC W102 t = 10 := (congrFun hc103 _).trans h99
    have h105 : jC W102 (jR W 1001 t) = 2 := (congrFun hc103 _).trans h100
    refine j_lv (lv' := [(0, vR t), (1, vI a1), (2, vI a2), (4, vI v95)]) ⟨rfl, rfl, rfl, rfl, trivial⟩ ?_
    exact wma_run_263 h v95 W102
  refine j_lv (lv' := [(0, vR t), (1, vI a1), (2, vI a2), (4, vI v95)]) ⟨rfl, rfl, rfl, rfl, trivial⟩ ?_
  exact wma_run_234 h v95 W
theorem wma_run_175 {x : jCx} {en : (fma_run_S ⊕ (Int32 × jW)) → Option (Outcome × jW)} {t : Nat} {a1 : Int32} {a2 : Int32} (h : hma_run x en t a1 a2) (s0 : Int64) (s1 : Nat) (W : jW) : jJ x 6 175 [(0, vR t), (1, vI a1), (2, vI a2)] [vL s0, vR s1] W (fma_run_175 t a1 a2 s0 s1 W) en := by
  have h0 := h
  obtain ⟨hx, hm, hr, he, k40, k186⟩ := h0
  unfold fma_run_175
  refine j_gd (fun h79 => ?_)
  refine j_putL hx fwX15_134 wf1014 kd1014 h79 (by decide) (by decide +kernel) (nl1014 _) (ff1014 _) ?_
  refine j_ltw rfl (fun W80 hc81 => ?_)
  have h82 : jC W80 s1 = 10 := (congrFun hc81 _).trans h79
  refine j_runA hx 2 (tb := [(178, .aload_n 0), (179, .iconst (-1))]) (jtb_ok (by decide +kernel)) (pc' := 180) (lv' := [(0, vR t), (1, vI a1), (2, vI a2)]) (st' := [vI (kI (-1)), vR t]) rfl ?_
  refine j_gd (fun h84 => ?_)
  refine j_putI hx fwX15_137 wf1019 kd1019 h84 (by decide) (by decide +kernel) (ni1019 _) (fi1019 _) ?_
  refine j_ltw rfl (fun W85 hc86 => ?_)
  have h87 : jC W85 s1 = 10 := (congrFun hc86 _).trans h82
  have h88 : jC W85 t = 10 := (congrFun hc86 _).trans h84
  refine j_runA hx 2 (tb := [(183, .iconst 0), (184, .istore 4)]) (jtb_ok (by decide +kernel)) (pc' := 186) (lv' := [(4, vI (kI 0)), (0, vR t), (1, vI a1), (2, vI a2)]) (st' := []) rfl ?_
  refine j_lv (lv' := [(0, vR t), (1, vI a1), (2, vI a2), (4, vI (kI 0))]) ⟨rfl, rfl, rfl, rfl, trivial⟩ ?_
  exact k186 (kI 0) W85
theorem wma_run_128 {x : jCx} {en : (fma_run_S ⊕ (Int32 × jW)) → Option (Outcome × jW)} {t : Nat} {a1 : Int32} {a2 : Int32} (h : hma_run x en t a1 a2) (W : jW) : jJ x 6 128 [(0, vR t), (1, vI a1), (2, vI a2)] [] W (fma_run_128 t a1 a2 W) en := by
  have h0 := h
  obtain ⟨hx, hm, hr, he, k40, k186⟩ := h0
  unfold fma_run_128
  refine j_runA hx 1 (tb := [(128, .aload_n 0)]) (jtb_ok (by decide +kernel)) (pc' := 129) (lv' := [(0, vR t), (1, vI a1), (2, vI a2)]) (st' := [vR t]) rfl ?_
  refine j_gd (fun h71 => ?_)
  refine j_getR hx flX15_43 kl1001 h71 (by decide) (by decide +kernel) ?_
  refine j_runA hx 1 (tb := [(132, .aload_n 0)]) (jtb_ok (by decide +kernel)) (pc' := 133) (lv' := [(0, vR t), (1, vI a1), (2, vI a2)]) (st' := [vR t, vR (jR W 1001 t)]) rfl ?_
  refine j_getR hx flX15_43 kl1001 h71 (by decide) (by decide +kernel) ?_
  refine j_gd (fun h72 => ?_)
  refine j_getR hx flX15_114 kl201 h72 (by decide) (by decide +kernel) ?_
  refine j_gd (fun h73 => ?_)
  refine j_getL hx flX15_118 kd404 h73 (by decide) (by decide +kernel) ?_
  refine j_OI (j_callV (av := [vL (jL W 404 (jR W 201 (jR W 1001 t)))]) (st := []) hx hr (Or.inl q2029) q1036 q1037 rfl md_fpg_wordAt np_fpg_wordAt (cpg_wordAt (jR W 1001 t) (jL W 404 (jR W 201 (jR W 1001 t))) W) (by decide) (Nat.le_of_ble_eq_true rfl) h72 (by decide) (by decide +kernel)) (fun q74 _ => ?_)
  refine j_runA hx 3 (tb := [(145, .istore_n 3), (146, .aload_n 0), (147, .aload_n 0)]) (jtb_ok (by decide +kernel)) (pc' := 148) (lv' := [(3, vI q74), (0, vR t), (1, vI a1), (2, vI a2)]) (st' := [vR t, vR t]) rfl ?_
  refine j_OI (j_callV (av := []) (st := [vR t]) hx hr (Or.inl q1978) q1980 qs72 rfl md_fma_isNew np_fma_isNew (cma_isNew t W) (by decide) (Nat.le_of_ble_eq_true rfl) h71 (by decide) (by decide +kernel)) (fun q75 _ => ?_)
  refine j_if_eq hx (off := 14) (tgt := 165) (by decide +kernel) (by decide) (fun _ => ?_) (fun _ => ?_)
  · refine j_runA hx 1 (tb := [(165, .aload_n 0)]) (jtb_ok (by decide +kernel)) (pc' := 166) (lv' := [(3, vI q74), (0, vR t), (1, vI a1), (2, vI a2)]) (st' := [vR t, vR t]) rfl ?_
    refine j_getR hx flX15_43 kl1001 h71 (by decide) (by decide +kernel) ?_
    refine j_getR hx flX15_114 kl201 h72 (by decide) (by decide +kernel) ?_
    refine j_getL hx flX15_118 kd404 h73 (by decide) (by decide +kernel) ?_
    refine j_lv (lv' := [(0, vR t), (1, vI a1), (2, vI a2)]) ⟨rfl, rfl, rfl, trivial⟩ ?_
    exact wma_run_175 h (jL W 404 (jR W 201 (jR W 1001 t))) t W
  refine j_runA hx 1 (tb := [(154, .aload_n 0)]) (jtb_ok (by decide +kernel)) (pc' := 155) (lv' := [(3, vI q74), (0, vR t), (1, vI a1), (2, vI a2)]) (st' := [vR t, vR t]) rfl ?_
  refine j_getR hx flX15_47 kl1002 h71 (by decide) (by decide +kernel) ?_
  refine j_runA hx 1 (tb := [(158, .iload_n 3)]) (jtb_ok (by decide +kernel)) (pc' := 159) (lv' := [(3, vI q74), (0, vR t), (1, vI a1), (2, vI a2)]) (st' := [vI q74, vR (jR W 1002 t), vR t]) rfl ?_
  refine j_gd (fun h76 => ?_)
  refine j_OL (j_callV (av := [vI q74]) (st := [vR t]) hx hr (Or.inl q2030) q1839 q1840 rfl md_fwr_movedWord np_fwr_movedWord (cwr_movedWord (jR W 1002 t) q74 W) (by decide) (Nat.le_of_ble_eq_true rfl) h76 (by decide) (by decide +kernel)) (fun q77 _ => ?_)
  refine j_goto hx (off := 13) (by decide +kernel) (tgt := 175) (by decide) ?_
  refine j_lv (lv' := [(0, vR t), (1, vI a1), (2, vI a2)]) ⟨rfl, rfl, rfl, trivial⟩ ?_
  exact wma_run_175 h q77 t W
theorem wma_run_40 {x : jCx} {en : (fma_run_S ⊕ (Int32 × jW)) → Option (Outcome × jW)} {t : Nat} {a1 : Int32} {a2 : Int32} (h : hma_run x en t a1 a2) (l3 : Int32) (W : jW) : jJ x 6 40 [(0, vR t), (1, vI a1), (2, vI a2), (3, vI l3)] [] W (fma_run_40 t a1 a2 l3 W) en := by
  have h0 := h
  obtain ⟨hx, hm, hr, he, k40, k186⟩ := h0
  unfold fma_run_40
  refine j_runA hx 2 (tb := [(40, .iload_n 3), (41, .bipush 32)]) (jtb_ok (by decide +kernel)) (pc' := 43) (lv' := [(0, vR t), (1, vI a1), (2, vI a2), (3, vI l3)]) (st' := [vI (kI 32), vI l3]) rfl ?_
  refine j_icmp_ge hx (off := 23) (tgt := 66) (by decide +kernel) (by decide) (fun _ => ?_) (fun _ => ?_)
  · refine j_runA hx 1 (tb := [(66, .aload_n 0)]) (jtb_ok (by decide +kernel)) (pc' := 67) (lv' := [(0, vR t), (1, vI a1), (2, vI a2), (3, vI l3)]) (st' := [vR t]) rfl ?_
    refine j_gd (fun h18 => ?_)
    refine j_getR hx flX15_18 kl1007 h18 (by decide) (by decide +kernel) ?_
    refine j_runA hx 1 (tb := [(70, .bipush 31)]) (jtb_ok (by decide +kernel)) (pc' := 72) (lv' := [(0, vR t), (1, vI a1), (2, vI a2), (3, vI l3)]) (st' := [vI (kI 31), vR (jR W 1007 t)]) rfl ?_
    refine j_ldc2 hx (v := (kJ 2147483648)) (jkd2 q2001 (by decide +kernel)) (by decide +kernel) ?_
    refine j_gd (fun h19 => ?_)
    refine j_last hx (f := 1007) (o := t) kd1007 rfl (by decide +kernel) h19 ?_
    refine j_ltw rfl (fun W20 hc21 => ?_)
    have h22 : jC W20 t = 10 := (congrFun hc21 _).trans h18
    refine j_runA hx 2 (tb := [(76, .aload_n 0), (77, .iconst 0)]) (jtb_ok (by decide +kernel)) (pc' := 78) (lv' := [(0, vR t), (1, vI a1), (2, vI a2), (3, vI l3)]) (st' := [vI (kI 0), vR t]) rfl ?_
    refine j_putI hx fwX15_87 wf1010 kd1010 h22 (by decide) (by decide +kernel) (nz1010 jz0) (fz1010 jz0) ?_
    refine j_ltw rfl (fun W24 hc25 => ?_)
    have h26 : jC W24 t = 10 := (congrFun hc25 _).trans h22
    refine j_runA hx 2 (tb := [(81, .aload_n 0), (82, .iconst 0)]) (jtb_ok (by decide +kernel)) (pc' := 83) (lv' := [(0, vR t), (1, vI a1), (2, vI a2), (3, vI l3)]) (st' := [vI (kI 0), vR t]) rfl ?_
    refine j_putI hx fwX15_90 wf1011 kd1011 h26 (by decide) (by decide +kernel) (nz1011 jz0) (fz1011 jz0) ?_
    refine j_ltw rfl (fun W28 hc29 => ?_)
    have h30 : jC W28 t = 10 := (congrFun hc29 _).trans h26
    refine j_runA hx 2 (tb := [(86, .aload_n 0), (87, .iconst 0)]) (jtb_ok (by decide +kernel)) (pc' := 88) (lv' := [(0, vR t), (1, vI a1), (2, vI a2), (3, vI l3)]) (st' := [vI (kI 0), vR t]) rfl ?_
    refine j_putI hx fwX15_93 wf1012 kd1012 h30 (by decide) (by decide +kernel) (nz1012 jz0) (fz1012 jz0) ?_
    refine j_ltw rfl (fun W32 hc33 => ?_)
    have h34 : jC W32 t = 10 := (congrFun hc33 _).trans h30
    refine j_runA hx 2 (tb := [(91, .aload_n 0), (92, .iconst 0)]) (jtb_ok (by decide +kernel)) (pc' := 93) (lv' := [(0, vR t), (1, vI a1), (2, vI a2), (3, vI l3)]) (st' := [vI (kI 0), vR t]) rfl ?_
    refine j_putI hx fwX15_96 wf1013 kd1013 h34 (by decide) (by decide +kernel) (nz1013 jz0) (fz1013 jz0) ?_
    refine j_ltw rfl (fun W36 hc37 => ?_)
    have h38 : jC W36 t = 10 := (congrFun hc37 _).trans h34
    refine j_runA hx 2 (tb := [(96, .aload_n 0), (97, .iconst 0)]) (jtb_ok (by decide +kernel)) (pc' := 98) (lv' := [(0, vR t), (1, vI a1), (2, vI a2), (3, vI l3)]) (st' := [vI (kI 0), vR t]) rfl ?_
    refine j_putI hx fwX15_99 wf1015 kd1015 h38 (by decide) (by decide +kernel) (ni1015 _) (fi1015 _) ?_
    refine j_ltw rfl (fun W40 hc41 => ?_)
    have h42 : jC W40 t = 10 := (congrFun hc41 _).trans h38
    refine j_runA hx 2 (tb := [(101, .aload_n 0), (102, .iconst 0)]) (jtb_ok (by decide +kernel)) (pc' := 103) (lv' := [(0, vR t), (1, vI a1), (2, vI a2), (3, vI l3)]) (st' := [vI (kI 0), vR t]) rfl ?_
    refine j_putI hx fwX15_102 wf1016 kd1016 h42 (by decide) (by decide +kernel) (ni1016 _) (fi1016 _) ?_
    refine j_ltw rfl (fun W44 hc45 => ?_)
    have h46 : jC W44 t = 10 := (congrFun hc45 _).trans h42
    refine j_runA hx 2 (tb := [(106, .aload_n 0), (107, .iconst 0)]) (jtb_ok (by decide +kernel)) (pc' := 108) (lv' := [(0, vR t), (1, vI a1), (2, vI a2), (3, vI l3)]) (st' := [vI (kI 0), vR t]) rfl ?_
    refine j_putI hx fwX15_105 wf1017 kd1017 h46 (by decide) (by decide +kernel) (ni1017 _) (fi1017 _) ?_
    refine j_ltw rfl (fun W48 hc49 => ?_)
    have h50 : jC W48 t = 10 := (congrFun hc49 _).trans h46
    refine j_runA hx 2 (tb := [(111, .aload_n 0), (112, .iconst 0)]) (jtb_ok (by decide +kernel)) (pc' := 113) (lv' := [(0, vR t), (1, vI a1), (2, vI a2), (3, vI l3)]) (st' := [vI (kI 0), vR t]) rfl ?_
    refine j_putI hx fwX15_108 wf1018 kd1018 h50 (by decide) (by decide +kernel) (ni1018 _) (fi1018 _) ?_
    refine j_ltw rfl (fun W52 hc53 => ?_)
    have h54 : jC W52 t = 10 := (congrFun hc53 _).trans h50
    refine j_runA hx 1 (tb := [(116, .aload_n 0)]) (jtb_ok (by decide +kernel)) (pc' := 117) (lv' := [(0, vR t), (1, vI a1), (2, vI a2), (3, vI l3)]) (st' := [vR t]) rfl ?_
    refine j_getI hx flX15_39 kd1000 h54 (by decide) (by decide +kernel) ?_
    refine j_runA hx 1 (tb := [(120, .iconst 1)]) (jtb_ok (by decide +kernel)) (pc' := 121) (lv' := [(0, vR t), (1, vI a1), (2, vI a2), (3, vI l3)]) (st' := [vI (kI 1), vI (jI W52 1000 t)]) rfl ?_
    refine j_icmp_ne hx (off := 7) (tgt := 128) (by decide +kernel) (by decide) (fun _ => ?_) (fun _ => ?_)
    · refine j_lv (lv' := [(0, vR t), (1, vI a1), (2, vI a2)]) ⟨rfl, rfl, rfl, trivial⟩ ?_
      exact wma_run_128 h W52
    refine j_runA hx 1 (tb := [(124, .aload_n 0)]) (jtb_ok (by decide +kernel)) (pc' := 125) (lv' := [(0, vR t), (1, vI a1), (2, vI a2), (3, vI l3)]) (st' := [vR t]) rfl ?_
    refine j_WV (j_callV (av := []) (st := []) hx hr (Or.inl q2002) q2004 qs76 rfl md_fma_tellCode np_fma_tellCode (cma_tellCode t W52) (by decide) (Nat.le_of_ble_eq_true rfl) h54 (by decide) (by decide +kernel)) (fun q56 _ => ?_)
    refine j_lv (lv' := [(0, vR t), (1, vI a1), (2, vI a2)]) ⟨rfl, rfl, rfl, trivial⟩ ?_
    exact wma_run_128 h q56
  refine j_runA hx 1 (tb := [(46, .aload_n 0)]) (jtb_ok (by decide +kernel)) (pc' := 47) (lv' := [(0, vR t), (1, vI a1), (2, vI a2), (3, vI l3)]) (st' := [vR t]) rfl ?_
  refine j_gd (fun h58 => ?_)
  refine j_getR hx flX15_18 kl1007 h58 (by decide) (by decide +kernel) ?_
  refine j_runA hx 2 (tb := [(50, .iload_n 3), (51, .lconst 0)]) (jtb_ok (by decide +kernel)) (pc' := 52) (lv' := [(0, vR t), (1, vI a1), (2, vI a2), (3, vI l3)]) (st' := [vL (kJ 0), vI l3, vR (jR W 1007 t)]) rfl ?_
  refine j_gd (fun h59 => ?_)
  refine j_last hx (f := 1007) (o := t) kd1007 rfl (by decide +kernel) h59 ?_
  refine j_ltw rfl (fun W60 hc61 => ?_)
  have h62 : jC W60 t = 10 := (congrFun hc61 _).trans h58
  refine j_runA hx 1 (tb := [(53, .aload_n 0)]) (jtb_ok (by decide +kernel)) (pc' := 54) (lv' := [(0, vR t), (1, vI a1), (2, vI a2), (3, vI l3)]) (st' := [vR t]) rfl ?_
  refine j_getR hx flX15_22 kl1008 h62 (by decide) (by decide +kernel) ?_
  refine j_runA hx 2 (tb := [(57, .iload_n 3), (58, .iconst 0)]) (jtb_ok (by decide +kernel)) (pc' := 59) (lv' := [(0, vR t), (1, vI a1), (2, vI a2), (3, vI l3)]) (st' := [vI (kI 0), vI l3, vR (jR W60 1008 t)]) rfl ?_
  refine j_gd (fun h64 => ?_)
  refine j_iast hx (f := 1008) (o := t) kd1008 rfl (by decide +kernel) h64 ?_
  refine j_ltw rfl (fun W65 hc66 => ?_)
  have h67 : jC W65 t = 10 := (congrFun hc66 _).trans h62
  refine j_runA hx 1 (tb := [(60, .iinc 3 1)]) (jtb_ok (by decide +kernel)) (pc' := 63) (lv' := [(3, vI (l3 + (kI 1))), (0, vR t), (1, vI a1), (2, vI a2)]) (st' := []) rfl ?_
  refine j_let (v := (l3 + (kI 1))) (lv := fun v69 => [(3, vI v69), (0, vR t), (1, vI a1), (2, vI a2)]) (st := fun _ => []) (fun v69 => ?_)
  refine j_goto hx (off := -23) (by decide +kernel) (tgt := 40) (by decide) ?_
  refine j_lv (lv' := [(0, vR t), (1, vI a1), (2, vI a2), (3, vI v69)]) ⟨rfl, rfl, rfl, rfl, trivial⟩ ?_
  exact k40 v69 W65
theorem wma_run_35 {x : jCx} {en : (fma_run_S ⊕ (Int32 × jW)) → Option (Outcome × jW)} {t : Nat} {a1 : Int32} {a2 : Int32} (h : hma_run x en t a1 a2) (s0 : Nat) (s1 : Nat) (W : jW) : jJ x 6 35 [(0, vR t), (1, vI a1), (2, vI a2)] [vR s0, vR s1] W (fma_run_35 t a1 a2 s0 s1 W) en := by
  have h0 := h
  obtain ⟨hx, hm, hr, he, k40, k186⟩ := h0
  unfold fma_run_35
  refine j_gd (fun h14 => ?_)
  refine j_WV (j_callV (av := [vR s0]) (st := []) hx hr (Or.inl q1982) q1983 q1984 rfl md_fme_begin np_fme_begin (cme_begin s1 s0 W) (by decide) (Nat.le_of_ble_eq_true rfl) h14 (by decide) (by decide +kernel)) (fun q15 _ => ?_)
  refine j_runA hx 2 (tb := [(38, .iconst 0), (39, .istore_n 3)]) (jtb_ok (by decide +kernel)) (pc' := 40) (lv' := [(3, vI (kI 0)), (0, vR t), (1, vI a1), (2, vI a2)]) (st' := []) rfl ?_
  refine j_lv (lv' := [(0, vR t), (1, vI a1), (2, vI a2), (3, vI (kI 0))]) ⟨rfl, rfl, rfl, rfl, trivial⟩ ?_
  exact k40 (kI 0) q15
theorem wma_run {x : jCx} {en : (fma_run_S ⊕ (Int32 × jW)) → Option (Outcome × jW)} {t : Nat} {a1 : Int32} {a2 : Int32} (h : hma_run x en t a1 a2) (W : jW) : jJ x 6 0 [(0, vR t), (1, vI a1), (2, vI a2)] [] W (fma_run_0 t a1 a2 W) en := by
  have h0 := h
  obtain ⟨hx, hm, hr, he, k40, k186⟩ := h0
  unfold fma_run_0
  refine j_runA hx 2 (tb := [(0, .aload_n 0), (1, .iload_n 2)]) (jtb_ok (by decide +kernel)) (pc' := 2) (lv' := [(0, vR t), (1, vI a1), (2, vI a2)]) (st' := [vI a2, vR t]) rfl ?_
  refine j_gd (fun h1 => ?_)
  refine j_gd (fun h2 => ?_)
  refine j_putI hx fwX15_64 wf1006 kd1006 h1 (by decide) (by decide +kernel) (nz1006 h2) (fz1006 h2) ?_
  refine j_ltw rfl (fun W3 hc4 => ?_)
  have h5 : jC W3 t = 10 := (congrFun hc4 _).trans h1
  refine j_runA hx 2 (tb := [(5, .aload_n 0), (6, .iconst 1)]) (jtb_ok (by decide +kernel)) (pc' := 7) (lv' := [(0, vR t), (1, vI a1), (2, vI a2)]) (st' := [vI (kI 1), vR t]) rfl ?_
  refine j_putI hx fwX15_68 wf1023 kd1023 h5 (by decide) (by decide +kernel) (nz1023 jz1) (fz1023 jz1) ?_
  refine j_ltw rfl (fun W7 hc8 => ?_)
  have h9 : jC W7 t = 10 := (congrFun hc8 _).trans h5
  refine j_runA hx 1 (tb := [(10, .aload_n 0)]) (jtb_ok (by decide +kernel)) (pc' := 11) (lv' := [(0, vR t), (1, vI a1), (2, vI a2)]) (st' := [vR t]) rfl ?_
  refine j_getR hx flX15_60 kl1005 h9 (by decide) (by decide +kernel) ?_
  refine j_runA hx 1 (tb := [(14, .aload_n 0)]) (jtb_ok (by decide +kernel)) (pc' := 15) (lv' := [(0, vR t), (1, vI a1), (2, vI a2)]) (st' := [vR t, vR (jR W7 1005 t)]) rfl ?_
  refine j_OI (j_callV (av := []) (st := [vR (jR W7 1005 t)]) hx hr (Or.inl q1978) q1980 qs72 rfl md_fma_isNew np_fma_isNew (cma_isNew t W7) (by decide) (Nat.le_of_ble_eq_true rfl) h9 (by decide) (by decide +kernel)) (fun q11 _ => ?_)
  refine j_if_eq hx (off := 10) (tgt := 28) (by decide +kernel) (by decide) (fun _ => ?_) (fun _ => ?_)
  · refine j_runA hx 1 (tb := [(28, .aload_n 0)]) (jtb_ok (by decide +kernel)) (pc' := 29) (lv' := [(0, vR t), (1, vI a1), (2, vI a2)]) (st' := [vR t, vR (jR W7 1005 t)]) rfl ?_
    refine j_getR hx flX15_43 kl1001 h9 (by decide) (by decide +kernel) ?_
    refine j_gd (fun h12 => ?_)
    refine j_getR hx flX15_75 kl202 h12 (by decide) (by decide +kernel) ?_
    exact wma_run_35 h (jR W7 202 (jR W7 1001 t)) (jR W7 1005 t) W7
  refine j_runA hx 1 (tb := [(21, .aload_n 0)]) (jtb_ok (by decide +kernel)) (pc' := 22) (lv' := [(0, vR t), (1, vI a1), (2, vI a2)]) (st' := [vR t, vR (jR W7 1005 t)]) rfl ?_
  refine j_getR hx flX15_47 kl1002 h9 (by decide) (by decide +kernel) ?_
  refine j_goto hx (off := 10) (by decide +kernel) (tgt := 35) (by decide) ?_
  exact wma_run_35 h (jR W7 1002 t) (jR W7 1005 t) W7
theorem cma_run (t : Nat) (a1 : Int32) (a2 : Int32) (W : jW) : jM yX15_run cX15_run 6 (Option.some Jvm.ClassFile.FieldType.int) [(186, 277, 280, 151)] 11 169 [vR t, vI a1, vI a2] W ((fma_run t a1 a2 W).bind (fun q => some (.returned (some (.int q.1)), q.2))) := by
  refine jM.of (Nat.le_of_ble_eq_true rfl) (fun x hx hm hr => ?_)
  refine j_begin (P := (Sum.elim (fun s => (40, [(0, vR t), (1, vI a1), (2, vI a2), (3, vI s.1)], s.2)) (fun s => (186, [(0, vR t), (1, vI a1), (2, vI a2), (4, vI s.1)], s.2)))) (fun en he hk => ?_)
  have h : hma_run x en t a1 a2 := ⟨hx, hm, hr, fun q => he _, fun l3 W => hk (.inl (l3, W)), fun l4 W => hk (.inr (l4, W))⟩
  refine ⟨fun s => ?_, wma_run h W⟩
  rcases s with s | s
  · exact wma_run_40 h s.1 s.2
  · exact wma_run_186 h s.1 s.2
def hcl_run (x : jCx) (en : (Int32 × jW) → Option (Outcome × jW)) (t : Nat) (a1 : Int32) (a2 : Int32) : Prop :=
  jOK x RX0 cX0_run 3 ∧
  jMt x "run" (Option.some Jvm.ClassFile.FieldType.int) [] ∧
  jRm x 12 186 ∧
  (∀ q : Int32 × jW, en q = some (.returned (some (.int q.1)), q.2))
theorem wcl_run_19 {x : jCx} {en : (Int32 × jW) → Option (Outcome × jW)} {t : Nat} {a1 : Int32} {a2 : Int32} (h : hcl_run x en t a1 a2) (W : jW) : jJ x 3 19 [(0, vR t), (1, vI a1), (2, vI a2)] [] W (fcl_run_19 t a1 a2 W) en := by
  have h0 := h
  obtain ⟨hx, hm, hr, he⟩ := h0
  unfold fcl_run_19
  refine j_runA hx 1 (tb := [(19, .bipush (-14))]) (jtb_ok (by decide +kernel)) (pc' := 21) (lv' := [(0, vR t), (1, vI a1), (2, vI a2)]) (st' := [vI (kI (-14))]) rfl ?_
  exact j_iret hx hm (by decide +kernel) rfl (he _)
theorem wcl_run_42 {x : jCx} {en : (Int32 × jW) → Option (Outcome × jW)} {t : Nat} {a1 : Int32} {a2 : Int32} (h : hcl_run x en t a1 a2) (W : jW) : jJ x 3 42 [(0, vR t), (1, vI a1), (2, vI a2)] [] W (fcl_run_42 t a1 a2 W) en := by
  have h0 := h
  obtain ⟨hx, hm, hr, he⟩ := h0
  unfold fcl_run_42
  refine j_runA hx 1 (tb := [(42, .iconst (-1))]) (jtb_ok (by decide +kernel)) (pc' := 43) (lv' := [(0, vR t), (1, vI a1), (2, vI a2)]) (st' := [vI (kI (-1))]) rfl ?_
  exact j_iret hx hm (by decide +kernel) rfl (he _)
theorem wcl_run_22 {x : jCx} {en : (Int32 × jW) → Option (Outcome × jW)} {t : Nat} {a1 : Int32} {a2 : Int32} (h : hcl_run x en t a1 a2) (W : jW) : jJ x 3 22 [(0, vR t), (1, vI a1), (2, vI a2)] [] W (fcl_run_22 t a1 a2 W) en := by
  have h0 := h
  obtain ⟨hx, hm, hr, he⟩ := h0
  unfold fcl_run_22
  refine j_runA hx 1 (tb := [(22, .iload_n 1)]) (jtb_ok (by decide +kernel)) (pc' := 23) (lv' := [(0, vR t), (1, vI a1), (2, vI a2)]) (st' := [vI a1]) rfl ?_
  refine j_if_lt hx (off := 19) (tgt := 42) (by decide +kernel) (by decide) (fun _ => ?_) (fun _ => ?_)
  · exact wcl_run_42 h W
  refine j_runA hx 2 (tb := [(26, .iload_n 1), (27, .iconst 2)]) (jtb_ok (by decide +kernel)) (pc' := 28) (lv' := [(0, vR t), (1, vI a1), (2, vI a2)]) (st' := [vI (kI 2), vI a1]) rfl ?_
  refine j_icmp_gt hx (off := 14) (tgt := 42) (by decide +kernel) (by decide) (fun _ => ?_) (fun _ => ?_)
  · exact wcl_run_42 h W
  refine j_runA hx 1 (tb := [(31, .iload_n 2)]) (jtb_ok (by decide +kernel)) (pc' := 32) (lv' := [(0, vR t), (1, vI a1), (2, vI a2)]) (st' := [vI a2]) rfl ?_
  refine j_if_lt hx (off := 10) (tgt := 42) (by decide +kernel) (by decide) (fun _ => ?_) (fun _ => ?_)
  · exact wcl_run_42 h W
  refine j_runA hx 2 (tb := [(35, .iload_n 2), (36, .sipush 4096)]) (jtb_ok (by decide +kernel)) (pc' := 39) (lv' := [(0, vR t), (1, vI a1), (2, vI a2)]) (st' := [vI (kI 4096), vI a2]) rfl ?_
  refine j_icmp_le hx (off := 5) (tgt := 44) (by decide +kernel) (by decide) (fun _ => ?_) (fun _ => ?_)
  · refine j_runA hx 1 (tb := [(44, .aload_n 0)]) (jtb_ok (by decide +kernel)) (pc' := 45) (lv' := [(0, vR t), (1, vI a1), (2, vI a2)]) (st' := [vR t]) rfl ?_
    refine j_gd (fun h3 => ?_)
    refine j_getR hx flX0_51 kl114 h3 (by decide) (by decide +kernel) ?_
    refine j_runA hx 1 (tb := [(48, .iload_n 1)]) (jtb_ok (by decide +kernel)) (pc' := 49) (lv' := [(0, vR t), (1, vI a1), (2, vI a2)]) (st' := [vI a1, vR (jR W 114 t)]) rfl ?_
    refine j_gd (fun h4 => ?_)
    refine j_aald hx (f := 114) (o := t) kd114 rfl (by decide +kernel) h4 ?_
    refine j_runA hx 2 (tb := [(50, .iload_n 2), (51, .aload_n 0)]) (jtb_ok (by decide +kernel)) (pc' := 52) (lv' := [(0, vR t), (1, vI a1), (2, vI a2)]) (st' := [vR t, vI a2, vR (jE W 114 t (ix a1))]) rfl ?_
    refine j_getI hx flX0_132 kd107 h3 (by decide) (by decide +kernel) ?_
    refine j_gd (fun h5 => ?_)
    refine j_WI (j_callV (av := [vI a2, vI (jI W 107 t)]) (st := []) hx hr (Or.inl q1973) q1974 q1975 rfl md_fma_run np_fma_run (cma_run (jE W 114 t (ix a1)) a2 (jI W 107 t) W) (by decide) (Nat.le_of_ble_eq_true rfl) h5 (by decide) (by decide +kernel)) (fun q6 _ => ?_)
    exact j_iret hx hm (by decide +kernel) rfl (he _)
  exact wcl_run_42 h W
theorem wcl_run {x : jCx} {en : (Int32 × jW) → Option (Outcome × jW)} {t : Nat} {a1 : Int32} {a2 : Int32} (h : hcl_run x en t a1 a2) (W : jW) : jJ x 3 0 [(0, vR t), (1, vI a1), (2, vI a2)] [] W (fcl_run t a1 a2 W) en := by
  have h0 := h
  obtain ⟨hx, hm, hr, he⟩ := h0
  unfold fcl_run
  refine j_runA hx 1 (tb := [(0, .aload_n 0)]) (jtb_ok (by decide +kernel)) (pc' := 1) (lv' := [(0, vR t), (1, vI a1), (2, vI a2)]) (st' := [vR t]) rfl ?_
  refine j_gd (fun h1 => ?_)
  refine j_getI hx flX0_128 kd106 h1 (by decide) (by decide +kernel) ?_
  refine j_if_eq hx (off := 15) (tgt := 19) (by decide +kernel) (by decide) (fun _ => ?_) (fun _ => ?_)
  · exact wcl_run_19 h W
  refine j_runA hx 2 (tb := [(7, .iload_n 1), (8, .iconst 2)]) (jtb_ok (by decide +kernel)) (pc' := 9) (lv' := [(0, vR t), (1, vI a1), (2, vI a2)]) (st' := [vI (kI 2), vI a1]) rfl ?_
  refine j_icmp_ne hx (off := 13) (tgt := 22) (by decide +kernel) (by decide) (fun _ => ?_) (fun _ => ?_)
  · exact wcl_run_22 h W
  refine j_runA hx 1 (tb := [(12, .aload_n 0)]) (jtb_ok (by decide +kernel)) (pc' := 13) (lv' := [(0, vR t), (1, vI a1), (2, vI a2)]) (st' := [vR t]) rfl ?_
  refine j_getI hx flX0_132 kd107 h1 (by decide) (by decide +kernel) ?_
  refine j_if_ne hx (off := 6) (tgt := 22) (by decide +kernel) (by decide) (fun _ => ?_) (fun _ => ?_)
  · exact wcl_run_22 h W
  exact wcl_run_19 h W
theorem ccl_run (t : Nat) (a1 : Int32) (a2 : Int32) (W : jW) : jM yX0_run cX0_run 3 (Option.some Jvm.ClassFile.FieldType.int) [] 12 186 [vR t, vI a1, vI a2] W ((fcl_run t a1 a2 W).bind (fun q => some (.returned (some (.int q.1)), q.2))) := 
  jM.of (Nat.le_of_ble_eq_true rfl) (fun x hx hm hr => wcl_run ⟨hx, hm, hr, fun _ => rfl⟩ W)
def hcl_isRun (x : jCx) (en : (Int32) → Option (Outcome × jW)) (t : Nat) (a1 : Int32) (W : jW) : Prop :=
  jOK x RX0 cX0_isRun 2 ∧
  jMt x "isRun" (Option.some Jvm.ClassFile.FieldType.boolean) [] ∧
  jRm x 0 0 ∧
  (∀ q : Int32, en q = some (.returned (some (.int q)), W))
theorem wcl_isRun_32 {x : jCx} {en : (Int32) → Option (Outcome × jW)} {W : jW} {t : Nat} {a1 : Int32} (h : hcl_isRun x en t a1 W) : jJ x 2 32 [(0, vR t), (1, vI a1)] [] W (fcl_isRun_32 t a1 W) en := by
  have h0 := h
  obtain ⟨hx, hm, hr, he⟩ := h0
  unfold fcl_isRun_32
  refine j_runA hx 1 (tb := [(32, .iconst 0)]) (jtb_ok (by decide +kernel)) (pc' := 33) (lv' := [(0, vR t), (1, vI a1)]) (st' := [vI (kI 0)]) rfl ?_
  exact j_iret hx hm (by decide +kernel) jz0n (he _)
theorem wcl_isRun {x : jCx} {en : (Int32) → Option (Outcome × jW)} {W : jW} {t : Nat} {a1 : Int32} (h : hcl_isRun x en t a1 W) : jJ x 2 0 [(0, vR t), (1, vI a1)] [] W (fcl_isRun t a1 W) en := by
  have h0 := h
  obtain ⟨hx, hm, hr, he⟩ := h0
  unfold fcl_isRun
  refine j_runA hx 1 (tb := [(0, .aload_n 0)]) (jtb_ok (by decide +kernel)) (pc' := 1) (lv' := [(0, vR t), (1, vI a1)]) (st' := [vR t]) rfl ?_
  refine j_gd (fun h1 => ?_)
  refine j_getI hx flX0_128 kd106 h1 (by decide) (by decide +kernel) ?_
  refine j_if_eq hx (off := 28) (tgt := 32) (by decide +kernel) (by decide) (fun _ => ?_) (fun _ => ?_)
  · exact wcl_isRun_32 h
  refine j_runA hx 1 (tb := [(7, .iload_n 1)]) (jtb_ok (by decide +kernel)) (pc' := 8) (lv' := [(0, vR t), (1, vI a1)]) (st' := [vI a1]) rfl ?_
  refine j_if_lt hx (off := 24) (tgt := 32) (by decide +kernel) (by decide) (fun _ => ?_) (fun _ => ?_)
  · exact wcl_isRun_32 h
  refine j_runA hx 2 (tb := [(11, .iload_n 1), (12, .iconst 2)]) (jtb_ok (by decide +kernel)) (pc' := 13) (lv' := [(0, vR t), (1, vI a1)]) (st' := [vI (kI 2), vI a1]) rfl ?_
  refine j_icmp_gt hx (off := 19) (tgt := 32) (by decide +kernel) (by decide) (fun _ => ?_) (fun _ => ?_)
  · exact wcl_isRun_32 h
  refine j_runA hx 1 (tb := [(16, .aload_n 0)]) (jtb_ok (by decide +kernel)) (pc' := 17) (lv' := [(0, vR t), (1, vI a1)]) (st' := [vR t]) rfl ?_
  refine j_getR hx flX0_51 kl114 h1 (by decide) (by decide +kernel) ?_
  refine j_runA hx 1 (tb := [(20, .iload_n 1)]) (jtb_ok (by decide +kernel)) (pc' := 21) (lv' := [(0, vR t), (1, vI a1)]) (st' := [vI a1, vR (jR W 114 t)]) rfl ?_
  refine j_gd (fun h2 => ?_)
  refine j_aald hx (f := 114) (o := t) kd114 rfl (by decide +kernel) h2 ?_
  refine j_gd (fun h3 => ?_)
  refine j_getI hx flX0_185 kd1023 h3 (by decide) (by decide +kernel) ?_
  refine j_if_eq hx (off := 7) (tgt := 32) (by decide +kernel) (by decide) (fun _ => ?_) (fun _ => ?_)
  · exact wcl_isRun_32 h
  refine j_runA hx 1 (tb := [(28, .iconst 1)]) (jtb_ok (by decide +kernel)) (pc' := 29) (lv' := [(0, vR t), (1, vI a1)]) (st' := [vI (kI 1)]) rfl ?_
  refine j_goto hx (off := 4) (by decide +kernel) (tgt := 33) (by decide) ?_
  exact j_iret hx hm (by decide +kernel) jz1n (he _)
theorem ccl_isRun (t : Nat) (a1 : Int32) (W : jW) : jM yX0_isRun cX0_isRun 2 (Option.some Jvm.ClassFile.FieldType.boolean) [] 0 0 [vR t, vI a1] W ((fcl_isRun t a1 W).bind (fun q => some (.returned (some (.int q)), W))) := 
  jM.of (Nat.le_of_ble_eq_true rfl) (fun x hx hm hr => wcl_isRun ⟨hx, hm, hr, fun _ => rfl⟩)
