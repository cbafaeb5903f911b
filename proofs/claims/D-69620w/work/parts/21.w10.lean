/-! ===== walks: fpg_falls fog_isSooner fog_sink fog_sortWays fog_headOf fog_chain fpg_blockCount fog_isMet fog_putChain ===== -/
set_option maxRecDepth 100000
def hpg_falls (x : jCx) (en : (Int32) → Option (Outcome × jW)) (t : Nat) (a1 : Int32) (a2 : Int32) (W : jW) : Prop :=
  jOK x RX1 cX1_falls 3 ∧
  jMt x "falls" (Option.some Jvm.ClassFile.FieldType.boolean) [] ∧
  jRm x 1 14 ∧
  (∀ q : Int32, en q = some (.returned (some (.int q)), W))
theorem wpg_falls_48 {x : jCx} {en : (Int32) → Option (Outcome × jW)} {W : jW} {t : Nat} {a1 : Int32} {a2 : Int32} (h : hpg_falls x en t a1 a2 W) : jJ x 3 48 [(0, vR t), (1, vI a1), (2, vI a2)] [] W (fpg_falls_48 t a1 a2 W) en := by
  have h0 := h
  obtain ⟨hx, hm, hr, he⟩ := h0
  unfold fpg_falls_48
  refine j_runA hx 1 (tb := [(48, .iconst 1)]) (jtb_ok (by decide +kernel)) (pc' := 49) (lv' := [(0, vR t), (1, vI a1), (2, vI a2)]) (st' := [vI (kI 1)]) rfl ?_
  refine j_goto hx (off := 4) (by decide +kernel) (tgt := 53) (by decide) ?_
  exact j_iret hx hm (by decide +kernel) jz1n (he _)
theorem wpg_falls_52 {x : jCx} {en : (Int32) → Option (Outcome × jW)} {W : jW} {t : Nat} {a1 : Int32} {a2 : Int32} (h : hpg_falls x en t a1 a2 W) : jJ x 3 52 [(0, vR t), (1, vI a1), (2, vI a2)] [] W (fpg_falls_52 t a1 a2 W) en := by
  have h0 := h
  obtain ⟨hx, hm, hr, he⟩ := h0
  unfold fpg_falls_52
  refine j_runA hx 1 (tb := [(52, .iconst 0)]) (jtb_ok (by decide +kernel)) (pc' := 53) (lv' := [(0, vR t), (1, vI a1), (2, vI a2)]) (st' := [vI (kI 0)]) rfl ?_
  exact j_iret hx hm (by decide +kernel) jz0n (he _)
theorem wpg_falls {x : jCx} {en : (Int32) → Option (Outcome × jW)} {W : jW} {t : Nat} {a1 : Int32} {a2 : Int32} (h : hpg_falls x en t a1 a2 W) : jJ x 3 0 [(0, vR t), (1, vI a1), (2, vI a2)] [] W (fpg_falls t a1 a2 W) en := by
  have h0 := h
  obtain ⟨hx, hm, hr, he⟩ := h0
  unfold fpg_falls
  refine j_runA hx 3 (tb := [(0, .iload_n 2), (1, .aload_n 0), (2, .iload_n 1)]) (jtb_ok (by decide +kernel)) (pc' := 3) (lv' := [(0, vR t), (1, vI a1), (2, vI a2)]) (st' := [vI a1, vR t, vI a2]) rfl ?_
  refine j_gd (fun h1 => ?_)
  refine j_OI (j_callV (av := [vI a1]) (st := [vI a2]) hx hr (Or.inl q1657) q1633 q1634 rfl md_fpg_nextOf np_fpg_nextOf (cpg_nextOf t a1 W) (by decide) (Nat.le_of_ble_eq_true rfl) h1 (by decide) (by decide +kernel)) (fun q2 _ => ?_)
  refine j_icmp_ne hx (off := 5) (tgt := 11) (by decide +kernel) (by decide) (fun _ => ?_) (fun _ => ?_)
  · refine j_runA hx 3 (tb := [(11, .iload_n 2), (12, .aload_n 0), (13, .iload_n 1)]) (jtb_ok (by decide +kernel)) (pc' := 14) (lv' := [(0, vR t), (1, vI a1), (2, vI a2)]) (st' := [vI a1, vR t, vI a2]) rfl ?_
    refine j_OI (j_callV (av := [vI a1]) (st := [vI a2]) hx hr (Or.inl q1658) q1637 q1638 rfl md_fpg_takenOf np_fpg_takenOf (cpg_takenOf t a1 W) (by decide) (Nat.le_of_ble_eq_true rfl) h1 (by decide) (by decide +kernel)) (fun q3 _ => ?_)
    refine j_icmp_eq hx (off := 5) (tgt := 22) (by decide +kernel) (by decide) (fun _ => ?_) (fun _ => ?_)
    · refine j_runA hx 1 (tb := [(22, .aload_n 0)]) (jtb_ok (by decide +kernel)) (pc' := 23) (lv' := [(0, vR t), (1, vI a1), (2, vI a2)]) (st' := [vR t]) rfl ?_
      refine j_getR hx flX1_68 kl214 h1 (by decide) (by decide +kernel) ?_
      refine j_runA hx 1 (tb := [(26, .iload_n 1)]) (jtb_ok (by decide +kernel)) (pc' := 27) (lv' := [(0, vR t), (1, vI a1), (2, vI a2)]) (st' := [vI a1, vR (jR W 214 t)]) rfl ?_
      refine j_gd (fun h4 => ?_)
      refine j_iald hx (f := 214) (o := t) kd214 rfl (by decide +kernel) h4 ?_
      refine j_runA hx 1 (tb := [(28, .iconst 3)]) (jtb_ok (by decide +kernel)) (pc' := 29) (lv' := [(0, vR t), (1, vI a1), (2, vI a2)]) (st' := [vI (kI 3), vI (jA W 214 t (ix a1))]) rfl ?_
      refine j_icmp_eq hx (off := 19) (tgt := 48) (by decide +kernel) (by decide) (fun _ => ?_) (fun _ => ?_)
      · exact wpg_falls_48 h
      refine j_runA hx 2 (tb := [(32, .aload_n 0), (33, .iload_n 1)]) (jtb_ok (by decide +kernel)) (pc' := 34) (lv' := [(0, vR t), (1, vI a1), (2, vI a2)]) (st' := [vI a1, vR t]) rfl ?_
      refine j_OI (j_callV (av := [vI a1]) (st := []) hx hr (Or.inl q1132) q1133 q1134 rfl md_fpg_wordsOf np_fpg_wordsOf (cpg_wordsOf t a1 W) (by decide) (Nat.le_of_ble_eq_true rfl) h1 (by decide) (by decide +kernel)) (fun q5 _ => ?_)
      refine j_runA hx 1 (tb := [(37, .iconst 1)]) (jtb_ok (by decide +kernel)) (pc' := 38) (lv' := [(0, vR t), (1, vI a1), (2, vI a2)]) (st' := [vI (kI 1), vI q5]) rfl ?_
      refine j_icmp_le hx (off := 14) (tgt := 52) (by decide +kernel) (by decide) (fun _ => ?_) (fun _ => ?_)
      · exact wpg_falls_52 h
      refine j_runA hx 4 (tb := [(41, .iload_n 2), (42, .iload_n 1), (43, .iconst 1), (44, .iadd)]) (jtb_ok (by decide +kernel)) (pc' := 45) (lv' := [(0, vR t), (1, vI a1), (2, vI a2)]) (st' := [vI (a1 + (kI 1)), vI a2]) rfl ?_
      refine j_icmp_eq hx (off := 7) (tgt := 52) (by decide +kernel) (by decide) (fun _ => ?_) (fun _ => ?_)
      · exact wpg_falls_52 h
      exact wpg_falls_48 h
    refine j_runA hx 1 (tb := [(20, .iconst 0)]) (jtb_ok (by decide +kernel)) (pc' := 21) (lv' := [(0, vR t), (1, vI a1), (2, vI a2)]) (st' := [vI (kI 0)]) rfl ?_
    exact j_iret hx hm (by decide +kernel) jz0n (he _)
  refine j_runA hx 1 (tb := [(9, .iconst 1)]) (jtb_ok (by decide +kernel)) (pc' := 10) (lv' := [(0, vR t), (1, vI a1), (2, vI a2)]) (st' := [vI (kI 1)]) rfl ?_
  exact j_iret hx hm (by decide +kernel) jz1n (he _)
theorem cpg_falls (t : Nat) (a1 : Int32) (a2 : Int32) (W : jW) : jM yX1_falls cX1_falls 3 (Option.some Jvm.ClassFile.FieldType.boolean) [] 1 14 [vR t, vI a1, vI a2] W ((fpg_falls t a1 a2 W).bind (fun q => some (.returned (some (.int q)), W))) := 
  jM.of (Nat.le_of_ble_eq_true rfl) (fun x hx hm hr => wpg_falls ⟨hx, hm, hr, fun _ => rfl⟩)
def hog_isSooner (x : jCx) (en : (Int32) → Option (Outcome × jW)) (t : Nat) (a1 : Int32) (a2 : Int32) (W : jW) : Prop :=
  jOK x RX13 cX13_isSooner 3 ∧
  jMt x "isSooner" (Option.some Jvm.ClassFile.FieldType.boolean) [] ∧
  jRm x 0 0 ∧
  (∀ q : Int32, en q = some (.returned (some (.int q)), W))
theorem wog_isSooner {x : jCx} {en : (Int32) → Option (Outcome × jW)} {W : jW} {t : Nat} {a1 : Int32} {a2 : Int32} (h : hog_isSooner x en t a1 a2 W) : jJ x 3 0 [(0, vR t), (1, vI a1), (2, vI a2)] [] W (fog_isSooner t a1 a2 W) en := by
  have h0 := h
  obtain ⟨hx, hm, hr, he⟩ := h0
  unfold fog_isSooner
  refine j_runA hx 1 (tb := [(0, .aload_n 0)]) (jtb_ok (by decide +kernel)) (pc' := 1) (lv' := [(0, vR t), (1, vI a1), (2, vI a2)]) (st' := [vR t]) rfl ?_
  refine j_gd (fun h1 => ?_)
  refine j_getR hx flX13_105 kl801 h1 (by decide) (by decide +kernel) ?_
  refine j_gd (fun h2 => ?_)
  refine j_getR hx flX13_126 kl702 h2 (by decide) (by decide +kernel) ?_
  refine j_runA hx 1 (tb := [(7, .iload_n 1)]) (jtb_ok (by decide +kernel)) (pc' := 8) (lv' := [(0, vR t), (1, vI a1), (2, vI a2)]) (st' := [vI a1, vR (jR W 702 (jR W 801 t))]) rfl ?_
  refine j_gd (fun h3 => ?_)
  refine j_lald hx (f := 702) (o := (jR W 801 t)) kd702 rfl (by decide +kernel) h3 ?_
  refine j_runA hx 1 (tb := [(9, .aload_n 0)]) (jtb_ok (by decide +kernel)) (pc' := 10) (lv' := [(0, vR t), (1, vI a1), (2, vI a2)]) (st' := [vR t, vL (jB W 702 (jR W 801 t) (ix a1))]) rfl ?_
  refine j_getR hx flX13_105 kl801 h1 (by decide) (by decide +kernel) ?_
  refine j_getR hx flX13_126 kl702 h2 (by decide) (by decide +kernel) ?_
  refine j_runA hx 1 (tb := [(16, .iload_n 2)]) (jtb_ok (by decide +kernel)) (pc' := 17) (lv' := [(0, vR t), (1, vI a1), (2, vI a2)]) (st' := [vI a2, vR (jR W 702 (jR W 801 t)), vL (jB W 702 (jR W 801 t) (ix a1))]) rfl ?_
  refine j_gd (fun h4 => ?_)
  refine j_lald hx (f := 702) (o := (jR W 801 t)) kd702 rfl (by decide +kernel) h4 ?_
  refine j_lcmp_eq hx (off := 31) (tgt := 50) (by decide +kernel) (by decide +kernel) (by decide) (fun _ => ?_) (fun _ => ?_)
  · refine j_runA hx 1 (tb := [(50, .aload_n 0)]) (jtb_ok (by decide +kernel)) (pc' := 51) (lv' := [(0, vR t), (1, vI a1), (2, vI a2)]) (st' := [vR t]) rfl ?_
    refine j_getR hx flX13_105 kl801 h1 (by decide) (by decide +kernel) ?_
    refine j_getR hx flX13_133 kl700 h2 (by decide) (by decide +kernel) ?_
    refine j_gd (fun h5 => ?_)
    refine j_getR hx flX13_123 kl600 h5 (by decide) (by decide +kernel) ?_
    refine j_runA hx 1 (tb := [(60, .iload_n 1)]) (jtb_ok (by decide +kernel)) (pc' := 61) (lv' := [(0, vR t), (1, vI a1), (2, vI a2)]) (st' := [vI a1, vR (jR W 600 (jR W 700 (jR W 801 t)))]) rfl ?_
    refine j_gd (fun h6 => ?_)
    refine j_iald hx (f := 600) (o := (jR W 700 (jR W 801 t))) kd600 rfl (by decide +kernel) h6 ?_
    refine j_runA hx 1 (tb := [(62, .aload_n 0)]) (jtb_ok (by decide +kernel)) (pc' := 63) (lv' := [(0, vR t), (1, vI a1), (2, vI a2)]) (st' := [vR t, vI (jA W 600 (jR W 700 (jR W 801 t)) (ix a1))]) rfl ?_
    refine j_getR hx flX13_105 kl801 h1 (by decide) (by decide +kernel) ?_
    refine j_getR hx flX13_133 kl700 h2 (by decide) (by decide +kernel) ?_
    refine j_getR hx flX13_123 kl600 h5 (by decide) (by decide +kernel) ?_
    refine j_runA hx 1 (tb := [(72, .iload_n 2)]) (jtb_ok (by decide +kernel)) (pc' := 73) (lv' := [(0, vR t), (1, vI a1), (2, vI a2)]) (st' := [vI a2, vR (jR W 600 (jR W 700 (jR W 801 t))), vI (jA W 600 (jR W 700 (jR W 801 t)) (ix a1))]) rfl ?_
    refine j_gd (fun h7 => ?_)
    refine j_iald hx (f := 600) (o := (jR W 700 (jR W 801 t))) kd600 rfl (by decide +kernel) h7 ?_
    refine j_icmp_eq hx (off := 38) (tgt := 112) (by decide +kernel) (by decide) (fun _ => ?_) (fun _ => ?_)
    · refine j_runA hx 1 (tb := [(112, .aload_n 0)]) (jtb_ok (by decide +kernel)) (pc' := 113) (lv' := [(0, vR t), (1, vI a1), (2, vI a2)]) (st' := [vR t]) rfl ?_
      refine j_getR hx flX13_105 kl801 h1 (by decide) (by decide +kernel) ?_
      refine j_getR hx flX13_120 kl701 h2 (by decide) (by decide +kernel) ?_
      refine j_gd (fun h8 => ?_)
      refine j_getR hx flX13_123 kl600 h8 (by decide) (by decide +kernel) ?_
      refine j_runA hx 1 (tb := [(122, .iload_n 1)]) (jtb_ok (by decide +kernel)) (pc' := 123) (lv' := [(0, vR t), (1, vI a1), (2, vI a2)]) (st' := [vI a1, vR (jR W 600 (jR W 701 (jR W 801 t)))]) rfl ?_
      refine j_gd (fun h9 => ?_)
      refine j_iald hx (f := 600) (o := (jR W 701 (jR W 801 t))) kd600 rfl (by decide +kernel) h9 ?_
      refine j_runA hx 1 (tb := [(124, .aload_n 0)]) (jtb_ok (by decide +kernel)) (pc' := 125) (lv' := [(0, vR t), (1, vI a1), (2, vI a2)]) (st' := [vR t, vI (jA W 600 (jR W 701 (jR W 801 t)) (ix a1))]) rfl ?_
      refine j_getR hx flX13_105 kl801 h1 (by decide) (by decide +kernel) ?_
      refine j_getR hx flX13_120 kl701 h2 (by decide) (by decide +kernel) ?_
      refine j_getR hx flX13_123 kl600 h8 (by decide) (by decide +kernel) ?_
      refine j_runA hx 1 (tb := [(134, .iload_n 2)]) (jtb_ok (by decide +kernel)) (pc' := 135) (lv' := [(0, vR t), (1, vI a1), (2, vI a2)]) (st' := [vI a2, vR (jR W 600 (jR W 701 (jR W 801 t))), vI (jA W 600 (jR W 701 (jR W 801 t)) (ix a1))]) rfl ?_
      refine j_gd (fun h10 => ?_)
      refine j_iald hx (f := 600) (o := (jR W 701 (jR W 801 t))) kd600 rfl (by decide +kernel) h10 ?_
      refine j_icmp_ge hx (off := 7) (tgt := 143) (by decide +kernel) (by decide) (fun _ => ?_) (fun _ => ?_)
      · refine j_runA hx 1 (tb := [(143, .iconst 0)]) (jtb_ok (by decide +kernel)) (pc' := 144) (lv' := [(0, vR t), (1, vI a1), (2, vI a2)]) (st' := [vI (kI 0)]) rfl ?_
        exact j_iret hx hm (by decide +kernel) jz0n (he _)
      refine j_runA hx 1 (tb := [(139, .iconst 1)]) (jtb_ok (by decide +kernel)) (pc' := 140) (lv' := [(0, vR t), (1, vI a1), (2, vI a2)]) (st' := [vI (kI 1)]) rfl ?_
      refine j_goto hx (off := 4) (by decide +kernel) (tgt := 144) (by decide) ?_
      exact j_iret hx hm (by decide +kernel) jz1n (he _)
    refine j_runA hx 1 (tb := [(77, .aload_n 0)]) (jtb_ok (by decide +kernel)) (pc' := 78) (lv' := [(0, vR t), (1, vI a1), (2, vI a2)]) (st' := [vR t]) rfl ?_
    refine j_getR hx flX13_105 kl801 h1 (by decide) (by decide +kernel) ?_
    refine j_getR hx flX13_133 kl700 h2 (by decide) (by decide +kernel) ?_
    refine j_getR hx flX13_123 kl600 h5 (by decide) (by decide +kernel) ?_
    refine j_runA hx 1 (tb := [(87, .iload_n 1)]) (jtb_ok (by decide +kernel)) (pc' := 88) (lv' := [(0, vR t), (1, vI a1), (2, vI a2)]) (st' := [vI a1, vR (jR W 600 (jR W 700 (jR W 801 t)))]) rfl ?_
    refine j_gd (fun h11 => ?_)
    refine j_iald hx (f := 600) (o := (jR W 700 (jR W 801 t))) kd600 rfl (by decide +kernel) h11 ?_
    refine j_runA hx 1 (tb := [(89, .aload_n 0)]) (jtb_ok (by decide +kernel)) (pc' := 90) (lv' := [(0, vR t), (1, vI a1), (2, vI a2)]) (st' := [vR t, vI (jA W 600 (jR W 700 (jR W 801 t)) (ix a1))]) rfl ?_
    refine j_getR hx flX13_105 kl801 h1 (by decide) (by decide +kernel) ?_
    refine j_getR hx flX13_133 kl700 h2 (by decide) (by decide +kernel) ?_
    refine j_getR hx flX13_123 kl600 h5 (by decide) (by decide +kernel) ?_
    refine j_runA hx 1 (tb := [(99, .iload_n 2)]) (jtb_ok (by decide +kernel)) (pc' := 100) (lv' := [(0, vR t), (1, vI a1), (2, vI a2)]) (st' := [vI a2, vR (jR W 600 (jR W 700 (jR W 801 t))), vI (jA W 600 (jR W 700 (jR W 801 t)) (ix a1))]) rfl ?_
    refine j_gd (fun h12 => ?_)
    refine j_iald hx (f := 600) (o := (jR W 700 (jR W 801 t))) kd600 rfl (by decide +kernel) h12 ?_
    refine j_icmp_ge hx (off := 7) (tgt := 108) (by decide +kernel) (by decide) (fun _ => ?_) (fun _ => ?_)
    · refine j_runA hx 1 (tb := [(108, .iconst 0)]) (jtb_ok (by decide +kernel)) (pc' := 109) (lv' := [(0, vR t), (1, vI a1), (2, vI a2)]) (st' := [vI (kI 0)]) rfl ?_
      refine j_goto hx (off := 35) (by decide +kernel) (tgt := 144) (by decide) ?_
      exact j_iret hx hm (by decide +kernel) jz0n (he _)
    refine j_runA hx 1 (tb := [(104, .iconst 1)]) (jtb_ok (by decide +kernel)) (pc' := 105) (lv' := [(0, vR t), (1, vI a1), (2, vI a2)]) (st' := [vI (kI 1)]) rfl ?_
    refine j_goto hx (off := 39) (by decide +kernel) (tgt := 144) (by decide) ?_
    exact j_iret hx hm (by decide +kernel) jz1n (he _)
  refine j_runA hx 1 (tb := [(22, .aload_n 0)]) (jtb_ok (by decide +kernel)) (pc' := 23) (lv' := [(0, vR t), (1, vI a1), (2, vI a2)]) (st' := [vR t]) rfl ?_
  refine j_getR hx flX13_105 kl801 h1 (by decide) (by decide +kernel) ?_
  refine j_getR hx flX13_126 kl702 h2 (by decide) (by decide +kernel) ?_
  refine j_runA hx 1 (tb := [(29, .iload_n 1)]) (jtb_ok (by decide +kernel)) (pc' := 30) (lv' := [(0, vR t), (1, vI a1), (2, vI a2)]) (st' := [vI a1, vR (jR W 702 (jR W 801 t))]) rfl ?_
  refine j_gd (fun h13 => ?_)
  refine j_lald hx (f := 702) (o := (jR W 801 t)) kd702 rfl (by decide +kernel) h13 ?_
  refine j_runA hx 1 (tb := [(31, .aload_n 0)]) (jtb_ok (by decide +kernel)) (pc' := 32) (lv' := [(0, vR t), (1, vI a1), (2, vI a2)]) (st' := [vR t, vL (jB W 702 (jR W 801 t) (ix a1))]) rfl ?_
  refine j_getR hx flX13_105 kl801 h1 (by decide) (by decide +kernel) ?_
  refine j_getR hx flX13_126 kl702 h2 (by decide) (by decide +kernel) ?_
  refine j_runA hx 1 (tb := [(38, .iload_n 2)]) (jtb_ok (by decide +kernel)) (pc' := 39) (lv' := [(0, vR t), (1, vI a1), (2, vI a2)]) (st' := [vI a2, vR (jR W 702 (jR W 801 t)), vL (jB W 702 (jR W 801 t) (ix a1))]) rfl ?_
  refine j_gd (fun h14 => ?_)
  refine j_lald hx (f := 702) (o := (jR W 801 t)) kd702 rfl (by decide +kernel) h14 ?_
  refine j_lcmp_le hx (off := 7) (tgt := 48) (by decide +kernel) (by decide +kernel) (by decide) (fun _ => ?_) (fun _ => ?_)
  · refine j_runA hx 1 (tb := [(48, .iconst 0)]) (jtb_ok (by decide +kernel)) (pc' := 49) (lv' := [(0, vR t), (1, vI a1), (2, vI a2)]) (st' := [vI (kI 0)]) rfl ?_
    exact j_iret hx hm (by decide +kernel) jz0n (he _)
  refine j_runA hx 1 (tb := [(44, .iconst 1)]) (jtb_ok (by decide +kernel)) (pc' := 45) (lv' := [(0, vR t), (1, vI a1), (2, vI a2)]) (st' := [vI (kI 1)]) rfl ?_
  refine j_goto hx (off := 4) (by decide +kernel) (tgt := 49) (by decide) ?_
  exact j_iret hx hm (by decide +kernel) jz1n (he _)
theorem cog_isSooner (t : Nat) (a1 : Int32) (a2 : Int32) (W : jW) : jM yX13_isSooner cX13_isSooner 3 (Option.some Jvm.ClassFile.FieldType.boolean) [] 0 0 [vR t, vI a1, vI a2] W ((fog_isSooner t a1 a2 W).bind (fun q => some (.returned (some (.int q)), W))) := 
  jM.of (Nat.le_of_ble_eq_true rfl) (fun x hx hm hr => wog_isSooner ⟨hx, hm, hr, fun _ => rfl⟩)
def hog_sink (x : jCx) (en : (fog_sink_S ⊕ (jW)) → Option (Outcome × jW)) (t : Nat) (a1 : Int32) (a2 : Int32) : Prop :=
  jOK x RX13 cX13_sink 7 ∧
  jMt x "sink" (Option.none : Option Jvm.ClassFile.FieldType) [] ∧
  jRm x 1 14 ∧
  (∀ q : jW, en (.inr q) = some (.returned none, q)) ∧
  (∀ (l3 : Int32) (l4 : Int32) (W : jW), jJ x 7 18 [(0, vR t), (1, vI a1), (2, vI a2), (3, vI l3), (4, vI l4)] [] W (some (.inl (l3, l4, W))) en)
theorem wog_sink_162 {x : jCx} {en : (fog_sink_S ⊕ (jW)) → Option (Outcome × jW)} {t : Nat} {a1 : Int32} {a2 : Int32} (h : hog_sink x en t a1 a2) (l3 : Int32) (s0 : Int32) (W : jW) : jJ x 7 162 [(0, vR t), (1, vI a1), (2, vI a2), (3, vI l3)] [vI s0] W (fog_sink_162 t a1 a2 l3 s0 W) en := by
  have h0 := h
  obtain ⟨hx, hm, hr, he, k18⟩ := h0
  unfold fog_sink_162
  refine j_runA hx 1 (tb := [(162, .istore 4)]) (jtb_ok (by decide +kernel)) (pc' := 164) (lv' := [(4, vI s0), (0, vR t), (1, vI a1), (2, vI a2), (3, vI l3)]) (st' := []) rfl ?_
  refine j_goto hx (off := -146) (by decide +kernel) (tgt := 18) (by decide) ?_
  refine j_lv (lv' := [(0, vR t), (1, vI a1), (2, vI a2), (3, vI l3), (4, vI s0)]) ⟨rfl, rfl, rfl, rfl, rfl, trivial⟩ ?_
  exact k18 l3 s0 W
theorem wog_sink_70 {x : jCx} {en : (fog_sink_S ⊕ (jW)) → Option (Outcome × jW)} {t : Nat} {a1 : Int32} {a2 : Int32} (h : hog_sink x en t a1 a2) (l3 : Int32) (l5 : Int32) (W : jW) : jJ x 7 70 [(0, vR t), (1, vI a1), (2, vI a2), (3, vI l3), (5, vI l5)] [] W (fog_sink_70 t a1 a2 l3 l5 W) en := by
  have h0 := h
  obtain ⟨hx, hm, hr, he, k18⟩ := h0
  unfold fog_sink_70
  refine j_runA hx 2 (tb := [(70, .aload_n 0), (71, .aload_n 0)]) (jtb_ok (by decide +kernel)) (pc' := 72) (lv' := [(0, vR t), (1, vI a1), (2, vI a2), (3, vI l3), (5, vI l5)]) (st' := [vR t, vR t]) rfl ?_
  refine j_gd (fun h11 => ?_)
  refine j_getR hx flX13_24 kl807 h11 (by decide) (by decide +kernel) ?_
  refine j_gd (fun h12 => ?_)
  refine j_getR hx flX13_123 kl600 h12 (by decide) (by decide +kernel) ?_
  refine j_runA hx 1 (tb := [(78, .iload_n 3)]) (jtb_ok (by decide +kernel)) (pc' := 79) (lv' := [(0, vR t), (1, vI a1), (2, vI a2), (3, vI l3), (5, vI l5)]) (st' := [vI l3, vR (jR W 600 (jR W 807 t)), vR t]) rfl ?_
  refine j_gd (fun h13 => ?_)
  refine j_iald hx (f := 600) (o := (jR W 807 t)) kd600 rfl (by decide +kernel) h13 ?_
  refine j_runA hx 1 (tb := [(80, .aload_n 0)]) (jtb_ok (by decide +kernel)) (pc' := 81) (lv' := [(0, vR t), (1, vI a1), (2, vI a2), (3, vI l3), (5, vI l5)]) (st' := [vR t, vI (jA W 600 (jR W 807 t) (ix l3)), vR t]) rfl ?_
  refine j_getR hx flX13_24 kl807 h11 (by decide) (by decide +kernel) ?_
  refine j_getR hx flX13_123 kl600 h12 (by decide) (by decide +kernel) ?_
  refine j_runA hx 1 (tb := [(87, .iload 5)]) (jtb_ok (by decide +kernel)) (pc' := 89) (lv' := [(0, vR t), (1, vI a1), (2, vI a2), (3, vI l3), (5, vI l5)]) (st' := [vI l5, vR (jR W 600 (jR W 807 t)), vI (jA W 600 (jR W 807 t) (ix l3)), vR t]) rfl ?_
  refine j_gd (fun h14 => ?_)
  refine j_iald hx (f := 600) (o := (jR W 807 t)) kd600 rfl (by decide +kernel) h14 ?_
  refine j_OI (j_callV (av := [vI (jA W 600 (jR W 807 t) (ix l3)), vI (jA W 600 (jR W 807 t) (ix l5))]) (st := []) hx hr (Or.inl q1717) q1719 qs38 rfl md_fog_isSooner np_fog_isSooner (cog_isSooner t (jA W 600 (jR W 807 t) (ix l3)) (jA W 600 (jR W 807 t) (ix l5)) W) (by decide) (Nat.le_of_ble_eq_true rfl) h11 (by decide) (by decide +kernel)) (fun q15 _ => ?_)
  refine j_runA hx 2 (tb := [(93, .istore 4), (95, .iload 4)]) (jtb_ok (by decide +kernel)) (pc' := 97) (lv' := [(4, vI q15), (0, vR t), (1, vI a1), (2, vI a2), (3, vI l3), (5, vI l5)]) (st' := [vI q15]) rfl ?_
  refine j_if_ne hx (off := 6) (tgt := 103) (by decide +kernel) (by decide) (fun _ => ?_) (fun _ => ?_)
  · refine j_runA hx 1 (tb := [(103, .aload_n 0)]) (jtb_ok (by decide +kernel)) (pc' := 104) (lv' := [(4, vI q15), (0, vR t), (1, vI a1), (2, vI a2), (3, vI l3), (5, vI l5)]) (st' := [vR t]) rfl ?_
    refine j_getR hx flX13_24 kl807 h11 (by decide) (by decide +kernel) ?_
    refine j_getR hx flX13_123 kl600 h12 (by decide) (by decide +kernel) ?_
    refine j_runA hx 1 (tb := [(110, .iload_n 3)]) (jtb_ok (by decide +kernel)) (pc' := 111) (lv' := [(4, vI q15), (0, vR t), (1, vI a1), (2, vI a2), (3, vI l3), (5, vI l5)]) (st' := [vI l3, vR (jR W 600 (jR W 807 t))]) rfl ?_
    refine j_gd (fun h16 => ?_)
    refine j_iald hx (f := 600) (o := (jR W 807 t)) kd600 rfl (by decide +kernel) h16 ?_
    refine j_runA hx 1 (tb := [(112, .istore 6)]) (jtb_ok (by decide +kernel)) (pc' := 114) (lv' := [(6, vI (jA W 600 (jR W 807 t) (ix l3))), (4, vI q15), (0, vR t), (1, vI a1), (2, vI a2), (3, vI l3), (5, vI l5)]) (st' := []) rfl ?_
    refine j_let (v := (jA W 600 (jR W 807 t) (ix l3))) (lv := fun v17 => [(6, vI v17), (4, vI q15), (0, vR t), (1, vI a1), (2, vI a2), (3, vI l3), (5, vI l5)]) (st := fun _ => []) (fun v17 => ?_)
    refine j_runA hx 1 (tb := [(114, .aload_n 0)]) (jtb_ok (by decide +kernel)) (pc' := 115) (lv' := [(6, vI v17), (4, vI q15), (0, vR t), (1, vI a1), (2, vI a2), (3, vI l3), (5, vI l5)]) (st' := [vR t]) rfl ?_
    refine j_getR hx flX13_24 kl807 h11 (by decide) (by decide +kernel) ?_
    refine j_getR hx flX13_123 kl600 h12 (by decide) (by decide +kernel) ?_
    refine j_runA hx 2 (tb := [(121, .iload_n 3), (122, .aload_n 0)]) (jtb_ok (by decide +kernel)) (pc' := 123) (lv' := [(6, vI v17), (4, vI q15), (0, vR t), (1, vI a1), (2, vI a2), (3, vI l3), (5, vI l5)]) (st' := [vR t, vI l3, vR (jR W 600 (jR W 807 t))]) rfl ?_
    refine j_getR hx flX13_24 kl807 h11 (by decide) (by decide +kernel) ?_
    refine j_getR hx flX13_123 kl600 h12 (by decide) (by decide +kernel) ?_
    refine j_runA hx 1 (tb := [(129, .iload 5)]) (jtb_ok (by decide +kernel)) (pc' := 131) (lv' := [(6, vI v17), (4, vI q15), (0, vR t), (1, vI a1), (2, vI a2), (3, vI l3), (5, vI l5)]) (st' := [vI l5, vR (jR W 600 (jR W 807 t)), vI l3, vR (jR W 600 (jR W 807 t))]) rfl ?_
    refine j_gd (fun h18 => ?_)
    refine j_iald hx (f := 600) (o := (jR W 807 t)) kd600 rfl (by decide +kernel) h18 ?_
    refine j_gd (fun h19 => ?_)
    refine j_iast hx (f := 600) (o := (jR W 807 t)) kd600 rfl (by decide +kernel) h19 ?_
    refine j_ltw rfl (fun W20 hc21 => ?_)
    have h22 : jC W20 t = 8 := (congrFun hc21 _).trans h11
    have h23 : jC W20 (jR W 807 t) = 6 := (congrFun hc21 _).trans h12
    refine j_runA hx 1 (tb := [(133, .aload_n 0)]) (jtb_ok (by decide +kernel)) (pc' := 134) (lv' := [(6, vI v17), (4, vI q15), (0, vR t), (1, vI a1), (2, vI a2), (3, vI l3), (5, vI l5)]) (st' := [vR t]) rfl ?_
    refine j_getR hx flX13_24 kl807 h22 (by decide) (by decide +kernel) ?_
    refine j_gd (fun h25 => ?_)
    refine j_getR hx flX13_123 kl600 h25 (by decide) (by decide +kernel) ?_
    refine j_runA hx 2 (tb := [(140, .iload 5), (142, .iload 6)]) (jtb_ok (by decide +kernel)) (pc' := 144) (lv' := [(6, vI v17), (4, vI q15), (0, vR t), (1, vI a1), (2, vI a2), (3, vI l3), (5, vI l5)]) (st' := [vI v17, vI l5, vR (jR W20 600 (jR W20 807 t))]) rfl ?_
    refine j_gd (fun h26 => ?_)
    refine j_iast hx (f := 600) (o := (jR W20 807 t)) kd600 rfl (by decide +kernel) h26 ?_
    refine j_ltw rfl (fun W27 hc28 => ?_)
    have h29 : jC W27 t = 8 := (congrFun hc28 _).trans h22
    have h30 : jC W27 (jR W 807 t) = 6 := (congrFun hc28 _).trans h23
    have h31 : jC W27 (jR W20 807 t) = 6 := (congrFun hc28 _).trans h25
    refine j_runA hx 8 (tb := [(145, .iload 5), (147, .istore_n 3), (148, .iconst 2), (149, .iload_n 3), (150, .imul), (151, .iconst 1), (152, .iadd), (153, .iload_n 2)]) (jtb_ok (by decide +kernel)) (pc' := 154) (lv' := [(3, vI l5), (6, vI v17), (4, vI q15), (0, vR t), (1, vI a1), (2, vI a2), (5, vI l5)]) (st' := [vI a2, vI (((kI 2) * l5) + (kI 1))]) rfl ?_
    refine j_icmp_ge hx (off := 7) (tgt := 161) (by decide +kernel) (by decide) (fun _ => ?_) (fun _ => ?_)
    · refine j_runA hx 1 (tb := [(161, .iconst 0)]) (jtb_ok (by decide +kernel)) (pc' := 162) (lv' := [(3, vI l5), (6, vI v17), (4, vI q15), (0, vR t), (1, vI a1), (2, vI a2), (5, vI l5)]) (st' := [vI (kI 0)]) rfl ?_
      refine j_lv (lv' := [(0, vR t), (1, vI a1), (2, vI a2), (3, vI l5)]) ⟨rfl, rfl, rfl, rfl, trivial⟩ ?_
      exact wog_sink_162 h l5 (kI 0) W27
    refine j_runA hx 1 (tb := [(157, .iconst 1)]) (jtb_ok (by decide +kernel)) (pc' := 158) (lv' := [(3, vI l5), (6, vI v17), (4, vI q15), (0, vR t), (1, vI a1), (2, vI a2), (5, vI l5)]) (st' := [vI (kI 1)]) rfl ?_
    refine j_goto hx (off := 4) (by decide +kernel) (tgt := 162) (by decide) ?_
    refine j_lv (lv' := [(0, vR t), (1, vI a1), (2, vI a2), (3, vI l5)]) ⟨rfl, rfl, rfl, rfl, trivial⟩ ?_
    exact wog_sink_162 h l5 (kI 1) W27
  refine j_goto hx (off := -82) (by decide +kernel) (tgt := 18) (by decide) ?_
  refine j_lv (lv' := [(0, vR t), (1, vI a1), (2, vI a2), (3, vI l3), (4, vI q15)]) ⟨rfl, rfl, rfl, rfl, rfl, trivial⟩ ?_
  exact k18 l3 q15 W
theorem wog_sink_18 {x : jCx} {en : (fog_sink_S ⊕ (jW)) → Option (Outcome × jW)} {t : Nat} {a1 : Int32} {a2 : Int32} (h : hog_sink x en t a1 a2) (l3 : Int32) (l4 : Int32) (W : jW) : jJ x 7 18 [(0, vR t), (1, vI a1), (2, vI a2), (3, vI l3), (4, vI l4)] [] W (fog_sink_18 t a1 a2 l3 l4 W) en := by
  have h0 := h
  obtain ⟨hx, hm, hr, he, k18⟩ := h0
  unfold fog_sink_18
  refine j_runA hx 1 (tb := [(18, .iload 4)]) (jtb_ok (by decide +kernel)) (pc' := 20) (lv' := [(0, vR t), (1, vI a1), (2, vI a2), (3, vI l3), (4, vI l4)]) (st' := [vI l4]) rfl ?_
  refine j_if_eq hx (off := 147) (tgt := 167) (by decide +kernel) (by decide) (fun _ => ?_) (fun _ => ?_)
  · exact j_vret hx hm (by decide +kernel) (he _)
  refine j_runA hx 6 (tb := [(23, .iconst 2), (24, .iload_n 3), (25, .imul), (26, .iconst 1), (27, .iadd), (28, .istore 5)]) (jtb_ok (by decide +kernel)) (pc' := 30) (lv' := [(5, vI (((kI 2) * l3) + (kI 1))), (0, vR t), (1, vI a1), (2, vI a2), (3, vI l3), (4, vI l4)]) (st' := []) rfl ?_
  refine j_let (v := (((kI 2) * l3) + (kI 1))) (lv := fun v3 => [(5, vI v3), (0, vR t), (1, vI a1), (2, vI a2), (3, vI l3), (4, vI l4)]) (st := fun _ => []) (fun v3 => ?_)
  refine j_runA hx 4 (tb := [(30, .iload 5), (32, .iconst 1), (33, .iadd), (34, .iload_n 2)]) (jtb_ok (by decide +kernel)) (pc' := 35) (lv' := [(5, vI v3), (0, vR t), (1, vI a1), (2, vI a2), (3, vI l3), (4, vI l4)]) (st' := [vI a2, vI (v3 + (kI 1))]) rfl ?_
  refine j_icmp_ge hx (off := 35) (tgt := 70) (by decide +kernel) (by decide) (fun _ => ?_) (fun _ => ?_)
  · refine j_lv (lv' := [(0, vR t), (1, vI a1), (2, vI a2), (3, vI l3), (5, vI v3)]) ⟨rfl, rfl, rfl, rfl, rfl, trivial⟩ ?_
    exact wog_sink_70 h l3 v3 W
  refine j_runA hx 2 (tb := [(38, .aload_n 0), (39, .aload_n 0)]) (jtb_ok (by decide +kernel)) (pc' := 40) (lv' := [(5, vI v3), (0, vR t), (1, vI a1), (2, vI a2), (3, vI l3), (4, vI l4)]) (st' := [vR t, vR t]) rfl ?_
  refine j_gd (fun h4 => ?_)
  refine j_getR hx flX13_24 kl807 h4 (by decide) (by decide +kernel) ?_
  refine j_gd (fun h5 => ?_)
  refine j_getR hx flX13_123 kl600 h5 (by decide) (by decide +kernel) ?_
  refine j_runA hx 1 (tb := [(46, .iload 5)]) (jtb_ok (by decide +kernel)) (pc' := 48) (lv' := [(5, vI v3), (0, vR t), (1, vI a1), (2, vI a2), (3, vI l3), (4, vI l4)]) (st' := [vI v3, vR (jR W 600 (jR W 807 t)), vR t]) rfl ?_
  refine j_gd (fun h6 => ?_)
  refine j_iald hx (f := 600) (o := (jR W 807 t)) kd600 rfl (by decide +kernel) h6 ?_
  refine j_runA hx 1 (tb := [(49, .aload_n 0)]) (jtb_ok (by decide +kernel)) (pc' := 50) (lv' := [(5, vI v3), (0, vR t), (1, vI a1), (2, vI a2), (3, vI l3), (4, vI l4)]) (st' := [vR t, vI (jA W 600 (jR W 807 t) (ix v3)), vR t]) rfl ?_
  refine j_getR hx flX13_24 kl807 h4 (by decide) (by decide +kernel) ?_
  refine j_getR hx flX13_123 kl600 h5 (by decide) (by decide +kernel) ?_
  refine j_runA hx 3 (tb := [(56, .iload 5), (58, .iconst 1), (59, .iadd)]) (jtb_ok (by decide +kernel)) (pc' := 60) (lv' := [(5, vI v3), (0, vR t), (1, vI a1), (2, vI a2), (3, vI l3), (4, vI l4)]) (st' := [vI (v3 + (kI 1)), vR (jR W 600 (jR W 807 t)), vI (jA W 600 (jR W 807 t) (ix v3)), vR t]) rfl ?_
  refine j_gd (fun h7 => ?_)
  refine j_iald hx (f := 600) (o := (jR W 807 t)) kd600 rfl (by decide +kernel) h7 ?_
  refine j_OI (j_callV (av := [vI (jA W 600 (jR W 807 t) (ix v3)), vI (jA W 600 (jR W 807 t) (ix (v3 + (kI 1))))]) (st := []) hx hr (Or.inl q1717) q1719 qs38 rfl md_fog_isSooner np_fog_isSooner (cog_isSooner t (jA W 600 (jR W 807 t) (ix v3)) (jA W 600 (jR W 807 t) (ix (v3 + (kI 1)))) W) (by decide) (Nat.le_of_ble_eq_true rfl) h4 (by decide) (by decide +kernel)) (fun q8 _ => ?_)
  refine j_if_eq hx (off := 6) (tgt := 70) (by decide +kernel) (by decide) (fun _ => ?_) (fun _ => ?_)
  · refine j_lv (lv' := [(0, vR t), (1, vI a1), (2, vI a2), (3, vI l3), (5, vI v3)]) ⟨rfl, rfl, rfl, rfl, rfl, trivial⟩ ?_
    exact wog_sink_70 h l3 v3 W
  refine j_runA hx 1 (tb := [(67, .iinc 5 1)]) (jtb_ok (by decide +kernel)) (pc' := 70) (lv' := [(5, vI (v3 + (kI 1))), (0, vR t), (1, vI a1), (2, vI a2), (3, vI l3), (4, vI l4)]) (st' := []) rfl ?_
  refine j_let (v := (v3 + (kI 1))) (lv := fun v9 => [(5, vI v9), (0, vR t), (1, vI a1), (2, vI a2), (3, vI l3), (4, vI l4)]) (st := fun _ => []) (fun v9 => ?_)
  refine j_lv (lv' := [(0, vR t), (1, vI a1), (2, vI a2), (3, vI l3), (5, vI v9)]) ⟨rfl, rfl, rfl, rfl, rfl, trivial⟩ ?_
  exact wog_sink_70 h l3 v9 W
theorem wog_sink_16 {x : jCx} {en : (fog_sink_S ⊕ (jW)) → Option (Outcome × jW)} {t : Nat} {a1 : Int32} {a2 : Int32} (h : hog_sink x en t a1 a2) (l3 : Int32) (s0 : Int32) (W : jW) : jJ x 7 16 [(0, vR t), (1, vI a1), (2, vI a2), (3, vI l3)] [vI s0] W (fog_sink_16 t a1 a2 l3 s0 W) en := by
  have h0 := h
  obtain ⟨hx, hm, hr, he, k18⟩ := h0
  unfold fog_sink_16
  refine j_runA hx 1 (tb := [(16, .istore 4)]) (jtb_ok (by decide +kernel)) (pc' := 18) (lv' := [(4, vI s0), (0, vR t), (1, vI a1), (2, vI a2), (3, vI l3)]) (st' := []) rfl ?_
  refine j_lv (lv' := [(0, vR t), (1, vI a1), (2, vI a2), (3, vI l3), (4, vI s0)]) ⟨rfl, rfl, rfl, rfl, rfl, trivial⟩ ?_
  exact k18 l3 s0 W
theorem wog_sink {x : jCx} {en : (fog_sink_S ⊕ (jW)) → Option (Outcome × jW)} {t : Nat} {a1 : Int32} {a2 : Int32} (h : hog_sink x en t a1 a2) (W : jW) : jJ x 7 0 [(0, vR t), (1, vI a1), (2, vI a2)] [] W (fog_sink_0 t a1 a2 W) en := by
  have h0 := h
  obtain ⟨hx, hm, hr, he, k18⟩ := h0
  unfold fog_sink_0
  refine j_runA hx 8 (tb := [(0, .iload_n 1), (1, .istore_n 3), (2, .iconst 2), (3, .iload_n 3), (4, .imul), (5, .iconst 1), (6, .iadd), (7, .iload_n 2)]) (jtb_ok (by decide +kernel)) (pc' := 8) (lv' := [(3, vI a1), (0, vR t), (1, vI a1), (2, vI a2)]) (st' := [vI a2, vI (((kI 2) * a1) + (kI 1))]) rfl ?_
  refine j_icmp_ge hx (off := 7) (tgt := 15) (by decide +kernel) (by decide) (fun _ => ?_) (fun _ => ?_)
  · refine j_runA hx 1 (tb := [(15, .iconst 0)]) (jtb_ok (by decide +kernel)) (pc' := 16) (lv' := [(3, vI a1), (0, vR t), (1, vI a1), (2, vI a2)]) (st' := [vI (kI 0)]) rfl ?_
    refine j_lv (lv' := [(0, vR t), (1, vI a1), (2, vI a2), (3, vI a1)]) ⟨rfl, rfl, rfl, rfl, trivial⟩ ?_
    exact wog_sink_16 h a1 (kI 0) W
  refine j_runA hx 1 (tb := [(11, .iconst 1)]) (jtb_ok (by decide +kernel)) (pc' := 12) (lv' := [(3, vI a1), (0, vR t), (1, vI a1), (2, vI a2)]) (st' := [vI (kI 1)]) rfl ?_
  refine j_goto hx (off := 4) (by decide +kernel) (tgt := 16) (by decide) ?_
  refine j_lv (lv' := [(0, vR t), (1, vI a1), (2, vI a2), (3, vI a1)]) ⟨rfl, rfl, rfl, rfl, trivial⟩ ?_
  exact wog_sink_16 h a1 (kI 1) W
theorem cog_sink (t : Nat) (a1 : Int32) (a2 : Int32) (W : jW) : jM yX13_sink cX13_sink 7 (Option.none : Option Jvm.ClassFile.FieldType) [] 1 14 [vR t, vI a1, vI a2] W ((fog_sink t a1 a2 W).bind (fun q => some (.returned none, q))) := by
  refine jM.of (Nat.le_of_ble_eq_true rfl) (fun x hx hm hr => ?_)
  refine j_begin (P := (fun s => (18, [(0, vR t), (1, vI a1), (2, vI a2), (3, vI s.1), (4, vI s.2.1)], s.2.2))) (fun en he hk => ?_)
  have h : hog_sink x en t a1 a2 := ⟨hx, hm, hr, fun q => he _, fun l3 l4 W => hk (l3, l4, W)⟩
  exact ⟨fun s => wog_sink_18 h s.1 s.2.1 s.2.2, wog_sink h W⟩
def hog_sortWays (x : jCx) (en : (fog_sortWays_S ⊕ (jW)) → Option (Outcome × jW)) (t : Nat) : Prop :=
  jOK x RX13 cX13_sortWays 3 ∧
  jMt x "sortWays" (Option.none : Option Jvm.ClassFile.FieldType) [] ∧
  jRm x 2 74 ∧
  (∀ q : jW, en (.inr q) = some (.returned none, q)) ∧
  (∀ (l1 : Int32) (W : jW), jJ x 3 10 [(0, vR t), (1, vI l1)] [] W (some (.inl (.inl (l1, W)))) en) ∧
  (∀ (l1 : Int32) (W : jW), jJ x 3 81 [(0, vR t), (1, vI l1)] [] W (some (.inl (.inr (.inl (l1, W))))) en) ∧
  (∀ (l1 : Int32) (W : jW), jJ x 3 113 [(0, vR t), (1, vI l1)] [] W (some (.inl (.inr (.inr (l1, W))))) en)
theorem wog_sortWays_63 {x : jCx} {en : (fog_sortWays_S ⊕ (jW)) → Option (Outcome × jW)} {t : Nat} (h : hog_sortWays x en t) (l1 : Int32) (W : jW) : jJ x 3 63 [(0, vR t), (1, vI l1)] [] W (fog_sortWays_63 t l1 W) en := by
  have h0 := h
  obtain ⟨hx, hm, hr, he, k10, k81, k113⟩ := h0
  unfold fog_sortWays_63
  refine j_runA hx 1 (tb := [(63, .iinc 1 1)]) (jtb_ok (by decide +kernel)) (pc' := 66) (lv' := [(1, vI (l1 + (kI 1))), (0, vR t)]) (st' := []) rfl ?_
  refine j_let (v := (l1 + (kI 1))) (lv := fun v24 => [(1, vI v24), (0, vR t)]) (st := fun _ => []) (fun v24 => ?_)
  refine j_goto hx (off := -56) (by decide +kernel) (tgt := 10) (by decide) ?_
  refine j_lv (lv' := [(0, vR t), (1, vI v24)]) ⟨rfl, rfl, trivial⟩ ?_
  exact k10 v24 W
theorem wog_sortWays_113 {x : jCx} {en : (fog_sortWays_S ⊕ (jW)) → Option (Outcome × jW)} {t : Nat} (h : hog_sortWays x en t) (l1 : Int32) (W : jW) : jJ x 3 113 [(0, vR t), (1, vI l1)] [] W (fog_sortWays_113 t l1 W) en := by
  have h0 := h
  obtain ⟨hx, hm, hr, he, k10, k81, k113⟩ := h0
  unfold fog_sortWays_113
  refine j_runA hx 1 (tb := [(113, .iload_n 1)]) (jtb_ok (by decide +kernel)) (pc' := 114) (lv' := [(0, vR t), (1, vI l1)]) (st' := [vI l1]) rfl ?_
  refine j_if_le hx (off := 53) (tgt := 167) (by decide +kernel) (by decide) (fun _ => ?_) (fun _ => ?_)
  · exact j_vret hx hm (by decide +kernel) (he _)
  refine j_runA hx 1 (tb := [(117, .aload_n 0)]) (jtb_ok (by decide +kernel)) (pc' := 118) (lv' := [(0, vR t), (1, vI l1)]) (st' := [vR t]) rfl ?_
  refine j_gd (fun h35 => ?_)
  refine j_getR hx flX13_24 kl807 h35 (by decide) (by decide +kernel) ?_
  refine j_gd (fun h36 => ?_)
  refine j_getR hx flX13_123 kl600 h36 (by decide) (by decide +kernel) ?_
  refine j_runA hx 1 (tb := [(124, .iconst 0)]) (jtb_ok (by decide +kernel)) (pc' := 125) (lv' := [(0, vR t), (1, vI l1)]) (st' := [vI (kI 0), vR (jR W 600 (jR W 807 t))]) rfl ?_
  refine j_gd (fun h37 => ?_)
  refine j_iald hx (f := 600) (o := (jR W 807 t)) kd600 rfl (by decide +kernel) h37 ?_
  refine j_runA hx 1 (tb := [(126, .istore_n 2)]) (jtb_ok (by decide +kernel)) (pc' := 127) (lv' := [(2, vI (jA W 600 (jR W 807 t) (ix (kI 0)))), (0, vR t), (1, vI l1)]) (st' := []) rfl ?_
  refine j_let (v := (jA W 600 (jR W 807 t) (ix (kI 0)))) (lv := fun v38 => [(2, vI v38), (0, vR t), (1, vI l1)]) (st := fun _ => []) (fun v38 => ?_)
  refine j_runA hx 1 (tb := [(127, .aload_n 0)]) (jtb_ok (by decide +kernel)) (pc' := 128) (lv' := [(2, vI v38), (0, vR t), (1, vI l1)]) (st' := [vR t]) rfl ?_
  refine j_getR hx flX13_24 kl807 h35 (by decide) (by decide +kernel) ?_
  refine j_getR hx flX13_123 kl600 h36 (by decide) (by decide +kernel) ?_
  refine j_runA hx 2 (tb := [(134, .iconst 0), (135, .aload_n 0)]) (jtb_ok (by decide +kernel)) (pc' := 136) (lv' := [(2, vI v38), (0, vR t), (1, vI l1)]) (st' := [vR t, vI (kI 0), vR (jR W 600 (jR W 807 t))]) rfl ?_
  refine j_getR hx flX13_24 kl807 h35 (by decide) (by decide +kernel) ?_
  refine j_getR hx flX13_123 kl600 h36 (by decide) (by decide +kernel) ?_
  refine j_runA hx 1 (tb := [(142, .iload_n 1)]) (jtb_ok (by decide +kernel)) (pc' := 143) (lv' := [(2, vI v38), (0, vR t), (1, vI l1)]) (st' := [vI l1, vR (jR W 600 (jR W 807 t)), vI (kI 0), vR (jR W 600 (jR W 807 t))]) rfl ?_
  refine j_gd (fun h39 => ?_)
  refine j_iald hx (f := 600) (o := (jR W 807 t)) kd600 rfl (by decide +kernel) h39 ?_
  refine j_gd (fun h40 => ?_)
  refine j_iast hx (f := 600) (o := (jR W 807 t)) kd600 rfl (by decide +kernel) h40 ?_
  refine j_ltw rfl (fun W41 hc42 => ?_)
  have h43 : jC W41 t = 8 := (congrFun hc42 _).trans h35
  have h44 : jC W41 (jR W 807 t) = 6 := (congrFun hc42 _).trans h36
  refine j_runA hx 1 (tb := [(145, .aload_n 0)]) (jtb_ok (by decide +kernel)) (pc' := 146) (lv' := [(2, vI v38), (0, vR t), (1, vI l1)]) (st' := [vR t]) rfl ?_
  refine j_getR hx flX13_24 kl807 h43 (by decide) (by decide +kernel) ?_
  refine j_gd (fun h46 => ?_)
  refine j_getR hx flX13_123 kl600 h46 (by decide) (by decide +kernel) ?_
  refine j_runA hx 2 (tb := [(152, .iload_n 1), (153, .iload_n 2)]) (jtb_ok (by decide +kernel)) (pc' := 154) (lv' := [(2, vI v38), (0, vR t), (1, vI l1)]) (st' := [vI v38, vI l1, vR (jR W41 600 (jR W41 807 t))]) rfl ?_
  refine j_gd (fun h47 => ?_)
  refine j_iast hx (f := 600) (o := (jR W41 807 t)) kd600 rfl (by decide +kernel) h47 ?_
  refine j_ltw rfl (fun W48 hc49 => ?_)
  have h50 : jC W48 t = 8 := (congrFun hc49 _).trans h43
  have h51 : jC W48 (jR W 807 t) = 6 := (congrFun hc49 _).trans h44
  have h52 : jC W48 (jR W41 807 t) = 6 := (congrFun hc49 _).trans h46
  refine j_runA hx 3 (tb := [(155, .aload_n 0), (156, .iconst 0), (157, .iload_n 1)]) (jtb_ok (by decide +kernel)) (pc' := 158) (lv' := [(2, vI v38), (0, vR t), (1, vI l1)]) (st' := [vI l1, vI (kI 0), vR t]) rfl ?_
  refine j_WV (j_callV (av := [vI (kI 0), vI l1]) (st := []) hx hr (Or.inl q1713) q1715 qs37 rfl md_fog_sink np_fog_sink (cog_sink t (kI 0) l1 W48) (by decide) (Nat.le_of_ble_eq_true rfl) h50 (by decide) (by decide +kernel)) (fun q54 _ => ?_)
  refine j_runA hx 1 (tb := [(161, .iinc 1 (-1))]) (jtb_ok (by decide +kernel)) (pc' := 164) (lv' := [(1, vI (l1 + (kI (-1)))), (2, vI v38), (0, vR t)]) (st' := []) rfl ?_
  refine j_let (v := (l1 + (kI (-1)))) (lv := fun v56 => [(1, vI v56), (2, vI v38), (0, vR t)]) (st := fun _ => []) (fun v56 => ?_)
  refine j_goto hx (off := -51) (by decide +kernel) (tgt := 113) (by decide) ?_
  refine j_lv (lv' := [(0, vR t), (1, vI v56)]) ⟨rfl, rfl, trivial⟩ ?_
  exact k113 v56 q54
theorem wog_sortWays_81 {x : jCx} {en : (fog_sortWays_S ⊕ (jW)) → Option (Outcome × jW)} {t : Nat} (h : hog_sortWays x en t) (l1 : Int32) (W : jW) : jJ x 3 81 [(0, vR t), (1, vI l1)] [] W (fog_sortWays_81 t l1 W) en := by
  have h0 := h
  obtain ⟨hx, hm, hr, he, k10, k81, k113⟩ := h0
  unfold fog_sortWays_81
  refine j_runA hx 1 (tb := [(81, .iload_n 1)]) (jtb_ok (by decide +kernel)) (pc' := 82) (lv' := [(0, vR t), (1, vI l1)]) (st' := [vI l1]) rfl ?_
  refine j_if_lt hx (off := 21) (tgt := 103) (by decide +kernel) (by decide) (fun _ => ?_) (fun _ => ?_)
  · refine j_runA hx 1 (tb := [(103, .aload_n 0)]) (jtb_ok (by decide +kernel)) (pc' := 104) (lv' := [(0, vR t), (1, vI l1)]) (st' := [vR t]) rfl ?_
    refine j_gd (fun h26 => ?_)
    refine j_getR hx flX13_24 kl807 h26 (by decide) (by decide +kernel) ?_
    refine j_gd (fun h27 => ?_)
    refine j_getI hx flX13_146 kd601 h27 (by decide) (by decide +kernel) ?_
    refine j_runA hx 3 (tb := [(110, .iconst 1), (111, .isub), (112, .istore_n 1)]) (jtb_ok (by decide +kernel)) (pc' := 113) (lv' := [(1, vI ((jI W 601 (jR W 807 t)) - (kI 1))), (0, vR t)]) (st' := []) rfl ?_
    refine j_let (v := ((jI W 601 (jR W 807 t)) - (kI 1))) (lv := fun v28 => [(1, vI v28), (0, vR t)]) (st := fun _ => []) (fun v28 => ?_)
    refine j_lv (lv' := [(0, vR t), (1, vI v28)]) ⟨rfl, rfl, trivial⟩ ?_
    exact k113 v28 W
  refine j_runA hx 3 (tb := [(85, .aload_n 0), (86, .iload_n 1), (87, .aload_n 0)]) (jtb_ok (by decide +kernel)) (pc' := 88) (lv' := [(0, vR t), (1, vI l1)]) (st' := [vR t, vI l1, vR t]) rfl ?_
  refine j_gd (fun h29 => ?_)
  refine j_getR hx flX13_24 kl807 h29 (by decide) (by decide +kernel) ?_
  refine j_gd (fun h30 => ?_)
  refine j_getI hx flX13_146 kd601 h30 (by decide) (by decide +kernel) ?_
  refine j_WV (j_callV (av := [vI l1, vI (jI W 601 (jR W 807 t))]) (st := []) hx hr (Or.inl q1713) q1715 qs37 rfl md_fog_sink np_fog_sink (cog_sink t l1 (jI W 601 (jR W 807 t)) W) (by decide) (Nat.le_of_ble_eq_true rfl) h29 (by decide) (by decide +kernel)) (fun q31 _ => ?_)
  refine j_runA hx 1 (tb := [(97, .iinc 1 (-1))]) (jtb_ok (by decide +kernel)) (pc' := 100) (lv' := [(1, vI (l1 + (kI (-1)))), (0, vR t)]) (st' := []) rfl ?_
  refine j_let (v := (l1 + (kI (-1)))) (lv := fun v33 => [(1, vI v33), (0, vR t)]) (st := fun _ => []) (fun v33 => ?_)
  refine j_goto hx (off := -19) (by decide +kernel) (tgt := 81) (by decide) ?_
  refine j_lv (lv' := [(0, vR t), (1, vI v33)]) ⟨rfl, rfl, trivial⟩ ?_
  exact k81 v33 q31
theorem wog_sortWays_10 {x : jCx} {en : (fog_sortWays_S ⊕ (jW)) → Option (Outcome × jW)} {t : Nat} (h : hog_sortWays x en t) (l1 : Int32) (W : jW) : jJ x 3 10 [(0, vR t), (1, vI l1)] [] W (fog_sortWays_10 t l1 W) en := by
  have h0 := h
  obtain ⟨hx, hm, hr, he, k10, k81, k113⟩ := h0
  unfold fog_sortWays_10
  refine j_runA hx 2 (tb := [(10, .iload_n 1), (11, .aload_n 0)]) (jtb_ok (by decide +kernel)) (pc' := 12) (lv' := [(0, vR t), (1, vI l1)]) (st' := [vR t, vI l1]) rfl ?_
  refine j_gd (fun h9 => ?_)
  refine j_getR hx flX13_105 kl801 h9 (by decide) (by decide +kernel) ?_
  refine j_gd (fun h10 => ?_)
  refine j_OI (j_callV (av := []) (st := [vI l1]) hx hr (Or.inl q1595) q1596 q1597 rfl md_fco_size np_fco_size (cco_size (jR W 801 t) W) (by decide) (Nat.le_of_ble_eq_true rfl) h10 (by decide) (by decide +kernel)) (fun q11 _ => ?_)
  refine j_icmp_ge hx (off := 51) (tgt := 69) (by decide +kernel) (by decide) (fun _ => ?_) (fun _ => ?_)
  · refine j_runA hx 1 (tb := [(69, .aload_n 0)]) (jtb_ok (by decide +kernel)) (pc' := 70) (lv' := [(0, vR t), (1, vI l1)]) (st' := [vR t]) rfl ?_
    refine j_getR hx flX13_24 kl807 h9 (by decide) (by decide +kernel) ?_
    refine j_gd (fun h12 => ?_)
    refine j_getI hx flX13_146 kd601 h12 (by decide) (by decide +kernel) ?_
    refine j_runA hx 1 (tb := [(76, .iconst 2)]) (jtb_ok (by decide +kernel)) (pc' := 77) (lv' := [(0, vR t), (1, vI l1)]) (st' := [vI (kI 2), vI (jI W 601 (jR W 807 t))]) rfl ?_
    refine j_idiv hx (by decide +kernel) (by decide +kernel) ?_
    refine j_runA hx 3 (tb := [(78, .iconst 1), (79, .isub), (80, .istore_n 1)]) (jtb_ok (by decide +kernel)) (pc' := 81) (lv' := [(1, vI (((jI W 601 (jR W 807 t)) / (kI 2)) - (kI 1))), (0, vR t)]) (st' := []) rfl ?_
    refine j_let (v := (((jI W 601 (jR W 807 t)) / (kI 2)) - (kI 1))) (lv := fun v13 => [(1, vI v13), (0, vR t)]) (st := fun _ => []) (fun v13 => ?_)
    refine j_lv (lv' := [(0, vR t), (1, vI v13)]) ⟨rfl, rfl, trivial⟩ ?_
    exact k81 v13 W
  refine j_runA hx 1 (tb := [(21, .aload_n 0)]) (jtb_ok (by decide +kernel)) (pc' := 22) (lv' := [(0, vR t), (1, vI l1)]) (st' := [vR t]) rfl ?_
  refine j_getR hx flX13_91 kl800 h9 (by decide) (by decide +kernel) ?_
  refine j_runA hx 1 (tb := [(25, .aload_n 0)]) (jtb_ok (by decide +kernel)) (pc' := 26) (lv' := [(0, vR t), (1, vI l1)]) (st' := [vR t, vR (jR W 800 t)]) rfl ?_
  refine j_getR hx flX13_105 kl801 h9 (by decide) (by decide +kernel) ?_
  refine j_getR hx flX13_133 kl700 h10 (by decide) (by decide +kernel) ?_
  refine j_gd (fun h14 => ?_)
  refine j_getR hx flX13_123 kl600 h14 (by decide) (by decide +kernel) ?_
  refine j_runA hx 1 (tb := [(35, .iload_n 1)]) (jtb_ok (by decide +kernel)) (pc' := 36) (lv' := [(0, vR t), (1, vI l1)]) (st' := [vI l1, vR (jR W 600 (jR W 700 (jR W 801 t))), vR (jR W 800 t)]) rfl ?_
  refine j_gd (fun h15 => ?_)
  refine j_iald hx (f := 600) (o := (jR W 700 (jR W 801 t))) kd600 rfl (by decide +kernel) h15 ?_
  refine j_runA hx 1 (tb := [(37, .aload_n 0)]) (jtb_ok (by decide +kernel)) (pc' := 38) (lv' := [(0, vR t), (1, vI l1)]) (st' := [vR t, vI (jA W 600 (jR W 700 (jR W 801 t)) (ix l1)), vR (jR W 800 t)]) rfl ?_
  refine j_getR hx flX13_105 kl801 h9 (by decide) (by decide +kernel) ?_
  refine j_getR hx flX13_120 kl701 h10 (by decide) (by decide +kernel) ?_
  refine j_gd (fun h16 => ?_)
  refine j_getR hx flX13_123 kl600 h16 (by decide) (by decide +kernel) ?_
  refine j_runA hx 1 (tb := [(47, .iload_n 1)]) (jtb_ok (by decide +kernel)) (pc' := 48) (lv' := [(0, vR t), (1, vI l1)]) (st' := [vI l1, vR (jR W 600 (jR W 701 (jR W 801 t))), vI (jA W 600 (jR W 700 (jR W 801 t)) (ix l1)), vR (jR W 800 t)]) rfl ?_
  refine j_gd (fun h17 => ?_)
  refine j_iald hx (f := 600) (o := (jR W 701 (jR W 801 t))) kd600 rfl (by decide +kernel) h17 ?_
  refine j_gd (fun h18 => ?_)
  refine j_OI (j_callV (av := [vI (jA W 600 (jR W 700 (jR W 801 t)) (ix l1)), vI (jA W 600 (jR W 701 (jR W 801 t)) (ix l1))]) (st := []) hx hr (Or.inl q1708) q1709 q1710 rfl md_fpg_falls np_fpg_falls (cpg_falls (jR W 800 t) (jA W 600 (jR W 700 (jR W 801 t)) (ix l1)) (jA W 600 (jR W 701 (jR W 801 t)) (ix l1)) W) (by decide) (Nat.le_of_ble_eq_true rfl) h18 (by decide) (by decide +kernel)) (fun q19 _ => ?_)
  refine j_if_eq hx (off := 11) (tgt := 63) (by decide +kernel) (by decide) (fun _ => ?_) (fun _ => ?_)
  · exact wog_sortWays_63 h l1 W
  refine j_runA hx 1 (tb := [(55, .aload_n 0)]) (jtb_ok (by decide +kernel)) (pc' := 56) (lv' := [(0, vR t), (1, vI l1)]) (st' := [vR t]) rfl ?_
  refine j_getR hx flX13_24 kl807 h9 (by decide) (by decide +kernel) ?_
  refine j_runA hx 1 (tb := [(59, .iload_n 1)]) (jtb_ok (by decide +kernel)) (pc' := 60) (lv' := [(0, vR t), (1, vI l1)]) (st' := [vI l1, vR (jR W 807 t)]) rfl ?_
  refine j_gd (fun h20 => ?_)
  refine j_WV (j_callV (av := [vI l1]) (st := []) hx hr (Or.inl q1712) q1040 q1041 rfl md_fro_add np_fro_add (cro_add (jR W 807 t) l1 W) (by decide) (Nat.le_of_ble_eq_true rfl) h20 (by decide) (by decide +kernel)) (fun q21 _ => ?_)
  exact wog_sortWays_63 h l1 q21
theorem wog_sortWays {x : jCx} {en : (fog_sortWays_S ⊕ (jW)) → Option (Outcome × jW)} {t : Nat} (h : hog_sortWays x en t) (W : jW) : jJ x 3 0 [(0, vR t)] [] W (fog_sortWays_0 t W) en := by
  have h0 := h
  obtain ⟨hx, hm, hr, he, k10, k81, k113⟩ := h0
  unfold fog_sortWays_0
  refine j_runA hx 1 (tb := [(0, .aload_n 0)]) (jtb_ok (by decide +kernel)) (pc' := 1) (lv' := [(0, vR t)]) (st' := [vR t]) rfl ?_
  refine j_gd (fun h1 => ?_)
  refine j_getR hx flX13_24 kl807 h1 (by decide) (by decide +kernel) ?_
  refine j_runA hx 1 (tb := [(4, .iconst 0)]) (jtb_ok (by decide +kernel)) (pc' := 5) (lv' := [(0, vR t)]) (st' := [vI (kI 0), vR (jR W 807 t)]) rfl ?_
  refine j_gd (fun h2 => ?_)
  refine j_putI hx fwX13_146 wf601 kd601 h2 (by decide) (by decide +kernel) (ni601 _) (fi601 _) ?_
  refine j_ltw rfl (fun W3 hc4 => ?_)
  have h5 : jC W3 t = 8 := (congrFun hc4 _).trans h1
  have h6 : jC W3 (jR W 807 t) = 6 := (congrFun hc4 _).trans h2
  refine j_runA hx 2 (tb := [(8, .iconst 0), (9, .istore_n 1)]) (jtb_ok (by decide +kernel)) (pc' := 10) (lv' := [(1, vI (kI 0)), (0, vR t)]) (st' := []) rfl ?_
  refine j_lv (lv' := [(0, vR t), (1, vI (kI 0))]) ⟨rfl, rfl, trivial⟩ ?_
  exact k10 (kI 0) W3
theorem cog_sortWays (t : Nat) (W : jW) : jM yX13_sortWays cX13_sortWays 3 (Option.none : Option Jvm.ClassFile.FieldType) [] 2 74 [vR t] W ((fog_sortWays t W).bind (fun q => some (.returned none, q))) := by
  refine jM.of (Nat.le_of_ble_eq_true rfl) (fun x hx hm hr => ?_)
  refine j_begin (P := (Sum.elim (fun s => (10, [(0, vR t), (1, vI s.1)], s.2)) (Sum.elim (fun s => (81, [(0, vR t), (1, vI s.1)], s.2)) (fun s => (113, [(0, vR t), (1, vI s.1)], s.2))))) (fun en he hk => ?_)
  have h : hog_sortWays x en t := ⟨hx, hm, hr, fun q => he _, fun l1 W => hk (.inl (l1, W)), fun l1 W => hk (.inr (.inl (l1, W))), fun l1 W => hk (.inr (.inr (l1, W)))⟩
  refine ⟨fun s => ?_, wog_sortWays h W⟩
  rcases s with s | s | s
  · exact wog_sortWays_10 h s.1 s.2
  · exact wog_sortWays_81 h s.1 s.2
  · exact wog_sortWays_113 h s.1 s.2
def hog_headOf (x : jCx) (en : (fog_headOf_S ⊕ (Int32 × jW)) → Option (Outcome × jW)) (t : Nat) (a1 : Int32) : Prop :=
  jOK x RX13 cX13_headOf 3 ∧
  jMt x "headOf" (Option.some Jvm.ClassFile.FieldType.int) [] ∧
  jRm x 0 0 ∧
  (∀ q : Int32 × jW, en (.inr q) = some (.returned (some (.int q.1)), q.2)) ∧
  (∀ (l2 : Int32) (W : jW), jJ x 3 2 [(0, vR t), (1, vI a1), (2, vI l2)] [] W (some (.inl (l2, W))) en)
theorem wog_headOf_2 {x : jCx} {en : (fog_headOf_S ⊕ (Int32 × jW)) → Option (Outcome × jW)} {t : Nat} {a1 : Int32} (h : hog_headOf x en t a1) (l2 : Int32) (W : jW) : jJ x 3 2 [(0, vR t), (1, vI a1), (2, vI l2)] [] W (fog_headOf_2 t a1 l2 W) en := by
  have h0 := h
  obtain ⟨hx, hm, hr, he, k2⟩ := h0
  unfold fog_headOf_2
  refine j_runA hx 1 (tb := [(2, .aload_n 0)]) (jtb_ok (by decide +kernel)) (pc' := 3) (lv' := [(0, vR t), (1, vI a1), (2, vI l2)]) (st' := [vR t]) rfl ?_
  refine j_gd (fun h2 => ?_)
  refine j_getR hx flX13_34 kl810 h2 (by decide) (by decide +kernel) ?_
  refine j_runA hx 1 (tb := [(6, .iload_n 2)]) (jtb_ok (by decide +kernel)) (pc' := 7) (lv' := [(0, vR t), (1, vI a1), (2, vI l2)]) (st' := [vI l2, vR (jR W 810 t)]) rfl ?_
  refine j_gd (fun h3 => ?_)
  refine j_iald hx (f := 810) (o := t) kd810 rfl (by decide +kernel) h3 ?_
  refine j_runA hx 1 (tb := [(8, .iload_n 2)]) (jtb_ok (by decide +kernel)) (pc' := 9) (lv' := [(0, vR t), (1, vI a1), (2, vI l2)]) (st' := [vI l2, vI (jA W 810 t (ix l2))]) rfl ?_
  refine j_icmp_eq hx (off := 30) (tgt := 39) (by decide +kernel) (by decide) (fun _ => ?_) (fun _ => ?_)
  · refine j_runA hx 1 (tb := [(39, .iload_n 2)]) (jtb_ok (by decide +kernel)) (pc' := 40) (lv' := [(0, vR t), (1, vI a1), (2, vI l2)]) (st' := [vI l2]) rfl ?_
    exact j_iret hx hm (by decide +kernel) rfl (he _)
  refine j_runA hx 1 (tb := [(12, .aload_n 0)]) (jtb_ok (by decide +kernel)) (pc' := 13) (lv' := [(0, vR t), (1, vI a1), (2, vI l2)]) (st' := [vR t]) rfl ?_
  refine j_getR hx flX13_34 kl810 h2 (by decide) (by decide +kernel) ?_
  refine j_runA hx 2 (tb := [(16, .iload_n 2), (17, .aload_n 0)]) (jtb_ok (by decide +kernel)) (pc' := 18) (lv' := [(0, vR t), (1, vI a1), (2, vI l2)]) (st' := [vR t, vI l2, vR (jR W 810 t)]) rfl ?_
  refine j_getR hx flX13_34 kl810 h2 (by decide) (by decide +kernel) ?_
  refine j_runA hx 1 (tb := [(21, .aload_n 0)]) (jtb_ok (by decide +kernel)) (pc' := 22) (lv' := [(0, vR t), (1, vI a1), (2, vI l2)]) (st' := [vR t, vR (jR W 810 t), vI l2, vR (jR W 810 t)]) rfl ?_
  refine j_getR hx flX13_34 kl810 h2 (by decide) (by decide +kernel) ?_
  refine j_runA hx 1 (tb := [(25, .iload_n 2)]) (jtb_ok (by decide +kernel)) (pc' := 26) (lv' := [(0, vR t), (1, vI a1), (2, vI l2)]) (st' := [vI l2, vR (jR W 810 t), vR (jR W 810 t), vI l2, vR (jR W 810 t)]) rfl ?_
  refine j_gd (fun h4 => ?_)
  refine j_iald hx (f := 810) (o := t) kd810 rfl (by decide +kernel) h4 ?_
  refine j_gd (fun h5 => ?_)
  refine j_iald hx (f := 810) (o := t) kd810 rfl (by decide +kernel) h5 ?_
  refine j_gd (fun h6 => ?_)
  refine j_iast hx (f := 810) (o := t) kd810 rfl (by decide +kernel) h6 ?_
  refine j_ltw rfl (fun W7 hc8 => ?_)
  have h9 : jC W7 t = 8 := (congrFun hc8 _).trans h2
  refine j_runA hx 1 (tb := [(29, .aload_n 0)]) (jtb_ok (by decide +kernel)) (pc' := 30) (lv' := [(0, vR t), (1, vI a1), (2, vI l2)]) (st' := [vR t]) rfl ?_
  refine j_getR hx flX13_34 kl810 h9 (by decide) (by decide +kernel) ?_
  refine j_runA hx 1 (tb := [(33, .iload_n 2)]) (jtb_ok (by decide +kernel)) (pc' := 34) (lv' := [(0, vR t), (1, vI a1), (2, vI l2)]) (st' := [vI l2, vR (jR W7 810 t)]) rfl ?_
  refine j_gd (fun h11 => ?_)
  refine j_iald hx (f := 810) (o := t) kd810 rfl (by decide +kernel) h11 ?_
  refine j_runA hx 1 (tb := [(35, .istore_n 2)]) (jtb_ok (by decide +kernel)) (pc' := 36) (lv' := [(2, vI (jA W7 810 t (ix l2))), (0, vR t), (1, vI a1)]) (st' := []) rfl ?_
  refine j_let (v := (jA W7 810 t (ix l2))) (lv := fun v12 => [(2, vI v12), (0, vR t), (1, vI a1)]) (st := fun _ => []) (fun v12 => ?_)
  refine j_goto hx (off := -34) (by decide +kernel) (tgt := 2) (by decide) ?_
  refine j_lv (lv' := [(0, vR t), (1, vI a1), (2, vI v12)]) ⟨rfl, rfl, rfl, trivial⟩ ?_
  exact k2 v12 W7
theorem wog_headOf {x : jCx} {en : (fog_headOf_S ⊕ (Int32 × jW)) → Option (Outcome × jW)} {t : Nat} {a1 : Int32} (h : hog_headOf x en t a1) (W : jW) : jJ x 3 0 [(0, vR t), (1, vI a1)] [] W (fog_headOf_0 t a1 W) en := by
  have h0 := h
  obtain ⟨hx, hm, hr, he, k2⟩ := h0
  unfold fog_headOf_0
  refine j_runA hx 2 (tb := [(0, .iload_n 1), (1, .istore_n 2)]) (jtb_ok (by decide +kernel)) (pc' := 2) (lv' := [(2, vI a1), (0, vR t), (1, vI a1)]) (st' := []) rfl ?_
  refine j_lv (lv' := [(0, vR t), (1, vI a1), (2, vI a1)]) ⟨rfl, rfl, rfl, trivial⟩ ?_
  exact k2 a1 W
theorem cog_headOf (t : Nat) (a1 : Int32) (W : jW) : jM yX13_headOf cX13_headOf 3 (Option.some Jvm.ClassFile.FieldType.int) [] 0 0 [vR t, vI a1] W ((fog_headOf t a1 W).bind (fun q => some (.returned (some (.int q.1)), q.2))) := by
  refine jM.of (Nat.le_of_ble_eq_true rfl) (fun x hx hm hr => ?_)
  refine j_begin (P := (fun s => (2, [(0, vR t), (1, vI a1), (2, vI s.1)], s.2))) (fun en he hk => ?_)
  have h : hog_headOf x en t a1 := ⟨hx, hm, hr, fun q => he _, fun l2 W => hk (l2, W)⟩
  exact ⟨fun s => wog_headOf_2 h s.1 s.2, wog_headOf h W⟩
def hog_chain (x : jCx) (en : (fog_chain_S ⊕ (jW)) → Option (Outcome × jW)) (t : Nat) : Prop :=
  jOK x RX13 cX13_chain 4 ∧
  jMt x "chain" (Option.none : Option Jvm.ClassFile.FieldType) [] ∧
  jRm x 3 88 ∧
  (∀ q : jW, en (.inr q) = some (.returned none, q)) ∧
  (∀ (l1 : Int32) (W : jW), jJ x 4 2 [(0, vR t), (1, vI l1)] [] W (some (.inl (.inl (l1, W)))) en) ∧
  (∀ (l1 : Int32) (W : jW), jJ x 4 53 [(0, vR t), (1, vI l1)] [] W (some (.inl (.inr (l1, W)))) en)
theorem wog_chain_188 {x : jCx} {en : (fog_chain_S ⊕ (jW)) → Option (Outcome × jW)} {t : Nat} (h : hog_chain x en t) (l1 : Int32) (W : jW) : jJ x 4 188 [(0, vR t), (1, vI l1)] [] W (fog_chain_188 t l1 W) en := by
  have h0 := h
  obtain ⟨hx, hm, hr, he, k2, k53⟩ := h0
  unfold fog_chain_188
  refine j_runA hx 1 (tb := [(188, .iinc 1 1)]) (jtb_ok (by decide +kernel)) (pc' := 191) (lv' := [(1, vI (l1 + (kI 1))), (0, vR t)]) (st' := []) rfl ?_
  refine j_let (v := (l1 + (kI 1))) (lv := fun v77 => [(1, vI v77), (0, vR t)]) (st := fun _ => []) (fun v77 => ?_)
  refine j_goto hx (off := -138) (by decide +kernel) (tgt := 53) (by decide) ?_
  refine j_lv (lv' := [(0, vR t), (1, vI v77)]) ⟨rfl, rfl, trivial⟩ ?_
  exact k53 v77 W
theorem wog_chain_53 {x : jCx} {en : (fog_chain_S ⊕ (jW)) → Option (Outcome × jW)} {t : Nat} (h : hog_chain x en t) (l1 : Int32) (W : jW) : jJ x 4 53 [(0, vR t), (1, vI l1)] [] W (fog_chain_53 t l1 W) en := by
  have h0 := h
  obtain ⟨hx, hm, hr, he, k2, k53⟩ := h0
  unfold fog_chain_53
  refine j_runA hx 2 (tb := [(53, .iload_n 1), (54, .aload_n 0)]) (jtb_ok (by decide +kernel)) (pc' := 55) (lv' := [(0, vR t), (1, vI l1)]) (st' := [vR t, vI l1]) rfl ?_
  refine j_gd (fun h32 => ?_)
  refine j_getR hx flX13_24 kl807 h32 (by decide) (by decide +kernel) ?_
  refine j_gd (fun h33 => ?_)
  refine j_getI hx flX13_146 kd601 h33 (by decide) (by decide +kernel) ?_
  refine j_icmp_ge hx (off := 133) (tgt := 194) (by decide +kernel) (by decide) (fun _ => ?_) (fun _ => ?_)
  · exact j_vret hx hm (by decide +kernel) (he _)
  refine j_runA hx 1 (tb := [(64, .aload_n 0)]) (jtb_ok (by decide +kernel)) (pc' := 65) (lv' := [(0, vR t), (1, vI l1)]) (st' := [vR t]) rfl ?_
  refine j_getR hx flX13_105 kl801 h32 (by decide) (by decide +kernel) ?_
  refine j_gd (fun h34 => ?_)
  refine j_getR hx flX13_133 kl700 h34 (by decide) (by decide +kernel) ?_
  refine j_gd (fun h35 => ?_)
  refine j_getR hx flX13_123 kl600 h35 (by decide) (by decide +kernel) ?_
  refine j_runA hx 1 (tb := [(74, .aload_n 0)]) (jtb_ok (by decide +kernel)) (pc' := 75) (lv' := [(0, vR t), (1, vI l1)]) (st' := [vR t, vR (jR W 600 (jR W 700 (jR W 801 t)))]) rfl ?_
  refine j_getR hx flX13_24 kl807 h32 (by decide) (by decide +kernel) ?_
  refine j_getR hx flX13_123 kl600 h33 (by decide) (by decide +kernel) ?_
  refine j_runA hx 1 (tb := [(81, .iload_n 1)]) (jtb_ok (by decide +kernel)) (pc' := 82) (lv' := [(0, vR t), (1, vI l1)]) (st' := [vI l1, vR (jR W 600 (jR W 807 t)), vR (jR W 600 (jR W 700 (jR W 801 t)))]) rfl ?_
  refine j_gd (fun h36 => ?_)
  refine j_iald hx (f := 600) (o := (jR W 807 t)) kd600 rfl (by decide +kernel) h36 ?_
  refine j_gd (fun h37 => ?_)
  refine j_iald hx (f := 600) (o := (jR W 700 (jR W 801 t))) kd600 rfl (by decide +kernel) h37 ?_
  refine j_runA hx 1 (tb := [(84, .istore_n 2)]) (jtb_ok (by decide +kernel)) (pc' := 85) (lv' := [(2, vI (jA W 600 (jR W 700 (jR W 801 t)) (ix (jA W 600 (jR W 807 t) (ix l1))))), (0, vR t), (1, vI l1)]) (st' := []) rfl ?_
  refine j_let (v := (jA W 600 (jR W 700 (jR W 801 t)) (ix (jA W 600 (jR W 807 t) (ix l1))))) (lv := fun v38 => [(2, vI v38), (0, vR t), (1, vI l1)]) (st := fun _ => []) (fun v38 => ?_)
  refine j_runA hx 1 (tb := [(85, .aload_n 0)]) (jtb_ok (by decide +kernel)) (pc' := 86) (lv' := [(2, vI v38), (0, vR t), (1, vI l1)]) (st' := [vR t]) rfl ?_
  refine j_getR hx flX13_105 kl801 h32 (by decide) (by decide +kernel) ?_
  refine j_getR hx flX13_120 kl701 h34 (by decide) (by decide +kernel) ?_
  refine j_gd (fun h39 => ?_)
  refine j_getR hx flX13_123 kl600 h39 (by decide) (by decide +kernel) ?_
  refine j_runA hx 1 (tb := [(95, .aload_n 0)]) (jtb_ok (by decide +kernel)) (pc' := 96) (lv' := [(2, vI v38), (0, vR t), (1, vI l1)]) (st' := [vR t, vR (jR W 600 (jR W 701 (jR W 801 t)))]) rfl ?_
  refine j_getR hx flX13_24 kl807 h32 (by decide) (by decide +kernel) ?_
  refine j_getR hx flX13_123 kl600 h33 (by decide) (by decide +kernel) ?_
  refine j_runA hx 1 (tb := [(102, .iload_n 1)]) (jtb_ok (by decide +kernel)) (pc' := 103) (lv' := [(2, vI v38), (0, vR t), (1, vI l1)]) (st' := [vI l1, vR (jR W 600 (jR W 807 t)), vR (jR W 600 (jR W 701 (jR W 801 t)))]) rfl ?_
  refine j_gd (fun h40 => ?_)
  refine j_iald hx (f := 600) (o := (jR W 807 t)) kd600 rfl (by decide +kernel) h40 ?_
  refine j_gd (fun h41 => ?_)
  refine j_iald hx (f := 600) (o := (jR W 701 (jR W 801 t))) kd600 rfl (by decide +kernel) h41 ?_
  refine j_runA hx 1 (tb := [(105, .istore_n 3)]) (jtb_ok (by decide +kernel)) (pc' := 106) (lv' := [(3, vI (jA W 600 (jR W 701 (jR W 801 t)) (ix (jA W 600 (jR W 807 t) (ix l1))))), (2, vI v38), (0, vR t), (1, vI l1)]) (st' := []) rfl ?_
  refine j_let (v := (jA W 600 (jR W 701 (jR W 801 t)) (ix (jA W 600 (jR W 807 t) (ix l1))))) (lv := fun v42 => [(3, vI v42), (2, vI v38), (0, vR t), (1, vI l1)]) (st := fun _ => []) (fun v42 => ?_)
  refine j_runA hx 1 (tb := [(106, .aload_n 0)]) (jtb_ok (by decide +kernel)) (pc' := 107) (lv' := [(3, vI v42), (2, vI v38), (0, vR t), (1, vI l1)]) (st' := [vR t]) rfl ?_
  refine j_getR hx flX13_28 kl808 h32 (by decide) (by decide +kernel) ?_
  refine j_runA hx 1 (tb := [(110, .iload_n 2)]) (jtb_ok (by decide +kernel)) (pc' := 111) (lv' := [(3, vI v42), (2, vI v38), (0, vR t), (1, vI l1)]) (st' := [vI v38, vR (jR W 808 t)]) rfl ?_
  refine j_gd (fun h43 => ?_)
  refine j_iald hx (f := 808) (o := t) kd808 rfl (by decide +kernel) h43 ?_
  refine j_if_ge hx (off := 76) (tgt := 188) (by decide +kernel) (by decide) (fun _ => ?_) (fun _ => ?_)
  · refine j_lv (lv' := [(0, vR t), (1, vI l1)]) ⟨rfl, rfl, trivial⟩ ?_
    exact wog_chain_188 h l1 W
  refine j_runA hx 1 (tb := [(115, .aload_n 0)]) (jtb_ok (by decide +kernel)) (pc' := 116) (lv' := [(3, vI v42), (2, vI v38), (0, vR t), (1, vI l1)]) (st' := [vR t]) rfl ?_
  refine j_getR hx flX13_31 kl809 h32 (by decide) (by decide +kernel) ?_
  refine j_runA hx 1 (tb := [(119, .iload_n 3)]) (jtb_ok (by decide +kernel)) (pc' := 120) (lv' := [(3, vI v42), (2, vI v38), (0, vR t), (1, vI l1)]) (st' := [vI v42, vR (jR W 809 t)]) rfl ?_
  refine j_gd (fun h44 => ?_)
  refine j_iald hx (f := 809) (o := t) kd809 rfl (by decide +kernel) h44 ?_
  refine j_if_ge hx (off := 67) (tgt := 188) (by decide +kernel) (by decide) (fun _ => ?_) (fun _ => ?_)
  · refine j_lv (lv' := [(0, vR t), (1, vI l1)]) ⟨rfl, rfl, trivial⟩ ?_
    exact wog_chain_188 h l1 W
  refine j_runA hx 2 (tb := [(124, .aload_n 0), (125, .iload_n 2)]) (jtb_ok (by decide +kernel)) (pc' := 126) (lv' := [(3, vI v42), (2, vI v38), (0, vR t), (1, vI l1)]) (st' := [vI v38, vR t]) rfl ?_
  refine j_WI (j_callV (av := [vI v38]) (st := []) hx hr (Or.inl q1721) q1723 qs39 rfl md_fog_headOf np_fog_headOf (cog_headOf t v38 W) (by decide) (Nat.le_of_ble_eq_true rfl) h32 (by decide) (by decide +kernel)) (fun q45 _ => ?_)
  refine j_runA hx 2 (tb := [(129, .aload_n 0), (130, .iload_n 3)]) (jtb_ok (by decide +kernel)) (pc' := 131) (lv' := [(3, vI v42), (2, vI v38), (0, vR t), (1, vI l1)]) (st' := [vI v42, vR t, vI q45.1]) rfl ?_
  refine j_gd (fun h47 => ?_)
  refine j_WI (j_callV (av := [vI v42]) (st := [vI q45.1]) hx hr (Or.inl q1721) q1723 qs39 rfl md_fog_headOf np_fog_headOf (cog_headOf t v42 q45.2) (by decide) (Nat.le_of_ble_eq_true rfl) h47 (by decide) (by decide +kernel)) (fun q48 _ => ?_)
  refine j_icmp_eq hx (off := 54) (tgt := 188) (by decide +kernel) (by decide) (fun _ => ?_) (fun _ => ?_)
  · refine j_lv (lv' := [(0, vR t), (1, vI l1)]) ⟨rfl, rfl, trivial⟩ ?_
    exact wog_chain_188 h l1 q48.2
  refine j_runA hx 2 (tb := [(137, .iload_n 3), (138, .aload_n 0)]) (jtb_ok (by decide +kernel)) (pc' := 139) (lv' := [(3, vI v42), (2, vI v38), (0, vR t), (1, vI l1)]) (st' := [vR t, vI v42]) rfl ?_
  refine j_gd (fun h50 => ?_)
  refine j_getR hx flX13_91 kl800 h50 (by decide) (by decide +kernel) ?_
  refine j_runA hx 1 (tb := [(142, .aload_n 0)]) (jtb_ok (by decide +kernel)) (pc' := 143) (lv' := [(3, vI v42), (2, vI v38), (0, vR t), (1, vI l1)]) (st' := [vR t, vR (jR q48.2 800 t), vI v42]) rfl ?_
  refine j_getR hx flX13_91 kl800 h50 (by decide) (by decide +kernel) ?_
  refine j_runA hx 1 (tb := [(146, .iload_n 3)]) (jtb_ok (by decide +kernel)) (pc' := 147) (lv' := [(3, vI v42), (2, vI v38), (0, vR t), (1, vI l1)]) (st' := [vI v42, vR (jR q48.2 800 t), vR (jR q48.2 800 t), vI v42]) rfl ?_
  refine j_gd (fun h51 => ?_)
  refine j_OI (j_callV (av := [vI v42]) (st := [vR (jR q48.2 800 t), vI v42]) hx hr (Or.inl q1725) q1629 q1630 rfl md_fpg_functionOf np_fpg_functionOf (cpg_functionOf (jR q48.2 800 t) v42 q48.2) (by decide) (Nat.le_of_ble_eq_true rfl) h51 (by decide) (by decide +kernel)) (fun q52 _ => ?_)
  refine j_OI (j_callV (av := [vI q52]) (st := [vI v42]) hx hr (Or.inl q1603) q1604 q1605 rfl md_fpg_firstBlock np_fpg_firstBlock (cpg_firstBlock (jR q48.2 800 t) q52 q48.2) (by decide) (Nat.le_of_ble_eq_true rfl) h51 (by decide) (by decide +kernel)) (fun q53 _ => ?_)
  refine j_icmp_ne hx (off := 6) (tgt := 159) (by decide +kernel) (by decide) (fun _ => ?_) (fun _ => ?_)
  · refine j_runA hx 1 (tb := [(159, .aload_n 0)]) (jtb_ok (by decide +kernel)) (pc' := 160) (lv' := [(3, vI v42), (2, vI v38), (0, vR t), (1, vI l1)]) (st' := [vR t]) rfl ?_
    refine j_getR hx flX13_28 kl808 h50 (by decide) (by decide +kernel) ?_
    refine j_runA hx 2 (tb := [(163, .iload_n 2), (164, .iload_n 3)]) (jtb_ok (by decide +kernel)) (pc' := 165) (lv' := [(3, vI v42), (2, vI v38), (0, vR t), (1, vI l1)]) (st' := [vI v42, vI v38, vR (jR q48.2 808 t)]) rfl ?_
    refine j_gd (fun h54 => ?_)
    refine j_iast hx (f := 808) (o := t) kd808 rfl (by decide +kernel) h54 ?_
    refine j_ltw rfl (fun W55 hc56 => ?_)
    have h57 : jC W55 t = 8 := (congrFun hc56 _).trans h50
    have h58 : jC W55 (jR q48.2 800 t) = 2 := (congrFun hc56 _).trans h51
    refine j_runA hx 1 (tb := [(166, .aload_n 0)]) (jtb_ok (by decide +kernel)) (pc' := 167) (lv' := [(3, vI v42), (2, vI v38), (0, vR t), (1, vI l1)]) (st' := [vR t]) rfl ?_
    refine j_getR hx flX13_31 kl809 h57 (by decide) (by decide +kernel) ?_
    refine j_runA hx 2 (tb := [(170, .iload_n 3), (171, .iload_n 2)]) (jtb_ok (by decide +kernel)) (pc' := 172) (lv' := [(3, vI v42), (2, vI v38), (0, vR t), (1, vI l1)]) (st' := [vI v38, vI v42, vR (jR W55 809 t)]) rfl ?_
    refine j_gd (fun h60 => ?_)
    refine j_iast hx (f := 809) (o := t) kd809 rfl (by decide +kernel) h60 ?_
    refine j_ltw rfl (fun W61 hc62 => ?_)
    have h63 : jC W61 t = 8 := (congrFun hc62 _).trans h57
    have h64 : jC W61 (jR q48.2 800 t) = 2 := (congrFun hc62 _).trans h58
    refine j_runA hx 1 (tb := [(173, .aload_n 0)]) (jtb_ok (by decide +kernel)) (pc' := 174) (lv' := [(3, vI v42), (2, vI v38), (0, vR t), (1, vI l1)]) (st' := [vR t]) rfl ?_
    refine j_getR hx flX13_34 kl810 h63 (by decide) (by decide +kernel) ?_
    refine j_runA hx 2 (tb := [(177, .aload_n 0), (178, .iload_n 3)]) (jtb_ok (by decide +kernel)) (pc' := 179) (lv' := [(3, vI v42), (2, vI v38), (0, vR t), (1, vI l1)]) (st' := [vI v42, vR t, vR (jR W61 810 t)]) rfl ?_
    refine j_WI (j_callV (av := [vI v42]) (st := [vR (jR W61 810 t)]) hx hr (Or.inl q1721) q1723 qs39 rfl md_fog_headOf np_fog_headOf (cog_headOf t v42 W61) (by decide) (Nat.le_of_ble_eq_true rfl) h63 (by decide) (by decide +kernel)) (fun q66 _ => ?_)
    refine j_runA hx 2 (tb := [(182, .aload_n 0), (183, .iload_n 2)]) (jtb_ok (by decide +kernel)) (pc' := 184) (lv' := [(3, vI v42), (2, vI v38), (0, vR t), (1, vI l1)]) (st' := [vI v38, vR t, vI q66.1, vR (jR W61 810 t)]) rfl ?_
    refine j_gd (fun h68 => ?_)
    refine j_WI (j_callV (av := [vI v38]) (st := [vI q66.1, vR (jR W61 810 t)]) hx hr (Or.inl q1721) q1723 qs39 rfl md_fog_headOf np_fog_headOf (cog_headOf t v38 q66.2) (by decide) (Nat.le_of_ble_eq_true rfl) h68 (by decide) (by decide +kernel)) (fun q69 _ => ?_)
    refine j_gd (fun h71 => ?_)
    refine j_gd (fun h72 => ?_)
    refine j_iast hx (f := 810) (o := t) kd810 h71 (by decide +kernel) h72 ?_
    refine j_ltw rfl (fun W73 hc74 => ?_)
    refine j_lv (lv' := [(0, vR t), (1, vI l1)]) ⟨rfl, rfl, trivial⟩ ?_
    exact wog_chain_188 h l1 W73
  refine j_goto hx (off := 32) (by decide +kernel) (tgt := 188) (by decide) ?_
  refine j_lv (lv' := [(0, vR t), (1, vI l1)]) ⟨rfl, rfl, trivial⟩ ?_
  exact wog_chain_188 h l1 q48.2
theorem wog_chain_2 {x : jCx} {en : (fog_chain_S ⊕ (jW)) → Option (Outcome × jW)} {t : Nat} (h : hog_chain x en t) (l1 : Int32) (W : jW) : jJ x 4 2 [(0, vR t), (1, vI l1)] [] W (fog_chain_2 t l1 W) en := by
  have h0 := h
  obtain ⟨hx, hm, hr, he, k2, k53⟩ := h0
  unfold fog_chain_2
  refine j_runA hx 2 (tb := [(2, .iload_n 1), (3, .aload_n 0)]) (jtb_ok (by decide +kernel)) (pc' := 4) (lv' := [(0, vR t), (1, vI l1)]) (st' := [vR t, vI l1]) rfl ?_
  refine j_gd (fun h2 => ?_)
  refine j_getR hx flX13_91 kl800 h2 (by decide) (by decide +kernel) ?_
  refine j_gd (fun h3 => ?_)
  refine j_getI hx flX13_95 kd217 h3 (by decide) (by decide +kernel) ?_
  refine j_icmp_ge hx (off := 37) (tgt := 47) (by decide +kernel) (by decide) (fun _ => ?_) (fun _ => ?_)
  · refine j_runA hx 1 (tb := [(47, .aload_n 0)]) (jtb_ok (by decide +kernel)) (pc' := 48) (lv' := [(0, vR t), (1, vI l1)]) (st' := [vR t]) rfl ?_
    refine j_WV (j_callV (av := []) (st := []) hx hr (Or.inl q1704) q1706 qs36 rfl md_fog_sortWays np_fog_sortWays (cog_sortWays t W) (by decide) (Nat.le_of_ble_eq_true rfl) h2 (by decide) (by decide +kernel)) (fun q4 _ => ?_)
    refine j_runA hx 2 (tb := [(51, .iconst 0), (52, .istore_n 1)]) (jtb_ok (by decide +kernel)) (pc' := 53) (lv' := [(1, vI (kI 0)), (0, vR t)]) (st' := []) rfl ?_
    refine j_lv (lv' := [(0, vR t), (1, vI (kI 0))]) ⟨rfl, rfl, trivial⟩ ?_
    exact k53 (kI 0) q4
  refine j_runA hx 1 (tb := [(13, .aload_n 0)]) (jtb_ok (by decide +kernel)) (pc' := 14) (lv' := [(0, vR t), (1, vI l1)]) (st' := [vR t]) rfl ?_
  refine j_getR hx flX13_28 kl808 h2 (by decide) (by decide +kernel) ?_
  refine j_runA hx 2 (tb := [(17, .iload_n 1), (18, .iconst (-1))]) (jtb_ok (by decide +kernel)) (pc' := 19) (lv' := [(0, vR t), (1, vI l1)]) (st' := [vI (kI (-1)), vI l1, vR (jR W 808 t)]) rfl ?_
  refine j_gd (fun h6 => ?_)
  refine j_iast hx (f := 808) (o := t) kd808 rfl (by decide +kernel) h6 ?_
  refine j_ltw rfl (fun W7 hc8 => ?_)
  have h9 : jC W7 t = 8 := (congrFun hc8 _).trans h2
  have h10 : jC W7 (jR W 800 t) = 2 := (congrFun hc8 _).trans h3
  refine j_runA hx 1 (tb := [(20, .aload_n 0)]) (jtb_ok (by decide +kernel)) (pc' := 21) (lv' := [(0, vR t), (1, vI l1)]) (st' := [vR t]) rfl ?_
  refine j_getR hx flX13_31 kl809 h9 (by decide) (by decide +kernel) ?_
  refine j_runA hx 2 (tb := [(24, .iload_n 1), (25, .iconst (-1))]) (jtb_ok (by decide +kernel)) (pc' := 26) (lv' := [(0, vR t), (1, vI l1)]) (st' := [vI (kI (-1)), vI l1, vR (jR W7 809 t)]) rfl ?_
  refine j_gd (fun h12 => ?_)
  refine j_iast hx (f := 809) (o := t) kd809 rfl (by decide +kernel) h12 ?_
  refine j_ltw rfl (fun W13 hc14 => ?_)
  have h15 : jC W13 t = 8 := (congrFun hc14 _).trans h9
  have h16 : jC W13 (jR W 800 t) = 2 := (congrFun hc14 _).trans h10
  refine j_runA hx 1 (tb := [(27, .aload_n 0)]) (jtb_ok (by decide +kernel)) (pc' := 28) (lv' := [(0, vR t), (1, vI l1)]) (st' := [vR t]) rfl ?_
  refine j_getR hx flX13_34 kl810 h15 (by decide) (by decide +kernel) ?_
  refine j_runA hx 2 (tb := [(31, .iload_n 1), (32, .iload_n 1)]) (jtb_ok (by decide +kernel)) (pc' := 33) (lv' := [(0, vR t), (1, vI l1)]) (st' := [vI l1, vI l1, vR (jR W13 810 t)]) rfl ?_
  refine j_gd (fun h18 => ?_)
  refine j_iast hx (f := 810) (o := t) kd810 rfl (by decide +kernel) h18 ?_
  refine j_ltw rfl (fun W19 hc20 => ?_)
  have h21 : jC W19 t = 8 := (congrFun hc20 _).trans h15
  have h22 : jC W19 (jR W 800 t) = 2 := (congrFun hc20 _).trans h16
  refine j_runA hx 1 (tb := [(34, .aload_n 0)]) (jtb_ok (by decide +kernel)) (pc' := 35) (lv' := [(0, vR t), (1, vI l1)]) (st' := [vR t]) rfl ?_
  refine j_getR hx flX13_37 kl811 h21 (by decide) (by decide +kernel) ?_
  refine j_runA hx 2 (tb := [(38, .iload_n 1), (39, .iconst 0)]) (jtb_ok (by decide +kernel)) (pc' := 40) (lv' := [(0, vR t), (1, vI l1)]) (st' := [vI (kI 0), vI l1, vR (jR W19 811 t)]) rfl ?_
  refine j_gd (fun h24 => ?_)
  refine j_zast hx (f := 811) (o := t) kd811 rfl (by decide +kernel) h24 ?_
  refine j_ltw rfl (fun W25 hc26 => ?_)
  have h27 : jC W25 t = 8 := (congrFun hc26 _).trans h21
  have h28 : jC W25 (jR W 800 t) = 2 := (congrFun hc26 _).trans h22
  refine j_runA hx 1 (tb := [(41, .iinc 1 1)]) (jtb_ok (by decide +kernel)) (pc' := 44) (lv' := [(1, vI (l1 + (kI 1))), (0, vR t)]) (st' := []) rfl ?_
  refine j_let (v := (l1 + (kI 1))) (lv := fun v30 => [(1, vI v30), (0, vR t)]) (st := fun _ => []) (fun v30 => ?_)
  refine j_goto hx (off := -42) (by decide +kernel) (tgt := 2) (by decide) ?_
  refine j_lv (lv' := [(0, vR t), (1, vI v30)]) ⟨rfl, rfl, trivial⟩ ?_
  exact k2 v30 W25
theorem wog_chain {x : jCx} {en : (fog_chain_S ⊕ (jW)) → Option (Outcome × jW)} {t : Nat} (h : hog_chain x en t) (W : jW) : jJ x 4 0 [(0, vR t)] [] W (fog_chain_0 t W) en := by
  have h0 := h
  obtain ⟨hx, hm, hr, he, k2, k53⟩ := h0
  unfold fog_chain_0
  refine j_runA hx 2 (tb := [(0, .iconst 0), (1, .istore_n 1)]) (jtb_ok (by decide +kernel)) (pc' := 2) (lv' := [(1, vI (kI 0)), (0, vR t)]) (st' := []) rfl ?_
  refine j_lv (lv' := [(0, vR t), (1, vI (kI 0))]) ⟨rfl, rfl, trivial⟩ ?_
  exact k2 (kI 0) W
theorem cog_chain (t : Nat) (W : jW) : jM yX13_chain cX13_chain 4 (Option.none : Option Jvm.ClassFile.FieldType) [] 3 88 [vR t] W ((fog_chain t W).bind (fun q => some (.returned none, q))) := by
  refine jM.of (Nat.le_of_ble_eq_true rfl) (fun x hx hm hr => ?_)
  refine j_begin (P := (Sum.elim (fun s => (2, [(0, vR t), (1, vI s.1)], s.2)) (fun s => (53, [(0, vR t), (1, vI s.1)], s.2)))) (fun en he hk => ?_)
  have h : hog_chain x en t := ⟨hx, hm, hr, fun q => he _, fun l1 W => hk (.inl (l1, W)), fun l1 W => hk (.inr (l1, W))⟩
  refine ⟨fun s => ?_, wog_chain h W⟩
  rcases s with s | s
  · exact wog_chain_2 h s.1 s.2
  · exact wog_chain_53 h s.1 s.2
def hpg_blockCount (x : jCx) (en : (Int32) → Option (Outcome × jW)) (t : Nat) (a1 : Int32) (W : jW) : Prop :=
  jOK x RX1 cX1_blockCount 2 ∧
  jMt x "blockCount" (Option.some Jvm.ClassFile.FieldType.int) [] ∧
  jRm x 0 0 ∧
  (∀ q : Int32, en q = some (.returned (some (.int q)), W))
theorem wpg_blockCount_31 {x : jCx} {en : (Int32) → Option (Outcome × jW)} {W : jW} {t : Nat} {a1 : Int32} (h : hpg_blockCount x en t a1 W) (s0 : Int32) : jJ x 2 31 [(0, vR t), (1, vI a1)] [vI s0] W (fpg_blockCount_31 t a1 s0 W) en := by
  have h0 := h
  obtain ⟨hx, hm, hr, he⟩ := h0
  unfold fpg_blockCount_31
  refine j_runA hx 1 (tb := [(31, .aload_n 0)]) (jtb_ok (by decide +kernel)) (pc' := 32) (lv' := [(0, vR t), (1, vI a1)]) (st' := [vR t, vI s0]) rfl ?_
  refine j_gd (fun h6 => ?_)
  refine j_getR hx flX1_59 kl211 h6 (by decide) (by decide +kernel) ?_
  refine j_gd (fun h7 => ?_)
  refine j_getR hx flX1_166 kl600 h7 (by decide) (by decide +kernel) ?_
  refine j_runA hx 1 (tb := [(38, .iload_n 1)]) (jtb_ok (by decide +kernel)) (pc' := 39) (lv' := [(0, vR t), (1, vI a1)]) (st' := [vI a1, vR (jR W 600 (jR W 211 t)), vI s0]) rfl ?_
  refine j_gd (fun h8 => ?_)
  refine j_iald hx (f := 600) (o := (jR W 211 t)) kd600 rfl (by decide +kernel) h8 ?_
  refine j_runA hx 1 (tb := [(40, .isub)]) (jtb_ok (by decide +kernel)) (pc' := 41) (lv' := [(0, vR t), (1, vI a1)]) (st' := [vI (s0 - (jA W 600 (jR W 211 t) (ix a1)))]) rfl ?_
  exact j_iret hx hm (by decide +kernel) rfl (he _)
theorem wpg_blockCount {x : jCx} {en : (Int32) → Option (Outcome × jW)} {W : jW} {t : Nat} {a1 : Int32} (h : hpg_blockCount x en t a1 W) : jJ x 2 0 [(0, vR t), (1, vI a1)] [] W (fpg_blockCount t a1 W) en := by
  have h0 := h
  obtain ⟨hx, hm, hr, he⟩ := h0
  unfold fpg_blockCount
  refine j_runA hx 4 (tb := [(0, .iload_n 1), (1, .iconst 1), (2, .iadd), (3, .aload_n 0)]) (jtb_ok (by decide +kernel)) (pc' := 4) (lv' := [(0, vR t), (1, vI a1)]) (st' := [vR t, vI (a1 + (kI 1))]) rfl ?_
  refine j_gd (fun h1 => ?_)
  refine j_getR hx flX1_52 kl209 h1 (by decide) (by decide +kernel) ?_
  refine j_gd (fun h2 => ?_)
  refine j_getI hx flX1_90 kd601 h2 (by decide) (by decide +kernel) ?_
  refine j_icmp_ge hx (off := 17) (tgt := 27) (by decide +kernel) (by decide) (fun _ => ?_) (fun _ => ?_)
  · refine j_runA hx 1 (tb := [(27, .aload_n 0)]) (jtb_ok (by decide +kernel)) (pc' := 28) (lv' := [(0, vR t), (1, vI a1)]) (st' := [vR t]) rfl ?_
    refine j_getI hx flX1_261 kd217 h1 (by decide) (by decide +kernel) ?_
    exact wpg_blockCount_31 h (jI W 217 t)
  refine j_runA hx 1 (tb := [(13, .aload_n 0)]) (jtb_ok (by decide +kernel)) (pc' := 14) (lv' := [(0, vR t), (1, vI a1)]) (st' := [vR t]) rfl ?_
  refine j_getR hx flX1_59 kl211 h1 (by decide) (by decide +kernel) ?_
  refine j_gd (fun h3 => ?_)
  refine j_getR hx flX1_166 kl600 h3 (by decide) (by decide +kernel) ?_
  refine j_runA hx 3 (tb := [(20, .iload_n 1), (21, .iconst 1), (22, .iadd)]) (jtb_ok (by decide +kernel)) (pc' := 23) (lv' := [(0, vR t), (1, vI a1)]) (st' := [vI (a1 + (kI 1)), vR (jR W 600 (jR W 211 t))]) rfl ?_
  refine j_gd (fun h4 => ?_)
  refine j_iald hx (f := 600) (o := (jR W 211 t)) kd600 rfl (by decide +kernel) h4 ?_
  refine j_goto hx (off := 7) (by decide +kernel) (tgt := 31) (by decide) ?_
  exact wpg_blockCount_31 h (jA W 600 (jR W 211 t) (ix (a1 + (kI 1))))
theorem cpg_blockCount (t : Nat) (a1 : Int32) (W : jW) : jM yX1_blockCount cX1_blockCount 2 (Option.some Jvm.ClassFile.FieldType.int) [] 0 0 [vR t, vI a1] W ((fpg_blockCount t a1 W).bind (fun q => some (.returned (some (.int q)), W))) := 
  jM.of (Nat.le_of_ble_eq_true rfl) (fun x hx hm hr => wpg_blockCount ⟨hx, hm, hr, fun _ => rfl⟩)
def hog_isMet (x : jCx) (en : (fog_isMet_S ⊕ (Int32)) → Option (Outcome × jW)) (t : Nat) (a1 : Int32) (W : jW) : Prop :=
  jOK x RX13 cX13_isMet 3 ∧
  jMt x "isMet" (Option.some Jvm.ClassFile.FieldType.boolean) [] ∧
  jRm x 0 0 ∧
  (∀ q : Int32, en (.inr q) = some (.returned (some (.int q)), W)) ∧
  (∀ (l2 : Int32), jJ x 3 2 [(0, vR t), (1, vI a1), (2, vI l2)] [] W (some (.inl l2)) en)
theorem wog_isMet_2 {x : jCx} {en : (fog_isMet_S ⊕ (Int32)) → Option (Outcome × jW)} {W : jW} {t : Nat} {a1 : Int32} (h : hog_isMet x en t a1 W) (l2 : Int32) : jJ x 3 2 [(0, vR t), (1, vI a1), (2, vI l2)] [] W (fog_isMet_2 t a1 l2 W) en := by
  have h0 := h
  obtain ⟨hx, hm, hr, he, k2⟩ := h0
  unfold fog_isMet_2
  refine j_runA hx 2 (tb := [(2, .iload_n 2), (3, .aload_n 0)]) (jtb_ok (by decide +kernel)) (pc' := 4) (lv' := [(0, vR t), (1, vI a1), (2, vI l2)]) (st' := [vR t, vI l2]) rfl ?_
  refine j_gd (fun h2 => ?_)
  refine j_getR hx flX13_88 kl828 h2 (by decide) (by decide +kernel) ?_
  refine j_gd (fun h3 => ?_)
  refine j_getI hx flX13_146 kd601 h3 (by decide) (by decide +kernel) ?_
  refine j_icmp_ge hx (off := 24) (tgt := 34) (by decide +kernel) (by decide) (fun _ => ?_) (fun _ => ?_)
  · refine j_runA hx 1 (tb := [(34, .iconst 0)]) (jtb_ok (by decide +kernel)) (pc' := 35) (lv' := [(0, vR t), (1, vI a1), (2, vI l2)]) (st' := [vI (kI 0)]) rfl ?_
    exact j_iret hx hm (by decide +kernel) jz0n (he _)
  refine j_runA hx 1 (tb := [(13, .aload_n 0)]) (jtb_ok (by decide +kernel)) (pc' := 14) (lv' := [(0, vR t), (1, vI a1), (2, vI l2)]) (st' := [vR t]) rfl ?_
  refine j_getR hx flX13_88 kl828 h2 (by decide) (by decide +kernel) ?_
  refine j_getR hx flX13_123 kl600 h3 (by decide) (by decide +kernel) ?_
  refine j_runA hx 1 (tb := [(20, .iload_n 2)]) (jtb_ok (by decide +kernel)) (pc' := 21) (lv' := [(0, vR t), (1, vI a1), (2, vI l2)]) (st' := [vI l2, vR (jR W 600 (jR W 828 t))]) rfl ?_
  refine j_gd (fun h4 => ?_)
  refine j_iald hx (f := 600) (o := (jR W 828 t)) kd600 rfl (by decide +kernel) h4 ?_
  refine j_runA hx 1 (tb := [(22, .iload_n 1)]) (jtb_ok (by decide +kernel)) (pc' := 23) (lv' := [(0, vR t), (1, vI a1), (2, vI l2)]) (st' := [vI a1, vI (jA W 600 (jR W 828 t) (ix l2))]) rfl ?_
  refine j_icmp_ne hx (off := 5) (tgt := 28) (by decide +kernel) (by decide) (fun _ => ?_) (fun _ => ?_)
  · refine j_runA hx 1 (tb := [(28, .iinc 2 1)]) (jtb_ok (by decide +kernel)) (pc' := 31) (lv' := [(2, vI (l2 + (kI 1))), (0, vR t), (1, vI a1)]) (st' := []) rfl ?_
    refine j_let (v := (l2 + (kI 1))) (lv := fun v5 => [(2, vI v5), (0, vR t), (1, vI a1)]) (st := fun _ => []) (fun v5 => ?_)
    refine j_goto hx (off := -29) (by decide +kernel) (tgt := 2) (by decide) ?_
    refine j_lv (lv' := [(0, vR t), (1, vI a1), (2, vI v5)]) ⟨rfl, rfl, rfl, trivial⟩ ?_
    exact k2 v5
  refine j_runA hx 1 (tb := [(26, .iconst 1)]) (jtb_ok (by decide +kernel)) (pc' := 27) (lv' := [(0, vR t), (1, vI a1), (2, vI l2)]) (st' := [vI (kI 1)]) rfl ?_
  exact j_iret hx hm (by decide +kernel) jz1n (he _)
theorem wog_isMet {x : jCx} {en : (fog_isMet_S ⊕ (Int32)) → Option (Outcome × jW)} {W : jW} {t : Nat} {a1 : Int32} (h : hog_isMet x en t a1 W) : jJ x 3 0 [(0, vR t), (1, vI a1)] [] W (fog_isMet_0 t a1 W) en := by
  have h0 := h
  obtain ⟨hx, hm, hr, he, k2⟩ := h0
  unfold fog_isMet_0
  refine j_runA hx 2 (tb := [(0, .iconst 0), (1, .istore_n 2)]) (jtb_ok (by decide +kernel)) (pc' := 2) (lv' := [(2, vI (kI 0)), (0, vR t), (1, vI a1)]) (st' := []) rfl ?_
  refine j_lv (lv' := [(0, vR t), (1, vI a1), (2, vI (kI 0))]) ⟨rfl, rfl, rfl, trivial⟩ ?_
  exact k2 (kI 0)
theorem cog_isMet (t : Nat) (a1 : Int32) (W : jW) : jM yX13_isMet cX13_isMet 3 (Option.some Jvm.ClassFile.FieldType.boolean) [] 0 0 [vR t, vI a1] W ((fog_isMet t a1 W).bind (fun q => some (.returned (some (.int q)), W))) := by
  refine jM.of (Nat.le_of_ble_eq_true rfl) (fun x hx hm hr => ?_)
  refine j_begin (P := (fun s => (2, [(0, vR t), (1, vI a1), (2, vI s)], W))) (fun en he hk => ?_)
  have h : hog_isMet x en t a1 W := ⟨hx, hm, hr, fun q => he _, fun l2 => hk l2⟩
  exact ⟨fun s => wog_isMet_2 h s, wog_isMet h⟩
def hog_putChain (x : jCx) (en : (fog_putChain_S ⊕ (Int32 × jW)) → Option (Outcome × jW)) (t : Nat) (a1 : Int32) (a2 : Int32) : Prop :=
  jOK x RX13 cX13_putChain 7 ∧
  jMt x "putChain" (Option.some Jvm.ClassFile.FieldType.int) [] ∧
  jRm x 1 15 ∧
  (∀ q : Int32 × jW, en (.inr q) = some (.returned (some (.int q.1)), q.2)) ∧
  (∀ (l3 : Int32) (l4 : Int32) (W : jW), jJ x 7 5 [(0, vR t), (1, vI a1), (2, vI a2), (3, vI l3), (4, vI l4)] [] W (some (.inl (.inl (l3, l4, W)))) en) ∧
  (∀ (l3 : Int32) (l4 : Int32) (W : jW), jJ x 7 44 [(0, vR t), (1, vI a1), (2, vI a2), (3, vI l3), (4, vI l4)] [] W (some (.inl (.inr (l3, l4, W)))) en)
theorem wog_putChain_174 {x : jCx} {en : (fog_putChain_S ⊕ (Int32 × jW)) → Option (Outcome × jW)} {t : Nat} {a1 : Int32} {a2 : Int32} (h : hog_putChain x en t a1 a2) (l3 : Int32) (l4 : Int32) (W : jW) : jJ x 7 174 [(0, vR t), (1, vI a1), (2, vI a2), (3, vI l3), (4, vI l4)] [] W (fog_putChain_174 t a1 a2 l3 l4 W) en := by
  have h0 := h
  obtain ⟨hx, hm, hr, he, k5, k44⟩ := h0
  unfold fog_putChain_174
  refine j_runA hx 1 (tb := [(174, .iinc 4 1)]) (jtb_ok (by decide +kernel)) (pc' := 177) (lv' := [(4, vI (l4 + (kI 1))), (0, vR t), (1, vI a1), (2, vI a2), (3, vI l3)]) (st' := []) rfl ?_
  refine j_let (v := (l4 + (kI 1))) (lv := fun v65 => [(4, vI v65), (0, vR t), (1, vI a1), (2, vI a2), (3, vI l3)]) (st := fun _ => []) (fun v65 => ?_)
  refine j_goto hx (off := -133) (by decide +kernel) (tgt := 44) (by decide) ?_
  refine j_lv (lv' := [(0, vR t), (1, vI a1), (2, vI a2), (3, vI l3), (4, vI v65)]) ⟨rfl, rfl, rfl, rfl, rfl, trivial⟩ ?_
  exact k44 l3 v65 W
theorem wog_putChain_130 {x : jCx} {en : (fog_putChain_S ⊕ (Int32 × jW)) → Option (Outcome × jW)} {t : Nat} {a1 : Int32} {a2 : Int32} (h : hog_putChain x en t a1 a2) (l3 : Int32) (l4 : Int32) (l5 : Int32) (l6 : Int32) (W : jW) : jJ x 7 130 [(0, vR t), (1, vI a1), (2, vI a2), (3, vI l3), (4, vI l4), (5, vI l5), (6, vI l6)] [] W (fog_putChain_130 t a1 a2 l3 l4 l5 l6 W) en := by
  have h0 := h
  obtain ⟨hx, hm, hr, he, k5, k44⟩ := h0
  unfold fog_putChain_130
  refine j_runA hx 2 (tb := [(130, .aload_n 0), (131, .iload 6)]) (jtb_ok (by decide +kernel)) (pc' := 133) (lv' := [(0, vR t), (1, vI a1), (2, vI a2), (3, vI l3), (4, vI l4), (5, vI l5), (6, vI l6)]) (st' := [vI l6, vR t]) rfl ?_
  refine j_gd (fun h45 => ?_)
  refine j_WI (j_callV (av := [vI l6]) (st := []) hx hr (Or.inl q1721) q1723 qs39 rfl md_fog_headOf np_fog_headOf (cog_headOf t l6 W) (by decide) (Nat.le_of_ble_eq_true rfl) h45 (by decide) (by decide +kernel)) (fun q46 _ => ?_)
  refine j_runA hx 1 (tb := [(136, .iload_n 1)]) (jtb_ok (by decide +kernel)) (pc' := 137) (lv' := [(0, vR t), (1, vI a1), (2, vI a2), (3, vI l3), (4, vI l4), (5, vI l5), (6, vI l6)]) (st' := [vI a1, vI q46.1]) rfl ?_
  refine j_icmp_ne hx (off := 37) (tgt := 174) (by decide +kernel) (by decide) (fun _ => ?_) (fun _ => ?_)
  · refine j_lv (lv' := [(0, vR t), (1, vI a1), (2, vI a2), (3, vI l3), (4, vI l4)]) ⟨rfl, rfl, rfl, rfl, rfl, trivial⟩ ?_
    exact wog_putChain_174 h l3 l4 q46.2
  refine j_runA hx 1 (tb := [(140, .aload_n 0)]) (jtb_ok (by decide +kernel)) (pc' := 141) (lv' := [(0, vR t), (1, vI a1), (2, vI a2), (3, vI l3), (4, vI l4), (5, vI l5), (6, vI l6)]) (st' := [vR t]) rfl ?_
  refine j_gd (fun h48 => ?_)
  refine j_getR hx flX13_37 kl811 h48 (by decide) (by decide +kernel) ?_
  refine j_runA hx 1 (tb := [(144, .iload 5)]) (jtb_ok (by decide +kernel)) (pc' := 146) (lv' := [(0, vR t), (1, vI a1), (2, vI a2), (3, vI l3), (4, vI l4), (5, vI l5), (6, vI l6)]) (st' := [vI l5, vR (jR q46.2 811 t)]) rfl ?_
  refine j_gd (fun h49 => ?_)
  refine j_zald hx (f := 811) (o := t) kd811 rfl (by decide +kernel) h49 ?_
  refine j_if_ne hx (off := 27) (tgt := 174) (by decide +kernel) (by decide) (fun _ => ?_) (fun _ => ?_)
  · refine j_lv (lv' := [(0, vR t), (1, vI a1), (2, vI a2), (3, vI l3), (4, vI l4)]) ⟨rfl, rfl, rfl, rfl, rfl, trivial⟩ ?_
    exact wog_putChain_174 h l3 l4 q46.2
  refine j_runA hx 1 (tb := [(150, .aload_n 0)]) (jtb_ok (by decide +kernel)) (pc' := 151) (lv' := [(0, vR t), (1, vI a1), (2, vI a2), (3, vI l3), (4, vI l4), (5, vI l5), (6, vI l6)]) (st' := [vR t]) rfl ?_
  refine j_getR hx flX13_73 kl823 h48 (by decide) (by decide +kernel) ?_
  refine j_runA hx 2 (tb := [(154, .aload_n 0), (155, .iload 5)]) (jtb_ok (by decide +kernel)) (pc' := 157) (lv' := [(0, vR t), (1, vI a1), (2, vI a2), (3, vI l3), (4, vI l4), (5, vI l5), (6, vI l6)]) (st' := [vI l5, vR t, vR (jR q46.2 823 t)]) rfl ?_
  refine j_WI (j_callV (av := [vI l5]) (st := [vR (jR q46.2 823 t)]) hx hr (Or.inl q1721) q1723 qs39 rfl md_fog_headOf np_fog_headOf (cog_headOf t l5 q46.2) (by decide) (Nat.le_of_ble_eq_true rfl) h48 (by decide) (by decide +kernel)) (fun q50 _ => ?_)
  refine j_runA hx 1 (tb := [(160, .dup2)]) (jtb_ok (by decide +kernel)) (pc' := 161) (lv' := [(0, vR t), (1, vI a1), (2, vI a2), (3, vI l3), (4, vI l4), (5, vI l5), (6, vI l6)]) (st' := [vI q50.1, vR (jR q46.2 823 t), vI q50.1, vR (jR q46.2 823 t)]) rfl ?_
  refine j_gd (fun h52 => ?_)
  refine j_gd (fun h53 => ?_)
  refine j_lald hx (f := 823) (o := t) kd823 h52 (by decide +kernel) h53 ?_
  refine j_runA hx 1 (tb := [(162, .aload_n 0)]) (jtb_ok (by decide +kernel)) (pc' := 163) (lv' := [(0, vR t), (1, vI a1), (2, vI a2), (3, vI l3), (4, vI l4), (5, vI l5), (6, vI l6)]) (st' := [vR t, vL (jB q50.2 823 t (ix q50.1)), vI q50.1, vR (jR q46.2 823 t)]) rfl ?_
  refine j_gd (fun h54 => ?_)
  refine j_getR hx flX13_105 kl801 h54 (by decide) (by decide +kernel) ?_
  refine j_gd (fun h55 => ?_)
  refine j_getR hx flX13_126 kl702 h55 (by decide) (by decide +kernel) ?_
  refine j_runA hx 1 (tb := [(169, .iload 4)]) (jtb_ok (by decide +kernel)) (pc' := 171) (lv' := [(0, vR t), (1, vI a1), (2, vI a2), (3, vI l3), (4, vI l4), (5, vI l5), (6, vI l6)]) (st' := [vI l4, vR (jR q50.2 702 (jR q50.2 801 t)), vL (jB q50.2 823 t (ix q50.1)), vI q50.1, vR (jR q46.2 823 t)]) rfl ?_
  refine j_gd (fun h56 => ?_)
  refine j_lald hx (f := 702) (o := (jR q50.2 801 t)) kd702 rfl (by decide +kernel) h56 ?_
  refine j_runA hx 1 (tb := [(172, .ladd)]) (jtb_ok (by decide +kernel)) (pc' := 173) (lv' := [(0, vR t), (1, vI a1), (2, vI a2), (3, vI l3), (4, vI l4), (5, vI l5), (6, vI l6)]) (st' := [vL ((jB q50.2 823 t (ix q50.1)) + (jB q50.2 702 (jR q50.2 801 t) (ix l4))), vI q50.1, vR (jR q46.2 823 t)]) rfl ?_
  refine j_gd (fun h57 => ?_)
  refine j_gd (fun h58 => ?_)
  refine j_last hx (f := 823) (o := t) kd823 h57 (by decide +kernel) h58 ?_
  refine j_ltw rfl (fun W59 hc60 => ?_)
  have h61 : jC W59 t = 8 := (congrFun hc60 _).trans h54
  have h62 : jC W59 (jR q50.2 801 t) = 7 := (congrFun hc60 _).trans h55
  refine j_lv (lv' := [(0, vR t), (1, vI a1), (2, vI a2), (3, vI l3), (4, vI l4)]) ⟨rfl, rfl, rfl, rfl, rfl, trivial⟩ ?_
  exact wog_putChain_174 h l3 l4 W59
theorem wog_putChain_44 {x : jCx} {en : (fog_putChain_S ⊕ (Int32 × jW)) → Option (Outcome × jW)} {t : Nat} {a1 : Int32} {a2 : Int32} (h : hog_putChain x en t a1 a2) (l3 : Int32) (l4 : Int32) (W : jW) : jJ x 7 44 [(0, vR t), (1, vI a1), (2, vI a2), (3, vI l3), (4, vI l4)] [] W (fog_putChain_44 t a1 a2 l3 l4 W) en := by
  have h0 := h
  obtain ⟨hx, hm, hr, he, k5, k44⟩ := h0
  unfold fog_putChain_44
  refine j_runA hx 2 (tb := [(44, .iload 4), (46, .aload_n 0)]) (jtb_ok (by decide +kernel)) (pc' := 47) (lv' := [(0, vR t), (1, vI a1), (2, vI a2), (3, vI l3), (4, vI l4)]) (st' := [vR t, vI l4]) rfl ?_
  refine j_gd (fun h17 => ?_)
  refine j_getR hx flX13_105 kl801 h17 (by decide) (by decide +kernel) ?_
  refine j_gd (fun h18 => ?_)
  refine j_OI (j_callV (av := []) (st := [vI l4]) hx hr (Or.inl q1595) q1596 q1597 rfl md_fco_size np_fco_size (cco_size (jR W 801 t) W) (by decide) (Nat.le_of_ble_eq_true rfl) h18 (by decide) (by decide +kernel)) (fun q19 _ => ?_)
  refine j_icmp_ge hx (off := 127) (tgt := 180) (by decide +kernel) (by decide) (fun _ => ?_) (fun _ => ?_)
  · refine j_runA hx 1 (tb := [(180, .iload_n 3)]) (jtb_ok (by decide +kernel)) (pc' := 181) (lv' := [(0, vR t), (1, vI a1), (2, vI a2), (3, vI l3), (4, vI l4)]) (st' := [vI l3]) rfl ?_
    exact j_iret hx hm (by decide +kernel) rfl (he _)
  refine j_runA hx 1 (tb := [(56, .aload_n 0)]) (jtb_ok (by decide +kernel)) (pc' := 57) (lv' := [(0, vR t), (1, vI a1), (2, vI a2), (3, vI l3), (4, vI l4)]) (st' := [vR t]) rfl ?_
  refine j_getR hx flX13_105 kl801 h17 (by decide) (by decide +kernel) ?_
  refine j_getR hx flX13_133 kl700 h18 (by decide) (by decide +kernel) ?_
  refine j_gd (fun h20 => ?_)
  refine j_getR hx flX13_123 kl600 h20 (by decide) (by decide +kernel) ?_
  refine j_runA hx 1 (tb := [(66, .iload 4)]) (jtb_ok (by decide +kernel)) (pc' := 68) (lv' := [(0, vR t), (1, vI a1), (2, vI a2), (3, vI l3), (4, vI l4)]) (st' := [vI l4, vR (jR W 600 (jR W 700 (jR W 801 t)))]) rfl ?_
  refine j_gd (fun h21 => ?_)
  refine j_iald hx (f := 600) (o := (jR W 700 (jR W 801 t))) kd600 rfl (by decide +kernel) h21 ?_
  refine j_runA hx 1 (tb := [(69, .istore 5)]) (jtb_ok (by decide +kernel)) (pc' := 71) (lv' := [(5, vI (jA W 600 (jR W 700 (jR W 801 t)) (ix l4))), (0, vR t), (1, vI a1), (2, vI a2), (3, vI l3), (4, vI l4)]) (st' := []) rfl ?_
  refine j_let (v := (jA W 600 (jR W 700 (jR W 801 t)) (ix l4))) (lv := fun v22 => [(5, vI v22), (0, vR t), (1, vI a1), (2, vI a2), (3, vI l3), (4, vI l4)]) (st := fun _ => []) (fun v22 => ?_)
  refine j_runA hx 1 (tb := [(71, .aload_n 0)]) (jtb_ok (by decide +kernel)) (pc' := 72) (lv' := [(5, vI v22), (0, vR t), (1, vI a1), (2, vI a2), (3, vI l3), (4, vI l4)]) (st' := [vR t]) rfl ?_
  refine j_getR hx flX13_105 kl801 h17 (by decide) (by decide +kernel) ?_
  refine j_getR hx flX13_120 kl701 h18 (by decide) (by decide +kernel) ?_
  refine j_gd (fun h23 => ?_)
  refine j_getR hx flX13_123 kl600 h23 (by decide) (by decide +kernel) ?_
  refine j_runA hx 1 (tb := [(81, .iload 4)]) (jtb_ok (by decide +kernel)) (pc' := 83) (lv' := [(5, vI v22), (0, vR t), (1, vI a1), (2, vI a2), (3, vI l3), (4, vI l4)]) (st' := [vI l4, vR (jR W 600 (jR W 701 (jR W 801 t)))]) rfl ?_
  refine j_gd (fun h24 => ?_)
  refine j_iald hx (f := 600) (o := (jR W 701 (jR W 801 t))) kd600 rfl (by decide +kernel) h24 ?_
  refine j_runA hx 1 (tb := [(84, .istore 6)]) (jtb_ok (by decide +kernel)) (pc' := 86) (lv' := [(6, vI (jA W 600 (jR W 701 (jR W 801 t)) (ix l4))), (5, vI v22), (0, vR t), (1, vI a1), (2, vI a2), (3, vI l3), (4, vI l4)]) (st' := []) rfl ?_
  refine j_let (v := (jA W 600 (jR W 701 (jR W 801 t)) (ix l4))) (lv := fun v25 => [(6, vI v25), (5, vI v22), (0, vR t), (1, vI a1), (2, vI a2), (3, vI l3), (4, vI l4)]) (st := fun _ => []) (fun v25 => ?_)
  refine j_runA hx 2 (tb := [(86, .aload_n 0), (87, .iload 5)]) (jtb_ok (by decide +kernel)) (pc' := 89) (lv' := [(6, vI v25), (5, vI v22), (0, vR t), (1, vI a1), (2, vI a2), (3, vI l3), (4, vI l4)]) (st' := [vI v22, vR t]) rfl ?_
  refine j_WI (j_callV (av := [vI v22]) (st := []) hx hr (Or.inl q1721) q1723 qs39 rfl md_fog_headOf np_fog_headOf (cog_headOf t v22 W) (by decide) (Nat.le_of_ble_eq_true rfl) h17 (by decide) (by decide +kernel)) (fun q26 _ => ?_)
  refine j_runA hx 1 (tb := [(92, .iload_n 1)]) (jtb_ok (by decide +kernel)) (pc' := 93) (lv' := [(6, vI v25), (5, vI v22), (0, vR t), (1, vI a1), (2, vI a2), (3, vI l3), (4, vI l4)]) (st' := [vI a1, vI q26.1]) rfl ?_
  refine j_icmp_ne hx (off := 37) (tgt := 130) (by decide +kernel) (by decide) (fun _ => ?_) (fun _ => ?_)
  · refine j_lv (lv' := [(0, vR t), (1, vI a1), (2, vI a2), (3, vI l3), (4, vI l4), (5, vI v22), (6, vI v25)]) ⟨rfl, rfl, rfl, rfl, rfl, rfl, rfl, trivial⟩ ?_
    exact wog_putChain_130 h l3 l4 v22 v25 q26.2
  refine j_runA hx 1 (tb := [(96, .aload_n 0)]) (jtb_ok (by decide +kernel)) (pc' := 97) (lv' := [(6, vI v25), (5, vI v22), (0, vR t), (1, vI a1), (2, vI a2), (3, vI l3), (4, vI l4)]) (st' := [vR t]) rfl ?_
  refine j_gd (fun h28 => ?_)
  refine j_getR hx flX13_37 kl811 h28 (by decide) (by decide +kernel) ?_
  refine j_runA hx 1 (tb := [(100, .iload 6)]) (jtb_ok (by decide +kernel)) (pc' := 102) (lv' := [(6, vI v25), (5, vI v22), (0, vR t), (1, vI a1), (2, vI a2), (3, vI l3), (4, vI l4)]) (st' := [vI v25, vR (jR q26.2 811 t)]) rfl ?_
  refine j_gd (fun h29 => ?_)
  refine j_zald hx (f := 811) (o := t) kd811 rfl (by decide +kernel) h29 ?_
  refine j_if_ne hx (off := 27) (tgt := 130) (by decide +kernel) (by decide) (fun _ => ?_) (fun _ => ?_)
  · refine j_lv (lv' := [(0, vR t), (1, vI a1), (2, vI a2), (3, vI l3), (4, vI l4), (5, vI v22), (6, vI v25)]) ⟨rfl, rfl, rfl, rfl, rfl, rfl, rfl, trivial⟩ ?_
    exact wog_putChain_130 h l3 l4 v22 v25 q26.2
  refine j_runA hx 1 (tb := [(106, .aload_n 0)]) (jtb_ok (by decide +kernel)) (pc' := 107) (lv' := [(6, vI v25), (5, vI v22), (0, vR t), (1, vI a1), (2, vI a2), (3, vI l3), (4, vI l4)]) (st' := [vR t]) rfl ?_
  refine j_getR hx flX13_73 kl823 h28 (by decide) (by decide +kernel) ?_
  refine j_runA hx 2 (tb := [(110, .aload_n 0), (111, .iload 6)]) (jtb_ok (by decide +kernel)) (pc' := 113) (lv' := [(6, vI v25), (5, vI v22), (0, vR t), (1, vI a1), (2, vI a2), (3, vI l3), (4, vI l4)]) (st' := [vI v25, vR t, vR (jR q26.2 823 t)]) rfl ?_
  refine j_WI (j_callV (av := [vI v25]) (st := [vR (jR q26.2 823 t)]) hx hr (Or.inl q1721) q1723 qs39 rfl md_fog_headOf np_fog_headOf (cog_headOf t v25 q26.2) (by decide) (Nat.le_of_ble_eq_true rfl) h28 (by decide) (by decide +kernel)) (fun q30 _ => ?_)
  refine j_runA hx 1 (tb := [(116, .dup2)]) (jtb_ok (by decide +kernel)) (pc' := 117) (lv' := [(6, vI v25), (5, vI v22), (0, vR t), (1, vI a1), (2, vI a2), (3, vI l3), (4, vI l4)]) (st' := [vI q30.1, vR (jR q26.2 823 t), vI q30.1, vR (jR q26.2 823 t)]) rfl ?_
  refine j_gd (fun h32 => ?_)
  refine j_gd (fun h33 => ?_)
  refine j_lald hx (f := 823) (o := t) kd823 h32 (by decide +kernel) h33 ?_
  refine j_runA hx 1 (tb := [(118, .aload_n 0)]) (jtb_ok (by decide +kernel)) (pc' := 119) (lv' := [(6, vI v25), (5, vI v22), (0, vR t), (1, vI a1), (2, vI a2), (3, vI l3), (4, vI l4)]) (st' := [vR t, vL (jB q30.2 823 t (ix q30.1)), vI q30.1, vR (jR q26.2 823 t)]) rfl ?_
  refine j_gd (fun h34 => ?_)
  refine j_getR hx flX13_105 kl801 h34 (by decide) (by decide +kernel) ?_
  refine j_gd (fun h35 => ?_)
  refine j_getR hx flX13_126 kl702 h35 (by decide) (by decide +kernel) ?_
  refine j_runA hx 1 (tb := [(125, .iload 4)]) (jtb_ok (by decide +kernel)) (pc' := 127) (lv' := [(6, vI v25), (5, vI v22), (0, vR t), (1, vI a1), (2, vI a2), (3, vI l3), (4, vI l4)]) (st' := [vI l4, vR (jR q30.2 702 (jR q30.2 801 t)), vL (jB q30.2 823 t (ix q30.1)), vI q30.1, vR (jR q26.2 823 t)]) rfl ?_
  refine j_gd (fun h36 => ?_)
  refine j_lald hx (f := 702) (o := (jR q30.2 801 t)) kd702 rfl (by decide +kernel) h36 ?_
  refine j_runA hx 1 (tb := [(128, .ladd)]) (jtb_ok (by decide +kernel)) (pc' := 129) (lv' := [(6, vI v25), (5, vI v22), (0, vR t), (1, vI a1), (2, vI a2), (3, vI l3), (4, vI l4)]) (st' := [vL ((jB q30.2 823 t (ix q30.1)) + (jB q30.2 702 (jR q30.2 801 t) (ix l4))), vI q30.1, vR (jR q26.2 823 t)]) rfl ?_
  refine j_gd (fun h37 => ?_)
  refine j_gd (fun h38 => ?_)
  refine j_last hx (f := 823) (o := t) kd823 h37 (by decide +kernel) h38 ?_
  refine j_ltw rfl (fun W39 hc40 => ?_)
  have h41 : jC W39 t = 8 := (congrFun hc40 _).trans h34
  have h42 : jC W39 (jR q30.2 801 t) = 7 := (congrFun hc40 _).trans h35
  refine j_lv (lv' := [(0, vR t), (1, vI a1), (2, vI a2), (3, vI l3), (4, vI l4), (5, vI v22), (6, vI v25)]) ⟨rfl, rfl, rfl, rfl, rfl, rfl, rfl, trivial⟩ ?_
  exact wog_putChain_130 h l3 l4 v22 v25 W39
theorem wog_putChain_5 {x : jCx} {en : (fog_putChain_S ⊕ (Int32 × jW)) → Option (Outcome × jW)} {t : Nat} {a1 : Int32} {a2 : Int32} (h : hog_putChain x en t a1 a2) (l3 : Int32) (l4 : Int32) (W : jW) : jJ x 7 5 [(0, vR t), (1, vI a1), (2, vI a2), (3, vI l3), (4, vI l4)] [] W (fog_putChain_5 t a1 a2 l3 l4 W) en := by
  have h0 := h
  obtain ⟨hx, hm, hr, he, k5, k44⟩ := h0
  unfold fog_putChain_5
  refine j_runA hx 1 (tb := [(5, .iload 4)]) (jtb_ok (by decide +kernel)) (pc' := 7) (lv' := [(0, vR t), (1, vI a1), (2, vI a2), (3, vI l3), (4, vI l4)]) (st' := [vI l4]) rfl ?_
  refine j_if_lt hx (off := 34) (tgt := 41) (by decide +kernel) (by decide) (fun _ => ?_) (fun _ => ?_)
  · refine j_runA hx 2 (tb := [(41, .iconst 0), (42, .istore 4)]) (jtb_ok (by decide +kernel)) (pc' := 44) (lv' := [(4, vI (kI 0)), (0, vR t), (1, vI a1), (2, vI a2), (3, vI l3)]) (st' := []) rfl ?_
    refine j_lv (lv' := [(0, vR t), (1, vI a1), (2, vI a2), (3, vI l3), (4, vI (kI 0))]) ⟨rfl, rfl, rfl, rfl, rfl, trivial⟩ ?_
    exact k44 l3 (kI 0) W
  refine j_runA hx 1 (tb := [(10, .aload_n 0)]) (jtb_ok (by decide +kernel)) (pc' := 11) (lv' := [(0, vR t), (1, vI a1), (2, vI a2), (3, vI l3), (4, vI l4)]) (st' := [vR t]) rfl ?_
  refine j_gd (fun h2 => ?_)
  refine j_getR hx flX13_64 kl820 h2 (by decide) (by decide +kernel) ?_
  refine j_runA hx 2 (tb := [(14, .iload 4), (16, .iload_n 3)]) (jtb_ok (by decide +kernel)) (pc' := 17) (lv' := [(0, vR t), (1, vI a1), (2, vI a2), (3, vI l3), (4, vI l4)]) (st' := [vI l3, vI l4, vR (jR W 820 t)]) rfl ?_
  refine j_gd (fun h3 => ?_)
  refine j_iast hx (f := 820) (o := t) kd820 rfl (by decide +kernel) h3 ?_
  refine j_ltw rfl (fun W4 hc5 => ?_)
  have h6 : jC W4 t = 8 := (congrFun hc5 _).trans h2
  refine j_runA hx 1 (tb := [(18, .aload_n 0)]) (jtb_ok (by decide +kernel)) (pc' := 19) (lv' := [(0, vR t), (1, vI a1), (2, vI a2), (3, vI l3), (4, vI l4)]) (st' := [vR t]) rfl ?_
  refine j_getR hx flX13_37 kl811 h6 (by decide) (by decide +kernel) ?_
  refine j_runA hx 2 (tb := [(22, .iload 4), (24, .iconst 1)]) (jtb_ok (by decide +kernel)) (pc' := 25) (lv' := [(0, vR t), (1, vI a1), (2, vI a2), (3, vI l3), (4, vI l4)]) (st' := [vI (kI 1), vI l4, vR (jR W4 811 t)]) rfl ?_
  refine j_gd (fun h8 => ?_)
  refine j_zast hx (f := 811) (o := t) kd811 rfl (by decide +kernel) h8 ?_
  refine j_ltw rfl (fun W9 hc10 => ?_)
  have h11 : jC W9 t = 8 := (congrFun hc10 _).trans h6
  refine j_runA hx 1 (tb := [(26, .iinc 3 1)]) (jtb_ok (by decide +kernel)) (pc' := 29) (lv' := [(3, vI (l3 + (kI 1))), (0, vR t), (1, vI a1), (2, vI a2), (4, vI l4)]) (st' := []) rfl ?_
  refine j_let (v := (l3 + (kI 1))) (lv := fun v13 => [(3, vI v13), (0, vR t), (1, vI a1), (2, vI a2), (4, vI l4)]) (st := fun _ => []) (fun v13 => ?_)
  refine j_runA hx 1 (tb := [(29, .aload_n 0)]) (jtb_ok (by decide +kernel)) (pc' := 30) (lv' := [(3, vI v13), (0, vR t), (1, vI a1), (2, vI a2), (4, vI l4)]) (st' := [vR t]) rfl ?_
  refine j_getR hx flX13_28 kl808 h11 (by decide) (by decide +kernel) ?_
  refine j_runA hx 1 (tb := [(33, .iload 4)]) (jtb_ok (by decide +kernel)) (pc' := 35) (lv' := [(3, vI v13), (0, vR t), (1, vI a1), (2, vI a2), (4, vI l4)]) (st' := [vI l4, vR (jR W9 808 t)]) rfl ?_
  refine j_gd (fun h14 => ?_)
  refine j_iald hx (f := 808) (o := t) kd808 rfl (by decide +kernel) h14 ?_
  refine j_runA hx 1 (tb := [(36, .istore 4)]) (jtb_ok (by decide +kernel)) (pc' := 38) (lv' := [(4, vI (jA W9 808 t (ix l4))), (3, vI v13), (0, vR t), (1, vI a1), (2, vI a2)]) (st' := []) rfl ?_
  refine j_let (v := (jA W9 808 t (ix l4))) (lv := fun v15 => [(4, vI v15), (3, vI v13), (0, vR t), (1, vI a1), (2, vI a2)]) (st := fun _ => []) (fun v15 => ?_)
  refine j_goto hx (off := -33) (by decide +kernel) (tgt := 5) (by decide) ?_
  refine j_lv (lv' := [(0, vR t), (1, vI a1), (2, vI a2), (3, vI v13), (4, vI v15)]) ⟨rfl, rfl, rfl, rfl, rfl, trivial⟩ ?_
  exact k5 v13 v15 W9
theorem wog_putChain {x : jCx} {en : (fog_putChain_S ⊕ (Int32 × jW)) → Option (Outcome × jW)} {t : Nat} {a1 : Int32} {a2 : Int32} (h : hog_putChain x en t a1 a2) (W : jW) : jJ x 7 0 [(0, vR t), (1, vI a1), (2, vI a2)] [] W (fog_putChain_0 t a1 a2 W) en := by
  have h0 := h
  obtain ⟨hx, hm, hr, he, k5, k44⟩ := h0
  unfold fog_putChain_0
  refine j_runA hx 4 (tb := [(0, .iload_n 2), (1, .istore_n 3), (2, .iload_n 1), (3, .istore 4)]) (jtb_ok (by decide +kernel)) (pc' := 5) (lv' := [(4, vI a1), (3, vI a2), (0, vR t), (1, vI a1), (2, vI a2)]) (st' := []) rfl ?_
  refine j_lv (lv' := [(0, vR t), (1, vI a1), (2, vI a2), (3, vI a2), (4, vI a1)]) ⟨rfl, rfl, rfl, rfl, rfl, trivial⟩ ?_
  exact k5 a2 a1 W
theorem cog_putChain (t : Nat) (a1 : Int32) (a2 : Int32) (W : jW) : jM yX13_putChain cX13_putChain 7 (Option.some Jvm.ClassFile.FieldType.int) [] 1 15 [vR t, vI a1, vI a2] W ((fog_putChain t a1 a2 W).bind (fun q => some (.returned (some (.int q.1)), q.2))) := by
  refine jM.of (Nat.le_of_ble_eq_true rfl) (fun x hx hm hr => ?_)
  refine j_begin (P := (Sum.elim (fun s => (5, [(0, vR t), (1, vI a1), (2, vI a2), (3, vI s.1), (4, vI s.2.1)], s.2.2)) (fun s => (44, [(0, vR t), (1, vI a1), (2, vI a2), (3, vI s.1), (4, vI s.2.1)], s.2.2)))) (fun en he hk => ?_)
  have h : hog_putChain x en t a1 a2 := ⟨hx, hm, hr, fun q => he _, fun l3 l4 W => hk (.inl (l3, l4, W)), fun l3 l4 W => hk (.inr (l3, l4, W))⟩
  refine ⟨fun s => ?_, wog_putChain h W⟩
  rcases s with s | s
  · exact wog_putChain_5 h s.1 s.2.1 s.2.2
  · exact wog_putChain_44 h s.1 s.2.1 s.2.2
