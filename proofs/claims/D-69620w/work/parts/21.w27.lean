/-! ===== walks: fmo_isPlace frn_goesTo frn_call frn_goes frn_runOne ===== -/
set_option maxRecDepth 100000
def hmo_isPlace (x : jCx) (en : (Int32) → Option (Outcome × jW)) (t : Nat) (a1 : Int32) (a2 : Int64) (W : jW) : Prop :=
  jOK x RX8 cX8_isPlace 6 ∧
  jMt x "isPlace" (Option.some Jvm.ClassFile.FieldType.boolean) [] ∧
  jRm x 2 30 ∧
  (∀ q : Int32, en q = some (.returned (some (.int q)), W))
theorem wmo_isPlace_93 {x : jCx} {en : (Int32) → Option (Outcome × jW)} {W : jW} {t : Nat} {a1 : Int32} {a2 : Int64} (h : hmo_isPlace x en t a1 a2 W) : jJ x 6 93 [(0, vR t), (1, vI a1), (2, vL a2)] [] W (fmo_isPlace_93 t a1 a2 W) en := by
  have h0 := h
  obtain ⟨hx, hm, hr, he⟩ := h0
  unfold fmo_isPlace_93
  refine j_runA hx 1 (tb := [(93, .iconst 1)]) (jtb_ok (by decide +kernel)) (pc' := 94) (lv' := [(0, vR t), (1, vI a1), (2, vL a2)]) (st' := [vI (kI 1)]) rfl ?_
  refine j_goto hx (off := 4) (by decide +kernel) (tgt := 98) (by decide) ?_
  exact j_iret hx hm (by decide +kernel) jz1n (he _)
theorem wmo_isPlace_97 {x : jCx} {en : (Int32) → Option (Outcome × jW)} {W : jW} {t : Nat} {a1 : Int32} {a2 : Int64} (h : hmo_isPlace x en t a1 a2 W) : jJ x 6 97 [(0, vR t), (1, vI a1), (2, vL a2)] [] W (fmo_isPlace_97 t a1 a2 W) en := by
  have h0 := h
  obtain ⟨hx, hm, hr, he⟩ := h0
  unfold fmo_isPlace_97
  refine j_runA hx 1 (tb := [(97, .iconst 0)]) (jtb_ok (by decide +kernel)) (pc' := 98) (lv' := [(0, vR t), (1, vI a1), (2, vL a2)]) (st' := [vI (kI 0)]) rfl ?_
  exact j_iret hx hm (by decide +kernel) jz0n (he _)
theorem wmo_isPlace_181 {x : jCx} {en : (Int32) → Option (Outcome × jW)} {W : jW} {t : Nat} {a1 : Int32} {a2 : Int64} (h : hmo_isPlace x en t a1 a2 W) : jJ x 6 181 [(0, vR t), (1, vI a1), (2, vL a2)] [] W (fmo_isPlace_181 t a1 a2 W) en := by
  have h0 := h
  obtain ⟨hx, hm, hr, he⟩ := h0
  unfold fmo_isPlace_181
  refine j_runA hx 1 (tb := [(181, .iconst 1)]) (jtb_ok (by decide +kernel)) (pc' := 182) (lv' := [(0, vR t), (1, vI a1), (2, vL a2)]) (st' := [vI (kI 1)]) rfl ?_
  refine j_goto hx (off := 4) (by decide +kernel) (tgt := 186) (by decide) ?_
  exact j_iret hx hm (by decide +kernel) jz1n (he _)
theorem wmo_isPlace_185 {x : jCx} {en : (Int32) → Option (Outcome × jW)} {W : jW} {t : Nat} {a1 : Int32} {a2 : Int64} (h : hmo_isPlace x en t a1 a2 W) : jJ x 6 185 [(0, vR t), (1, vI a1), (2, vL a2)] [] W (fmo_isPlace_185 t a1 a2 W) en := by
  have h0 := h
  obtain ⟨hx, hm, hr, he⟩ := h0
  unfold fmo_isPlace_185
  refine j_runA hx 1 (tb := [(185, .iconst 0)]) (jtb_ok (by decide +kernel)) (pc' := 186) (lv' := [(0, vR t), (1, vI a1), (2, vL a2)]) (st' := [vI (kI 0)]) rfl ?_
  exact j_iret hx hm (by decide +kernel) jz0n (he _)
theorem wmo_isPlace {x : jCx} {en : (Int32) → Option (Outcome × jW)} {W : jW} {t : Nat} {a1 : Int32} {a2 : Int64} (h : hmo_isPlace x en t a1 a2 W) : jJ x 6 0 [(0, vR t), (1, vI a1), (2, vL a2)] [] W (fmo_isPlace t a1 a2 W) en := by
  have h0 := h
  obtain ⟨hx, hm, hr, he⟩ := h0
  unfold fmo_isPlace
  refine j_runA hx 1 (tb := [(0, .lload_n 2)]) (jtb_ok (by decide +kernel)) (pc' := 1) (lv' := [(0, vR t), (1, vI a1), (2, vL a2)]) (st' := [vL a2]) rfl ?_
  refine j_ldc2 hx (v := (kJ 3)) (jkd2 q3034 (by decide +kernel)) (by decide +kernel) ?_
  refine j_runA hx 2 (tb := [(4, .land), (5, .lconst 0)]) (jtb_ok (by decide +kernel)) (pc' := 6) (lv' := [(0, vR t), (1, vI a1), (2, vL a2)]) (st' := [vL (kJ 0), vL (a2 &&& (kJ 3))]) rfl ?_
  refine j_lcmp_eq hx (off := 5) (tgt := 12) (by decide +kernel) (by decide +kernel) (by decide) (fun _ => ?_) (fun _ => ?_)
  · refine j_runA hx 3 (tb := [(12, .lload_n 2), (13, .l2i), (14, .iconst 4)]) (jtb_ok (by decide +kernel)) (pc' := 15) (lv' := [(0, vR t), (1, vI a1), (2, vL a2)]) (st' := [vI (kI 4), vI a2.toInt32]) rfl ?_
    refine j_idiv hx (by decide +kernel) (by decide +kernel) ?_
    refine j_runA hx 1 (tb := [(16, .istore 4)]) (jtb_ok (by decide +kernel)) (pc' := 18) (lv' := [(4, vI (a2.toInt32 / (kI 4))), (0, vR t), (1, vI a1), (2, vL a2)]) (st' := []) rfl ?_
    refine j_let (v := (a2.toInt32 / (kI 4))) (lv := fun v1 => [(4, vI v1), (0, vR t), (1, vI a1), (2, vL a2)]) (st := fun _ => []) (fun v1 => ?_)
    refine j_runA hx 1 (tb := [(18, .iload_n 1)]) (jtb_ok (by decide +kernel)) (pc' := 19) (lv' := [(4, vI v1), (0, vR t), (1, vI a1), (2, vL a2)]) (st' := [vI a1]) rfl ?_
    refine j_if_eq hx (off := 80) (tgt := 99) (by decide +kernel) (by decide) (fun _ => ?_) (fun _ => ?_)
    · refine j_runA hx 1 (tb := [(99, .aload_n 0)]) (jtb_ok (by decide +kernel)) (pc' := 100) (lv' := [(4, vI v1), (0, vR t), (1, vI a1), (2, vL a2)]) (st' := [vR t]) rfl ?_
      refine j_gd (fun h2 => ?_)
      refine j_getR hx flX8_43 kl1317 h2 (by decide) (by decide +kernel) ?_
      refine j_runA hx 1 (tb := [(103, .iload 4)]) (jtb_ok (by decide +kernel)) (pc' := 105) (lv' := [(4, vI v1), (0, vR t), (1, vI a1), (2, vL a2)]) (st' := [vI v1, vR (jR W 1317 t)]) rfl ?_
      refine j_gd (fun h3 => ?_)
      refine j_iald hx (f := 1317) (o := t) kd1317 rfl (by decide +kernel) h3 ?_
      refine j_runA hx 1 (tb := [(106, .istore 5)]) (jtb_ok (by decide +kernel)) (pc' := 108) (lv' := [(5, vI (jA W 1317 t (ix v1))), (4, vI v1), (0, vR t), (1, vI a1), (2, vL a2)]) (st' := []) rfl ?_
      refine j_let (v := (jA W 1317 t (ix v1))) (lv := fun v4 => [(5, vI v4), (4, vI v1), (0, vR t), (1, vI a1), (2, vL a2)]) (st := fun _ => []) (fun v4 => ?_)
      refine j_runA hx 1 (tb := [(108, .aload_n 0)]) (jtb_ok (by decide +kernel)) (pc' := 109) (lv' := [(5, vI v4), (4, vI v1), (0, vR t), (1, vI a1), (2, vL a2)]) (st' := [vR t]) rfl ?_
      refine j_getR hx flX8_59 kl1322 h2 (by decide) (by decide +kernel) ?_
      refine j_runA hx 1 (tb := [(112, .iload 5)]) (jtb_ok (by decide +kernel)) (pc' := 114) (lv' := [(5, vI v4), (4, vI v1), (0, vR t), (1, vI a1), (2, vL a2)]) (st' := [vI v4, vR (jR W 1322 t)]) rfl ?_
      refine j_gd (fun h5 => ?_)
      refine j_iald hx (f := 1322) (o := t) kd1322 rfl (by decide +kernel) h5 ?_
      refine j_runA hx 1 (tb := [(115, .iload 4)]) (jtb_ok (by decide +kernel)) (pc' := 117) (lv' := [(5, vI v4), (4, vI v1), (0, vR t), (1, vI a1), (2, vL a2)]) (st' := [vI v1, vI (jA W 1322 t (ix v4))]) rfl ?_
      refine j_icmp_eq hx (off := 64) (tgt := 181) (by decide +kernel) (by decide) (fun _ => ?_) (fun _ => ?_)
      · refine j_lv (lv' := [(0, vR t), (1, vI a1), (2, vL a2)]) ⟨rfl, rfl, rfl, trivial⟩ ?_
        exact wmo_isPlace_181 h
      refine j_runA hx 1 (tb := [(120, .iload 4)]) (jtb_ok (by decide +kernel)) (pc' := 122) (lv' := [(5, vI v4), (4, vI v1), (0, vR t), (1, vI a1), (2, vL a2)]) (st' := [vI v1]) rfl ?_
      refine j_if_le hx (off := 63) (tgt := 185) (by decide +kernel) (by decide) (fun _ => ?_) (fun _ => ?_)
      · refine j_lv (lv' := [(0, vR t), (1, vI a1), (2, vL a2)]) ⟨rfl, rfl, rfl, trivial⟩ ?_
        exact wmo_isPlace_185 h
      refine j_runA hx 2 (tb := [(125, .aload_n 0), (126, .aload_n 0)]) (jtb_ok (by decide +kernel)) (pc' := 127) (lv' := [(5, vI v4), (4, vI v1), (0, vR t), (1, vI a1), (2, vL a2)]) (st' := [vR t, vR t]) rfl ?_
      refine j_getR hx flX8_43 kl1317 h2 (by decide) (by decide +kernel) ?_
      refine j_runA hx 3 (tb := [(130, .iload 4), (132, .iconst 1), (133, .isub)]) (jtb_ok (by decide +kernel)) (pc' := 134) (lv' := [(5, vI v4), (4, vI v1), (0, vR t), (1, vI a1), (2, vL a2)]) (st' := [vI (v1 - (kI 1)), vR (jR W 1317 t), vR t]) rfl ?_
      refine j_gd (fun h6 => ?_)
      refine j_iald hx (f := 1317) (o := t) kd1317 rfl (by decide +kernel) h6 ?_
      refine j_OI (j_callV (av := [vI (jA W 1317 t (ix (v1 - (kI 1))))]) (st := []) hx hr (Or.inl q3063) q3065 qs147 rfl md_fmo_last np_fmo_last (cmo_last t (jA W 1317 t (ix (v1 - (kI 1)))) W) (by decide) (Nat.le_of_ble_eq_true rfl) h2 (by decide) (by decide +kernel)) (fun q7 _ => ?_)
      refine j_runA hx 3 (tb := [(138, .iload 4), (140, .iconst 1), (141, .isub)]) (jtb_ok (by decide +kernel)) (pc' := 142) (lv' := [(5, vI v4), (4, vI v1), (0, vR t), (1, vI a1), (2, vL a2)]) (st' := [vI (v1 - (kI 1)), vI q7]) rfl ?_
      refine j_icmp_ne hx (off := 43) (tgt := 185) (by decide +kernel) (by decide) (fun _ => ?_) (fun _ => ?_)
      · refine j_lv (lv' := [(0, vR t), (1, vI a1), (2, vL a2)]) ⟨rfl, rfl, rfl, trivial⟩ ?_
        exact wmo_isPlace_185 h
      refine j_runA hx 1 (tb := [(145, .aload_n 0)]) (jtb_ok (by decide +kernel)) (pc' := 146) (lv' := [(5, vI v4), (4, vI v1), (0, vR t), (1, vI a1), (2, vL a2)]) (st' := [vR t]) rfl ?_
      refine j_getR hx flX8_68 kl1325 h2 (by decide) (by decide +kernel) ?_
      refine j_runA hx 1 (tb := [(149, .aload_n 0)]) (jtb_ok (by decide +kernel)) (pc' := 150) (lv' := [(5, vI v4), (4, vI v1), (0, vR t), (1, vI a1), (2, vL a2)]) (st' := [vR t, vR (jR W 1325 t)]) rfl ?_
      refine j_getR hx flX8_43 kl1317 h2 (by decide) (by decide +kernel) ?_
      refine j_runA hx 3 (tb := [(153, .iload 4), (155, .iconst 1), (156, .isub)]) (jtb_ok (by decide +kernel)) (pc' := 157) (lv' := [(5, vI v4), (4, vI v1), (0, vR t), (1, vI a1), (2, vL a2)]) (st' := [vI (v1 - (kI 1)), vR (jR W 1317 t), vR (jR W 1325 t)]) rfl ?_
      refine j_gd (fun h8 => ?_)
      refine j_iald hx (f := 1317) (o := t) kd1317 rfl (by decide +kernel) h8 ?_
      refine j_gd (fun h9 => ?_)
      refine j_iald hx (f := 1325) (o := t) kd1325 rfl (by decide +kernel) h9 ?_
      refine j_runA hx 1 (tb := [(159, .iconst 4)]) (jtb_ok (by decide +kernel)) (pc' := 160) (lv' := [(5, vI v4), (4, vI v1), (0, vR t), (1, vI a1), (2, vL a2)]) (st' := [vI (kI 4), vI (jA W 1325 t (ix (jA W 1317 t (ix (v1 - (kI 1))))))]) rfl ?_
      refine j_icmp_eq hx (off := 21) (tgt := 181) (by decide +kernel) (by decide) (fun _ => ?_) (fun _ => ?_)
      · refine j_lv (lv' := [(0, vR t), (1, vI a1), (2, vL a2)]) ⟨rfl, rfl, rfl, trivial⟩ ?_
        exact wmo_isPlace_181 h
      refine j_runA hx 1 (tb := [(163, .aload_n 0)]) (jtb_ok (by decide +kernel)) (pc' := 164) (lv' := [(5, vI v4), (4, vI v1), (0, vR t), (1, vI a1), (2, vL a2)]) (st' := [vR t]) rfl ?_
      refine j_getR hx flX8_68 kl1325 h2 (by decide) (by decide +kernel) ?_
      refine j_runA hx 1 (tb := [(167, .aload_n 0)]) (jtb_ok (by decide +kernel)) (pc' := 168) (lv' := [(5, vI v4), (4, vI v1), (0, vR t), (1, vI a1), (2, vL a2)]) (st' := [vR t, vR (jR W 1325 t)]) rfl ?_
      refine j_getR hx flX8_43 kl1317 h2 (by decide) (by decide +kernel) ?_
      refine j_runA hx 3 (tb := [(171, .iload 4), (173, .iconst 1), (174, .isub)]) (jtb_ok (by decide +kernel)) (pc' := 175) (lv' := [(5, vI v4), (4, vI v1), (0, vR t), (1, vI a1), (2, vL a2)]) (st' := [vI (v1 - (kI 1)), vR (jR W 1317 t), vR (jR W 1325 t)]) rfl ?_
      refine j_gd (fun h10 => ?_)
      refine j_iald hx (f := 1317) (o := t) kd1317 rfl (by decide +kernel) h10 ?_
      refine j_gd (fun h11 => ?_)
      refine j_iald hx (f := 1325) (o := t) kd1325 rfl (by decide +kernel) h11 ?_
      refine j_runA hx 1 (tb := [(177, .iconst 5)]) (jtb_ok (by decide +kernel)) (pc' := 178) (lv' := [(5, vI v4), (4, vI v1), (0, vR t), (1, vI a1), (2, vL a2)]) (st' := [vI (kI 5), vI (jA W 1325 t (ix (jA W 1317 t (ix (v1 - (kI 1))))))]) rfl ?_
      refine j_icmp_ne hx (off := 7) (tgt := 185) (by decide +kernel) (by decide) (fun _ => ?_) (fun _ => ?_)
      · refine j_lv (lv' := [(0, vR t), (1, vI a1), (2, vL a2)]) ⟨rfl, rfl, rfl, trivial⟩ ?_
        exact wmo_isPlace_185 h
      refine j_lv (lv' := [(0, vR t), (1, vI a1), (2, vL a2)]) ⟨rfl, rfl, rfl, trivial⟩ ?_
      exact wmo_isPlace_181 h
    refine j_runA hx 2 (tb := [(22, .aload_n 0), (23, .iload 4)]) (jtb_ok (by decide +kernel)) (pc' := 25) (lv' := [(4, vI v1), (0, vR t), (1, vI a1), (2, vL a2)]) (st' := [vI v1, vR t]) rfl ?_
    refine j_gd (fun h12 => ?_)
    refine j_OI (j_callV (av := [vI v1]) (st := []) hx hr (Or.inl q3550) q3374 qs185 rfl md_fmo_blockAtNew np_fmo_blockAtNew (cmo_blockAtNew t v1 W) (by decide) (Nat.le_of_ble_eq_true rfl) h12 (by decide) (by decide +kernel)) (fun q13 _ => ?_)
    refine j_if_lt hx (off := 5) (tgt := 33) (by decide +kernel) (by decide) (fun _ => ?_) (fun _ => ?_)
    · refine j_runA hx 4 (tb := [(33, .aload_n 0), (34, .iload 4), (36, .iconst 1), (37, .isub)]) (jtb_ok (by decide +kernel)) (pc' := 38) (lv' := [(4, vI v1), (0, vR t), (1, vI a1), (2, vL a2)]) (st' := [vI (v1 - (kI 1)), vR t]) rfl ?_
      refine j_OI (j_callV (av := [vI (v1 - (kI 1))]) (st := []) hx hr (Or.inl q3376) q3378 qs186 rfl md_fmo_blockUnder np_fmo_blockUnder (cmo_blockUnder t (v1 - (kI 1)) W) (by decide) (Nat.le_of_ble_eq_true rfl) h12 (by decide) (by decide +kernel)) (fun q14 _ => ?_)
      refine j_runA hx 2 (tb := [(41, .istore 5), (43, .iload 5)]) (jtb_ok (by decide +kernel)) (pc' := 45) (lv' := [(5, vI q14), (4, vI v1), (0, vR t), (1, vI a1), (2, vL a2)]) (st' := [vI q14]) rfl ?_
      refine j_if_lt hx (off := 52) (tgt := 97) (by decide +kernel) (by decide) (fun _ => ?_) (fun _ => ?_)
      · refine j_lv (lv' := [(0, vR t), (1, vI a1), (2, vL a2)]) ⟨rfl, rfl, rfl, trivial⟩ ?_
        exact wmo_isPlace_97 h
      refine j_runA hx 1 (tb := [(48, .aload_n 0)]) (jtb_ok (by decide +kernel)) (pc' := 49) (lv' := [(5, vI q14), (4, vI v1), (0, vR t), (1, vI a1), (2, vL a2)]) (st' := [vR t]) rfl ?_
      refine j_getR hx flX8_143 kl1350 h12 (by decide) (by decide +kernel) ?_
      refine j_gd (fun h15 => ?_)
      refine j_getR hx flX8_499 kl1503 h15 (by decide) (by decide +kernel) ?_
      refine j_runA hx 1 (tb := [(55, .iload 5)]) (jtb_ok (by decide +kernel)) (pc' := 57) (lv' := [(5, vI q14), (4, vI v1), (0, vR t), (1, vI a1), (2, vL a2)]) (st' := [vI q14, vR (jR W 1503 (jR W 1350 t))]) rfl ?_
      refine j_gd (fun h16 => ?_)
      refine j_iald hx (f := 1503) (o := (jR W 1350 t)) kd1503 rfl (by decide +kernel) h16 ?_
      refine j_runA hx 1 (tb := [(58, .aload_n 0)]) (jtb_ok (by decide +kernel)) (pc' := 59) (lv' := [(5, vI q14), (4, vI v1), (0, vR t), (1, vI a1), (2, vL a2)]) (st' := [vR t, vI (jA W 1503 (jR W 1350 t) (ix q14))]) rfl ?_
      refine j_getR hx flX8_62 kl1323 h12 (by decide) (by decide +kernel) ?_
      refine j_runA hx 1 (tb := [(62, .iload 5)]) (jtb_ok (by decide +kernel)) (pc' := 64) (lv' := [(5, vI q14), (4, vI v1), (0, vR t), (1, vI a1), (2, vL a2)]) (st' := [vI q14, vR (jR W 1323 t), vI (jA W 1503 (jR W 1350 t) (ix q14))]) rfl ?_
      refine j_gd (fun h17 => ?_)
      refine j_iald hx (f := 1323) (o := t) kd1323 rfl (by decide +kernel) h17 ?_
      refine j_runA hx 2 (tb := [(65, .iadd), (66, .iload 4)]) (jtb_ok (by decide +kernel)) (pc' := 68) (lv' := [(5, vI q14), (4, vI v1), (0, vR t), (1, vI a1), (2, vL a2)]) (st' := [vI v1, vI ((jA W 1503 (jR W 1350 t) (ix q14)) + (jA W 1323 t (ix q14)))]) rfl ?_
      refine j_icmp_ne hx (off := 29) (tgt := 97) (by decide +kernel) (by decide) (fun _ => ?_) (fun _ => ?_)
      · refine j_lv (lv' := [(0, vR t), (1, vI a1), (2, vL a2)]) ⟨rfl, rfl, rfl, trivial⟩ ?_
        exact wmo_isPlace_97 h
      refine j_runA hx 1 (tb := [(71, .aload_n 0)]) (jtb_ok (by decide +kernel)) (pc' := 72) (lv' := [(5, vI q14), (4, vI v1), (0, vR t), (1, vI a1), (2, vL a2)]) (st' := [vR t]) rfl ?_
      refine j_getR hx flX8_68 kl1325 h12 (by decide) (by decide +kernel) ?_
      refine j_runA hx 1 (tb := [(75, .iload 5)]) (jtb_ok (by decide +kernel)) (pc' := 77) (lv' := [(5, vI q14), (4, vI v1), (0, vR t), (1, vI a1), (2, vL a2)]) (st' := [vI q14, vR (jR W 1325 t)]) rfl ?_
      refine j_gd (fun h18 => ?_)
      refine j_iald hx (f := 1325) (o := t) kd1325 rfl (by decide +kernel) h18 ?_
      refine j_runA hx 1 (tb := [(78, .iconst 4)]) (jtb_ok (by decide +kernel)) (pc' := 79) (lv' := [(5, vI q14), (4, vI v1), (0, vR t), (1, vI a1), (2, vL a2)]) (st' := [vI (kI 4), vI (jA W 1325 t (ix q14))]) rfl ?_
      refine j_icmp_eq hx (off := 14) (tgt := 93) (by decide +kernel) (by decide) (fun _ => ?_) (fun _ => ?_)
      · refine j_lv (lv' := [(0, vR t), (1, vI a1), (2, vL a2)]) ⟨rfl, rfl, rfl, trivial⟩ ?_
        exact wmo_isPlace_93 h
      refine j_runA hx 1 (tb := [(82, .aload_n 0)]) (jtb_ok (by decide +kernel)) (pc' := 83) (lv' := [(5, vI q14), (4, vI v1), (0, vR t), (1, vI a1), (2, vL a2)]) (st' := [vR t]) rfl ?_
      refine j_getR hx flX8_68 kl1325 h12 (by decide) (by decide +kernel) ?_
      refine j_runA hx 1 (tb := [(86, .iload 5)]) (jtb_ok (by decide +kernel)) (pc' := 88) (lv' := [(5, vI q14), (4, vI v1), (0, vR t), (1, vI a1), (2, vL a2)]) (st' := [vI q14, vR (jR W 1325 t)]) rfl ?_
      refine j_gd (fun h19 => ?_)
      refine j_iald hx (f := 1325) (o := t) kd1325 rfl (by decide +kernel) h19 ?_
      refine j_runA hx 1 (tb := [(89, .iconst 5)]) (jtb_ok (by decide +kernel)) (pc' := 90) (lv' := [(5, vI q14), (4, vI v1), (0, vR t), (1, vI a1), (2, vL a2)]) (st' := [vI (kI 5), vI (jA W 1325 t (ix q14))]) rfl ?_
      refine j_icmp_ne hx (off := 7) (tgt := 97) (by decide +kernel) (by decide) (fun _ => ?_) (fun _ => ?_)
      · refine j_lv (lv' := [(0, vR t), (1, vI a1), (2, vL a2)]) ⟨rfl, rfl, rfl, trivial⟩ ?_
        exact wmo_isPlace_97 h
      refine j_lv (lv' := [(0, vR t), (1, vI a1), (2, vL a2)]) ⟨rfl, rfl, rfl, trivial⟩ ?_
      exact wmo_isPlace_93 h
    refine j_runA hx 1 (tb := [(31, .iconst 1)]) (jtb_ok (by decide +kernel)) (pc' := 32) (lv' := [(4, vI v1), (0, vR t), (1, vI a1), (2, vL a2)]) (st' := [vI (kI 1)]) rfl ?_
    exact j_iret hx hm (by decide +kernel) jz1n (he _)
  refine j_runA hx 1 (tb := [(10, .iconst 0)]) (jtb_ok (by decide +kernel)) (pc' := 11) (lv' := [(0, vR t), (1, vI a1), (2, vL a2)]) (st' := [vI (kI 0)]) rfl ?_
  exact j_iret hx hm (by decide +kernel) jz0n (he _)
theorem cmo_isPlace (t : Nat) (a1 : Int32) (a2 : Int64) (W : jW) : jM yX8_isPlace cX8_isPlace 6 (Option.some Jvm.ClassFile.FieldType.boolean) [] 2 30 [vR t, vI a1, vL a2] W ((fmo_isPlace t a1 a2 W).bind (fun q => some (.returned (some (.int q)), W))) := 
  jM.of (Nat.le_of_ble_eq_true rfl) (fun x hx hm hr => wmo_isPlace ⟨hx, hm, hr, fun _ => rfl⟩)
def hrn_goesTo (x : jCx) (en : (Int32 × jW) → Option (Outcome × jW)) (t : Nat) (a1 : Int32) (a2 : Int32) (a3 : Int32) : Prop :=
  jOK x RX11 cX11_goesTo 8 ∧
  jMt x "goesTo" (Option.some Jvm.ClassFile.FieldType.int) [] ∧
  jRm x 3 47 ∧
  (∀ q : Int32 × jW, en q = some (.returned (some (.int q.1)), q.2))
theorem wrn_goesTo_107 {x : jCx} {en : (Int32 × jW) → Option (Outcome × jW)} {t : Nat} {a1 : Int32} {a2 : Int32} {a3 : Int32} (h : hrn_goesTo x en t a1 a2 a3) (l4 : Int64) (W : jW) : jJ x 8 107 [(0, vR t), (1, vI a1), (2, vI a2), (3, vI a3), (4, vL l4)] [] W (frn_goesTo_107 t a1 a2 a3 l4 W) en := by
  have h0 := h
  obtain ⟨hx, hm, hr, he⟩ := h0
  unfold frn_goesTo_107
  refine j_runA hx 2 (tb := [(107, .aload_n 0), (108, .lload 4)]) (jtb_ok (by decide +kernel)) (pc' := 110) (lv' := [(0, vR t), (1, vI a1), (2, vI a2), (3, vI a3), (4, vL l4)]) (st' := [vL l4, vR t]) rfl ?_
  refine j_gd (fun h17 => ?_)
  refine j_putL hx fwX11_107 wf1623 kd1623 h17 (by decide) (by decide +kernel) (nl1623 _) (ff1623 _) ?_
  refine j_ltw rfl (fun W18 hc19 => ?_)
  have h20 : jC W18 t = 16 := (congrFun hc19 _).trans h17
  refine j_runA hx 1 (tb := [(113, .iconst (-1))]) (jtb_ok (by decide +kernel)) (pc' := 114) (lv' := [(0, vR t), (1, vI a1), (2, vI a2), (3, vI a3), (4, vL l4)]) (st' := [vI (kI (-1))]) rfl ?_
  exact j_iret hx hm (by decide +kernel) rfl (he _)
theorem wrn_goesTo_98 {x : jCx} {en : (Int32 × jW) → Option (Outcome × jW)} {t : Nat} {a1 : Int32} {a2 : Int32} {a3 : Int32} (h : hrn_goesTo x en t a1 a2 a3) (l4 : Int64) (W : jW) : jJ x 8 98 [(0, vR t), (1, vI a1), (2, vI a2), (3, vI a3), (4, vL l4)] [] W (frn_goesTo_98 t a1 a2 a3 l4 W) en := by
  have h0 := h
  obtain ⟨hx, hm, hr, he⟩ := h0
  unfold frn_goesTo_98
  refine j_runA hx 1 (tb := [(98, .iload_n 2)]) (jtb_ok (by decide +kernel)) (pc' := 99) (lv' := [(0, vR t), (1, vI a1), (2, vI a2), (3, vI a3), (4, vL l4)]) (st' := [vI a2]) rfl ?_
  refine j_if_eq hx (off := 8) (tgt := 107) (by decide +kernel) (by decide) (fun _ => ?_) (fun _ => ?_)
  · exact wrn_goesTo_107 h l4 W
  refine j_runA hx 2 (tb := [(102, .aload_n 0), (103, .iload_n 3)]) (jtb_ok (by decide +kernel)) (pc' := 104) (lv' := [(0, vR t), (1, vI a1), (2, vI a2), (3, vI a3), (4, vL l4)]) (st' := [vI a3, vR t]) rfl ?_
  refine j_gd (fun h13 => ?_)
  refine j_WV (j_callV (av := [vI a3]) (st := []) hx hr (Or.inl q3538) q3540 qs219 rfl md_frn_returnHere np_frn_returnHere (crn_returnHere t a3 W) (by decide) (Nat.le_of_ble_eq_true rfl) h13 (by decide) (by decide +kernel)) (fun q14 _ => ?_)
  exact wrn_goesTo_107 h l4 q14
theorem wrn_goesTo_88 {x : jCx} {en : (Int32 × jW) → Option (Outcome × jW)} {t : Nat} {a1 : Int32} {a2 : Int32} {a3 : Int32} (h : hrn_goesTo x en t a1 a2 a3) (l4 : Int64) (l6 : Int64) (s0 : Int32) (s1 : Nat) (W : jW) : jJ x 8 88 [(0, vR t), (1, vI a1), (2, vI a2), (3, vI a3), (4, vL l4), (6, vL l6)] [vI s0, vR s1] W (frn_goesTo_88 t a1 a2 a3 l4 l6 s0 s1 W) en := by
  have h0 := h
  obtain ⟨hx, hm, hr, he⟩ := h0
  unfold frn_goesTo_88
  refine j_runA hx 1 (tb := [(88, .lload 6)]) (jtb_ok (by decide +kernel)) (pc' := 90) (lv' := [(0, vR t), (1, vI a1), (2, vI a2), (3, vI a3), (4, vL l4), (6, vL l6)]) (st' := [vL l6, vI s0, vR s1]) rfl ?_
  refine j_gd (fun h10 => ?_)
  refine j_OI (j_callV (av := [vI s0, vL l6]) (st := []) hx hr (Or.inr ⟨_, q3546⟩) q3548 qs221 rfl md_fmo_isPlace np_fmo_isPlace (cmo_isPlace s1 s0 l6 W) (by decide) (Nat.le_of_ble_eq_true rfl) h10 (by decide) (by decide +kernel)) (fun q11 _ => ?_)
  refine j_if_ne hx (off := 5) (tgt := 98) (by decide +kernel) (by decide) (fun _ => ?_) (fun _ => ?_)
  · refine j_lv (lv' := [(0, vR t), (1, vI a1), (2, vI a2), (3, vI a3), (4, vL l4)]) ⟨rfl, rfl, rfl, rfl, rfl, trivial⟩ ?_
    exact wrn_goesTo_98 h l4 W
  refine j_runA hx 1 (tb := [(96, .iconst 4)]) (jtb_ok (by decide +kernel)) (pc' := 97) (lv' := [(0, vR t), (1, vI a1), (2, vI a2), (3, vI a3), (4, vL l4), (6, vL l6)]) (st' := [vI (kI 4)]) rfl ?_
  exact j_iret hx hm (by decide +kernel) rfl (he _)
theorem wrn_goesTo_47 {x : jCx} {en : (Int32 × jW) → Option (Outcome × jW)} {t : Nat} {a1 : Int32} {a2 : Int32} {a3 : Int32} (h : hrn_goesTo x en t a1 a2 a3) (l4 : Int64) (W : jW) : jJ x 8 47 [(0, vR t), (1, vI a1), (2, vI a2), (3, vI a3), (4, vL l4)] [] W (frn_goesTo_47 t a1 a2 a3 l4 W) en := by
  have h0 := h
  obtain ⟨hx, hm, hr, he⟩ := h0
  unfold frn_goesTo_47
  refine j_runA hx 3 (tb := [(47, .aload_n 0), (48, .lload 4), (50, .iconst 1)]) (jtb_ok (by decide +kernel)) (pc' := 51) (lv' := [(0, vR t), (1, vI a1), (2, vI a2), (3, vI a3), (4, vL l4)]) (st' := [vI (kI 1), vL l4, vR t]) rfl ?_
  refine j_gd (fun h7 => ?_)
  refine j_OL (j_callV (av := [vL l4, vI (kI 1)]) (st := []) hx hr (Or.inl q3361) q3363 qs183 rfl md_frn_inText np_frn_inText (crn_inText t l4 (kI 1) W) (by decide) (Nat.le_of_ble_eq_true rfl) h7 (by decide) (by decide +kernel)) (fun q8 _ => ?_)
  refine j_runA hx 2 (tb := [(54, .lstore 6), (56, .aload_n 0)]) (jtb_ok (by decide +kernel)) (pc' := 57) (lv' := [(6, vL q8), (0, vR t), (1, vI a1), (2, vI a2), (3, vI a3), (4, vL l4)]) (st' := [vR t]) rfl ?_
  refine j_getI hx flX11_46 kd1601 h7 (by decide) (by decide +kernel) ?_
  refine j_runA hx 1 (tb := [(60, .iconst 1)]) (jtb_ok (by decide +kernel)) (pc' := 61) (lv' := [(6, vL q8), (0, vR t), (1, vI a1), (2, vI a2), (3, vI a3), (4, vL l4)]) (st' := [vI (kI 1), vI (jI W 1601 t)]) rfl ?_
  refine j_icmp_eq hx (off := 37) (tgt := 98) (by decide +kernel) (by decide) (fun _ => ?_) (fun _ => ?_)
  · refine j_lv (lv' := [(0, vR t), (1, vI a1), (2, vI a2), (3, vI a3), (4, vL l4)]) ⟨rfl, rfl, rfl, rfl, rfl, trivial⟩ ?_
    exact wrn_goesTo_98 h l4 W
  refine j_runA hx 2 (tb := [(64, .lload 6), (66, .lconst 0)]) (jtb_ok (by decide +kernel)) (pc' := 67) (lv' := [(6, vL q8), (0, vR t), (1, vI a1), (2, vI a2), (3, vI a3), (4, vL l4)]) (st' := [vL (kJ 0), vL q8]) rfl ?_
  refine j_lcmp_lt hx (off := 30) (tgt := 98) (by decide +kernel) (by decide +kernel) (by decide) (fun _ => ?_) (fun _ => ?_)
  · refine j_lv (lv' := [(0, vR t), (1, vI a1), (2, vI a2), (3, vI a3), (4, vL l4)]) ⟨rfl, rfl, rfl, rfl, rfl, trivial⟩ ?_
    exact wrn_goesTo_98 h l4 W
  refine j_runA hx 1 (tb := [(71, .aload_n 0)]) (jtb_ok (by decide +kernel)) (pc' := 72) (lv' := [(6, vL q8), (0, vR t), (1, vI a1), (2, vI a2), (3, vI a3), (4, vL l4)]) (st' := [vR t]) rfl ?_
  refine j_getR hx flX11_42 kl1600 h7 (by decide) (by decide +kernel) ?_
  refine j_runA hx 1 (tb := [(75, .aload_n 0)]) (jtb_ok (by decide +kernel)) (pc' := 76) (lv' := [(6, vL q8), (0, vR t), (1, vI a1), (2, vI a2), (3, vI a3), (4, vL l4)]) (st' := [vR t, vR (jR W 1600 t)]) rfl ?_
  refine j_getI hx flX11_46 kd1601 h7 (by decide) (by decide +kernel) ?_
  refine j_runA hx 1 (tb := [(79, .iconst 2)]) (jtb_ok (by decide +kernel)) (pc' := 80) (lv' := [(6, vL q8), (0, vR t), (1, vI a1), (2, vI a2), (3, vI a3), (4, vL l4)]) (st' := [vI (kI 2), vI (jI W 1601 t), vR (jR W 1600 t)]) rfl ?_
  refine j_icmp_ne hx (off := 7) (tgt := 87) (by decide +kernel) (by decide) (fun _ => ?_) (fun _ => ?_)
  · refine j_runA hx 1 (tb := [(87, .iconst 0)]) (jtb_ok (by decide +kernel)) (pc' := 88) (lv' := [(6, vL q8), (0, vR t), (1, vI a1), (2, vI a2), (3, vI a3), (4, vL l4)]) (st' := [vI (kI 0), vR (jR W 1600 t)]) rfl ?_
    refine j_lv (lv' := [(0, vR t), (1, vI a1), (2, vI a2), (3, vI a3), (4, vL l4), (6, vL q8)]) ⟨rfl, rfl, rfl, rfl, rfl, rfl, trivial⟩ ?_
    exact wrn_goesTo_88 h l4 q8 (kI 0) (jR W 1600 t) W
  refine j_runA hx 1 (tb := [(83, .iconst 1)]) (jtb_ok (by decide +kernel)) (pc' := 84) (lv' := [(6, vL q8), (0, vR t), (1, vI a1), (2, vI a2), (3, vI a3), (4, vL l4)]) (st' := [vI (kI 1), vR (jR W 1600 t)]) rfl ?_
  refine j_goto hx (off := 4) (by decide +kernel) (tgt := 88) (by decide) ?_
  refine j_lv (lv' := [(0, vR t), (1, vI a1), (2, vI a2), (3, vI a3), (4, vL l4), (6, vL q8)]) ⟨rfl, rfl, rfl, rfl, rfl, rfl, trivial⟩ ?_
  exact wrn_goesTo_88 h l4 q8 (kI 1) (jR W 1600 t) W
theorem wrn_goesTo {x : jCx} {en : (Int32 × jW) → Option (Outcome × jW)} {t : Nat} {a1 : Int32} {a2 : Int32} {a3 : Int32} (h : hrn_goesTo x en t a1 a2 a3) (W : jW) : jJ x 8 0 [(0, vR t), (1, vI a1), (2, vI a2), (3, vI a3)] [] W (frn_goesTo t a1 a2 a3 W) en := by
  have h0 := h
  obtain ⟨hx, hm, hr, he⟩ := h0
  unfold frn_goesTo
  refine j_runA hx 2 (tb := [(0, .aload_n 0), (1, .iload_n 1)]) (jtb_ok (by decide +kernel)) (pc' := 2) (lv' := [(0, vR t), (1, vI a1), (2, vI a2), (3, vI a3)]) (st' := [vI a1, vR t]) rfl ?_
  refine j_gd (fun h1 => ?_)
  refine j_OL (j_callV (av := [vI a1]) (st := []) hx hr (Or.inl q3419) q3421 qs195 rfl md_frn_r np_frn_r (crn_r t a1 W) (by decide) (Nat.le_of_ble_eq_true rfl) h1 (by decide) (by decide +kernel)) (fun q2 _ => ?_)
  refine j_runA hx 3 (tb := [(5, .lstore 4), (7, .aload_n 0), (8, .iload_n 1)]) (jtb_ok (by decide +kernel)) (pc' := 9) (lv' := [(4, vL q2), (0, vR t), (1, vI a1), (2, vI a2), (3, vI a3)]) (st' := [vI a1, vR t]) rfl ?_
  refine j_OI (j_callV (av := [vI a1]) (st := []) hx hr (Or.inl q3415) q3417 qs194 rfl md_frn_isCode np_frn_isCode (crn_isCode t a1 W) (by decide) (Nat.le_of_ble_eq_true rfl) h1 (by decide) (by decide +kernel)) (fun q3 _ => ?_)
  refine j_if_eq hx (off := 15) (tgt := 27) (by decide +kernel) (by decide) (fun _ => ?_) (fun _ => ?_)
  · refine j_runA hx 1 (tb := [(27, .aload_n 0)]) (jtb_ok (by decide +kernel)) (pc' := 28) (lv' := [(4, vL q2), (0, vR t), (1, vI a1), (2, vI a2), (3, vI a3)]) (st' := [vR t]) rfl ?_
    refine j_getI hx flX11_46 kd1601 h1 (by decide) (by decide +kernel) ?_
    refine j_runA hx 1 (tb := [(31, .iconst 1)]) (jtb_ok (by decide +kernel)) (pc' := 32) (lv' := [(4, vL q2), (0, vR t), (1, vI a1), (2, vI a2), (3, vI a3)]) (st' := [vI (kI 1), vI (jI W 1601 t)]) rfl ?_
    refine j_icmp_ne hx (off := 15) (tgt := 47) (by decide +kernel) (by decide) (fun _ => ?_) (fun _ => ?_)
    · refine j_lv (lv' := [(0, vR t), (1, vI a1), (2, vI a2), (3, vI a3), (4, vL q2)]) ⟨rfl, rfl, rfl, rfl, rfl, trivial⟩ ?_
      exact wrn_goesTo_47 h q2 W
    refine j_runA hx 3 (tb := [(35, .aload_n 0), (36, .lload 4), (38, .iconst 4)]) (jtb_ok (by decide +kernel)) (pc' := 39) (lv' := [(4, vL q2), (0, vR t), (1, vI a1), (2, vI a2), (3, vI a3)]) (st' := [vI (kI 4), vL q2, vR t]) rfl ?_
    refine j_OI (j_callV (av := [vL q2, vI (kI 4)]) (st := []) hx hr (Or.inl q3477) q3479 qs206 rfl md_frn_hits np_frn_hits (crn_hits t q2 (kI 4) W) (by decide) (Nat.le_of_ble_eq_true rfl) h1 (by decide) (by decide +kernel)) (fun q4 _ => ?_)
    refine j_if_eq hx (off := 5) (tgt := 47) (by decide +kernel) (by decide) (fun _ => ?_) (fun _ => ?_)
    · refine j_lv (lv' := [(0, vR t), (1, vI a1), (2, vI a2), (3, vI a3), (4, vL q2)]) ⟨rfl, rfl, rfl, rfl, rfl, trivial⟩ ?_
      exact wrn_goesTo_47 h q2 W
    refine j_runA hx 1 (tb := [(45, .iconst 3)]) (jtb_ok (by decide +kernel)) (pc' := 46) (lv' := [(4, vL q2), (0, vR t), (1, vI a1), (2, vI a2), (3, vI a3)]) (st' := [vI (kI 3)]) rfl ?_
    exact j_iret hx hm (by decide +kernel) rfl (he _)
  refine j_runA hx 1 (tb := [(15, .aload_n 0)]) (jtb_ok (by decide +kernel)) (pc' := 16) (lv' := [(4, vL q2), (0, vR t), (1, vI a1), (2, vI a2), (3, vI a3)]) (st' := [vR t]) rfl ?_
  refine j_getR hx flX11_15 kl1604 h1 (by decide) (by decide +kernel) ?_
  refine j_runA hx 1 (tb := [(19, .iload_n 1)]) (jtb_ok (by decide +kernel)) (pc' := 20) (lv' := [(4, vL q2), (0, vR t), (1, vI a1), (2, vI a2), (3, vI a3)]) (st' := [vI a1, vR (jR W 1604 t)]) rfl ?_
  refine j_gd (fun h5 => ?_)
  refine j_bald hx (f := 1604) (o := t) kd1604 rfl (by decide +kernel) h5 ?_
  refine j_runA hx 1 (tb := [(21, .iconst 3)]) (jtb_ok (by decide +kernel)) (pc' := 22) (lv' := [(4, vL q2), (0, vR t), (1, vI a1), (2, vI a2), (3, vI a3)]) (st' := [vI (kI 3), vI (jA W 1604 t (ix a1))]) rfl ?_
  refine j_icmp_ne hx (off := 25) (tgt := 47) (by decide +kernel) (by decide) (fun _ => ?_) (fun _ => ?_)
  · refine j_lv (lv' := [(0, vR t), (1, vI a1), (2, vI a2), (3, vI a3), (4, vL q2)]) ⟨rfl, rfl, rfl, rfl, rfl, trivial⟩ ?_
    exact wrn_goesTo_47 h q2 W
  refine j_runA hx 1 (tb := [(25, .iconst 3)]) (jtb_ok (by decide +kernel)) (pc' := 26) (lv' := [(4, vL q2), (0, vR t), (1, vI a1), (2, vI a2), (3, vI a3)]) (st' := [vI (kI 3)]) rfl ?_
  exact j_iret hx hm (by decide +kernel) rfl (he _)
theorem crn_goesTo (t : Nat) (a1 : Int32) (a2 : Int32) (a3 : Int32) (W : jW) : jM yX11_goesTo cX11_goesTo 8 (Option.some Jvm.ClassFile.FieldType.int) [] 3 47 [vR t, vI a1, vI a2, vI a3] W ((frn_goesTo t a1 a2 a3 W).bind (fun q => some (.returned (some (.int q.1)), q.2))) := 
  jM.of (Nat.le_of_ble_eq_true rfl) (fun x hx hm hr => wrn_goesTo ⟨hx, hm, hr, fun _ => rfl⟩ W)
def hrn_call (x : jCx) (en : (frn_call_S ⊕ (Int32 × jW)) → Option (Outcome × jW)) (t : Nat) : Prop :=
  jOK x RX11 cX11_call 4 ∧
  jMt x "call" (Option.some Jvm.ClassFile.FieldType.int) [] ∧
  jRm x 3 56 ∧
  (∀ q : Int32 × jW, en (.inr q) = some (.returned (some (.int q.1)), q.2)) ∧
  (∀ (l1 : Int32) (l2 : Int32) (l3 : Int32) (W : jW), jJ x 4 183 [(0, vR t), (1, vI l1), (2, vI l2), (3, vI l3)] [] W (some (.inl (.inl (l1, l2, l3, W)))) en) ∧
  (∀ (l1 : Int32) (l2 : Int32) (l3 : Int32) (W : jW), jJ x 4 227 [(0, vR t), (1, vI l1), (2, vI l2), (3, vI l3)] [] W (some (.inl (.inr (l1, l2, l3, W)))) en)
theorem wrn_call_33 {x : jCx} {en : (frn_call_S ⊕ (Int32 × jW)) → Option (Outcome × jW)} {t : Nat} (h : hrn_call x en t) (W : jW) : jJ x 4 33 [(0, vR t)] [] W (frn_call_33 t W) en := by
  have h0 := h
  obtain ⟨hx, hm, hr, he, k183, k227⟩ := h0
  unfold frn_call_33
  refine j_runA hx 1 (tb := [(33, .iconst 3)]) (jtb_ok (by decide +kernel)) (pc' := 34) (lv' := [(0, vR t)]) (st' := [vI (kI 3)]) rfl ?_
  exact j_iret hx hm (by decide +kernel) rfl (he _)
theorem wrn_call_135 {x : jCx} {en : (frn_call_S ⊕ (Int32 × jW)) → Option (Outcome × jW)} {t : Nat} (h : hrn_call x en t) (W : jW) : jJ x 4 135 [(0, vR t)] [] W (frn_call_135 t W) en := by
  have h0 := h
  obtain ⟨hx, hm, hr, he, k183, k227⟩ := h0
  unfold frn_call_135
  refine j_runA hx 1 (tb := [(135, .iconst 3)]) (jtb_ok (by decide +kernel)) (pc' := 136) (lv' := [(0, vR t)]) (st' := [vI (kI 3)]) rfl ?_
  exact j_iret hx hm (by decide +kernel) rfl (he _)
theorem wrn_call_267 {x : jCx} {en : (frn_call_S ⊕ (Int32 × jW)) → Option (Outcome × jW)} {t : Nat} (h : hrn_call x en t) (l1 : Int32) (l2 : Int32) (l3 : Int32) (W : jW) : jJ x 4 267 [(0, vR t), (1, vI l1), (2, vI l2), (3, vI l3)] [] W (frn_call_267 t l1 l2 l3 W) en := by
  have h0 := h
  obtain ⟨hx, hm, hr, he, k183, k227⟩ := h0
  unfold frn_call_267
  refine j_runA hx 2 (tb := [(267, .aload_n 0), (268, .dup)]) (jtb_ok (by decide +kernel)) (pc' := 269) (lv' := [(0, vR t), (1, vI l1), (2, vI l2), (3, vI l3)]) (st' := [vR t, vR t]) rfl ?_
  refine j_gd (fun h63 => ?_)
  refine j_getI hx flX11_92 kd1620 h63 (by decide) (by decide +kernel) ?_
  refine j_runA hx 2 (tb := [(272, .iconst 1), (273, .iadd)]) (jtb_ok (by decide +kernel)) (pc' := 274) (lv' := [(0, vR t), (1, vI l1), (2, vI l2), (3, vI l3)]) (st' := [vI ((jI W 1620 t) + (kI 1)), vR t]) rfl ?_
  refine j_putI hx fwX11_92 wf1620 kd1620 h63 (by decide) (by decide +kernel) (ni1620 _) (fi1620 _) ?_
  refine j_ltw rfl (fun W64 hc65 => ?_)
  have h66 : jC W64 t = 16 := (congrFun hc65 _).trans h63
  refine j_runA hx 1 (tb := [(277, .iinc 3 1)]) (jtb_ok (by decide +kernel)) (pc' := 280) (lv' := [(3, vI (l3 + (kI 1))), (0, vR t), (1, vI l1), (2, vI l2)]) (st' := []) rfl ?_
  refine j_let (v := (l3 + (kI 1))) (lv := fun v68 => [(3, vI v68), (0, vR t), (1, vI l1), (2, vI l2)]) (st := fun _ => []) (fun v68 => ?_)
  refine j_goto hx (off := -53) (by decide +kernel) (tgt := 227) (by decide) ?_
  refine j_lv (lv' := [(0, vR t), (1, vI l1), (2, vI l2), (3, vI v68)]) ⟨rfl, rfl, rfl, rfl, trivial⟩ ?_
  exact k227 l1 l2 v68 W64
theorem wrn_call_329 {x : jCx} {en : (frn_call_S ⊕ (Int32 × jW)) → Option (Outcome × jW)} {t : Nat} (h : hrn_call x en t) (s0 : Int64) (s1 : Int32) (s2 : Nat) (W : jW) : jJ x 4 329 [(0, vR t)] [vL s0, vI s1, vR s2] W (frn_call_329 t s0 s1 s2 W) en := by
  have h0 := h
  obtain ⟨hx, hm, hr, he, k183, k227⟩ := h0
  unfold frn_call_329
  refine j_gd (fun h70 => ?_)
  refine j_WV (j_callV (av := [vI s1, vL s0]) (st := []) hx hr (Or.inl q3427) q3429 qs197 rfl md_frn_set np_frn_set (crn_set s2 s1 s0 W) (by decide) (Nat.le_of_ble_eq_true rfl) h70 (by decide) (by decide +kernel)) (fun q71 _ => ?_)
  refine j_runA hx 1 (tb := [(332, .iconst (-1))]) (jtb_ok (by decide +kernel)) (pc' := 333) (lv' := [(0, vR t)]) (st' := [vI (kI (-1))]) rfl ?_
  exact j_iret hx hm (by decide +kernel) rfl (he _)
theorem wrn_call_227 {x : jCx} {en : (frn_call_S ⊕ (Int32 × jW)) → Option (Outcome × jW)} {t : Nat} (h : hrn_call x en t) (l1 : Int32) (l2 : Int32) (l3 : Int32) (W : jW) : jJ x 4 227 [(0, vR t), (1, vI l1), (2, vI l2), (3, vI l3)] [] W (frn_call_227 t l1 l2 l3 W) en := by
  have h0 := h
  obtain ⟨hx, hm, hr, he, k183, k227⟩ := h0
  unfold frn_call_227
  refine j_runA hx 2 (tb := [(227, .iload_n 3), (228, .iload_n 2)]) (jtb_ok (by decide +kernel)) (pc' := 229) (lv' := [(0, vR t), (1, vI l1), (2, vI l2), (3, vI l3)]) (st' := [vI l2, vI l3]) rfl ?_
  refine j_icmp_ge hx (off := 54) (tgt := 283) (by decide +kernel) (by decide) (fun _ => ?_) (fun _ => ?_)
  · refine j_runA hx 2 (tb := [(283, .aload_n 0), (284, .dup)]) (jtb_ok (by decide +kernel)) (pc' := 285) (lv' := [(0, vR t), (1, vI l1), (2, vI l2), (3, vI l3)]) (st' := [vR t, vR t]) rfl ?_
    refine j_gd (fun h47 => ?_)
    refine j_getL hx flX11_107 kd1623 h47 (by decide) (by decide +kernel) ?_
    refine j_ldc2 hx (v := (kJ 4)) (jkd2 q3365 (by decide +kernel)) (by decide +kernel) ?_
    refine j_runA hx 1 (tb := [(291, .ladd)]) (jtb_ok (by decide +kernel)) (pc' := 292) (lv' := [(0, vR t), (1, vI l1), (2, vI l2), (3, vI l3)]) (st' := [vL ((jL W 1623 t) + (kJ 4)), vR t]) rfl ?_
    refine j_putL hx fwX11_107 wf1623 kd1623 h47 (by decide) (by decide +kernel) (nl1623 _) (ff1623 _) ?_
    refine j_ltw rfl (fun W48 hc49 => ?_)
    have h50 : jC W48 t = 16 := (congrFun hc49 _).trans h47
    refine j_runA hx 1 (tb := [(295, .aload_n 0)]) (jtb_ok (by decide +kernel)) (pc' := 296) (lv' := [(0, vR t), (1, vI l1), (2, vI l2), (3, vI l3)]) (st' := [vR t]) rfl ?_
    refine j_getR hx flX11_9 kl1603 h50 (by decide) (by decide +kernel) ?_
    refine j_runA hx 1 (tb := [(299, .bipush 8)]) (jtb_ok (by decide +kernel)) (pc' := 301) (lv' := [(0, vR t), (1, vI l1), (2, vI l2), (3, vI l3)]) (st' := [vI (kI 8), vR (jR W48 1603 t)]) rfl ?_
    refine j_gd (fun h52 => ?_)
    refine j_lald hx (f := 1603) (o := t) kd1603 rfl (by decide +kernel) h52 ?_
    refine j_ldc2 hx (v := (kJ 93)) (jkd2 q3557 (by decide +kernel)) (by decide +kernel) ?_
    refine j_lcmp_ne hx (off := 5) (tgt := 311) (by decide +kernel) (by decide +kernel) (by decide) (fun _ => ?_) (fun _ => ?_)
    · refine j_runA hx 3 (tb := [(311, .aload_n 0), (312, .iconst 0), (313, .iload_n 1)]) (jtb_ok (by decide +kernel)) (pc' := 314) (lv' := [(0, vR t), (1, vI l1), (2, vI l2), (3, vI l3)]) (st' := [vI l1, vI (kI 0), vR t]) rfl ?_
      refine j_if_eq hx (off := 12) (tgt := 326) (by decide +kernel) (by decide) (fun _ => ?_) (fun _ => ?_)
      · refine j_ldc2 hx (v := (kJ (-38))) (jkd2 q3558 (by decide +kernel)) (by decide +kernel) ?_
        refine j_lv (lv' := [(0, vR t)]) ⟨rfl, trivial⟩ ?_
        exact wrn_call_329 h (kJ (-38)) (kI 0) t W48
      refine j_runA hx 1 (tb := [(317, .aload_n 0)]) (jtb_ok (by decide +kernel)) (pc' := 318) (lv' := [(0, vR t), (1, vI l1), (2, vI l2), (3, vI l3)]) (st' := [vR t, vI (kI 0), vR t]) rfl ?_
      refine j_getR hx flX11_9 kl1603 h50 (by decide) (by decide +kernel) ?_
      refine j_runA hx 1 (tb := [(321, .iconst 2)]) (jtb_ok (by decide +kernel)) (pc' := 322) (lv' := [(0, vR t), (1, vI l1), (2, vI l2), (3, vI l3)]) (st' := [vI (kI 2), vR (jR W48 1603 t), vI (kI 0), vR t]) rfl ?_
      refine j_gd (fun h53 => ?_)
      refine j_lald hx (f := 1603) (o := t) kd1603 rfl (by decide +kernel) h53 ?_
      refine j_goto hx (off := 6) (by decide +kernel) (tgt := 329) (by decide) ?_
      refine j_lv (lv' := [(0, vR t)]) ⟨rfl, trivial⟩ ?_
      exact wrn_call_329 h (jB W48 1603 t (ix (kI 2))) (kI 0) t W48
    refine j_runA hx 1 (tb := [(309, .iconst 1)]) (jtb_ok (by decide +kernel)) (pc' := 310) (lv' := [(0, vR t), (1, vI l1), (2, vI l2), (3, vI l3)]) (st' := [vI (kI 1)]) rfl ?_
    exact j_iret hx hm (by decide +kernel) rfl (he _)
  refine j_runA hx 1 (tb := [(232, .aload_n 0)]) (jtb_ok (by decide +kernel)) (pc' := 233) (lv' := [(0, vR t), (1, vI l1), (2, vI l2), (3, vI l3)]) (st' := [vR t]) rfl ?_
  refine j_gd (fun h54 => ?_)
  refine j_getI hx flX11_92 kd1620 h54 (by decide) (by decide +kernel) ?_
  refine j_runA hx 1 (tb := [(236, .sipush 16384)]) (jtb_ok (by decide +kernel)) (pc' := 239) (lv' := [(0, vR t), (1, vI l1), (2, vI l2), (3, vI l3)]) (st' := [vI (kI 16384), vI (jI W 1620 t)]) rfl ?_
  refine j_icmp_ge hx (off := 28) (tgt := 267) (by decide +kernel) (by decide) (fun _ => ?_) (fun _ => ?_)
  · exact wrn_call_267 h l1 l2 l3 W
  refine j_runA hx 1 (tb := [(242, .aload_n 0)]) (jtb_ok (by decide +kernel)) (pc' := 243) (lv' := [(0, vR t), (1, vI l1), (2, vI l2), (3, vI l3)]) (st' := [vR t]) rfl ?_
  refine j_getR hx flX11_39 kl1622 h54 (by decide) (by decide +kernel) ?_
  refine j_runA hx 1 (tb := [(246, .aload_n 0)]) (jtb_ok (by decide +kernel)) (pc' := 247) (lv' := [(0, vR t), (1, vI l1), (2, vI l2), (3, vI l3)]) (st' := [vR t, vR (jR W 1622 t)]) rfl ?_
  refine j_getI hx flX11_92 kd1620 h54 (by decide) (by decide +kernel) ?_
  refine j_runA hx 2 (tb := [(250, .aload_n 0), (251, .aload_n 0)]) (jtb_ok (by decide +kernel)) (pc' := 252) (lv' := [(0, vR t), (1, vI l1), (2, vI l2), (3, vI l3)]) (st' := [vR t, vR t, vI (jI W 1620 t), vR (jR W 1622 t)]) rfl ?_
  refine j_getR hx flX11_9 kl1603 h54 (by decide) (by decide +kernel) ?_
  refine j_runA hx 1 (tb := [(255, .iconst 1)]) (jtb_ok (by decide +kernel)) (pc' := 256) (lv' := [(0, vR t), (1, vI l1), (2, vI l2), (3, vI l3)]) (st' := [vI (kI 1), vR (jR W 1603 t), vR t, vI (jI W 1620 t), vR (jR W 1622 t)]) rfl ?_
  refine j_gd (fun h55 => ?_)
  refine j_lald hx (f := 1603) (o := t) kd1603 rfl (by decide +kernel) h55 ?_
  refine j_runA hx 4 (tb := [(257, .iload_n 3), (258, .i2l), (259, .ladd), (260, .iconst 1)]) (jtb_ok (by decide +kernel)) (pc' := 261) (lv' := [(0, vR t), (1, vI l1), (2, vI l2), (3, vI l3)]) (st' := [vI (kI 1), vL ((jB W 1603 t (ix (kI 1))) + l3.toInt64), vR t, vI (jI W 1620 t), vR (jR W 1622 t)]) rfl ?_
  refine j_OL (j_callV (av := [vL ((jB W 1603 t (ix (kI 1))) + l3.toInt64), vI (kI 1)]) (st := [vI (jI W 1620 t), vR (jR W 1622 t)]) hx hr (Or.inl q3517) q3519 qs214 rfl md_frn_loaded np_frn_loaded (crn_loaded t ((jB W 1603 t (ix (kI 1))) + l3.toInt64) (kI 1) W) (by decide) (Nat.le_of_ble_eq_true rfl) h54 (by decide) (by decide +kernel)) (fun q56 _ => ?_)
  refine j_runA hx 2 (tb := [(264, .l2i), (265, .i2b)]) (jtb_ok (by decide +kernel)) (pc' := 266) (lv' := [(0, vR t), (1, vI l1), (2, vI l2), (3, vI l3)]) (st' := [vI (i2b q56.toInt32), vI (jI W 1620 t), vR (jR W 1622 t)]) rfl ?_
  refine j_gd (fun h57 => ?_)
  refine j_bast hx (f := 1622) (o := t) kd1622 rfl (by decide +kernel) h57 ?_
  refine j_ltw rfl (fun W58 hc59 => ?_)
  have h60 : jC W58 t = 16 := (congrFun hc59 _).trans h54
  exact wrn_call_267 h l1 l2 l3 W58
theorem wrn_call_215 {x : jCx} {en : (frn_call_S ⊕ (Int32 × jW)) → Option (Outcome × jW)} {t : Nat} (h : hrn_call x en t) (l1 : Int32) (l2 : Int32) (W : jW) : jJ x 4 215 [(0, vR t), (1, vI l1), (2, vI l2)] [] W (frn_call_215 t l1 l2 W) en := by
  have h0 := h
  obtain ⟨hx, hm, hr, he, k183, k227⟩ := h0
  unfold frn_call_215
  refine j_runA hx 2 (tb := [(215, .aload_n 0), (216, .dup)]) (jtb_ok (by decide +kernel)) (pc' := 217) (lv' := [(0, vR t), (1, vI l1), (2, vI l2)]) (st' := [vR t, vR t]) rfl ?_
  refine j_gd (fun h41 => ?_)
  refine j_getI hx flX11_89 kd1619 h41 (by decide) (by decide +kernel) ?_
  refine j_runA hx 2 (tb := [(220, .iconst 1), (221, .iadd)]) (jtb_ok (by decide +kernel)) (pc' := 222) (lv' := [(0, vR t), (1, vI l1), (2, vI l2)]) (st' := [vI ((jI W 1619 t) + (kI 1)), vR t]) rfl ?_
  refine j_putI hx fwX11_89 wf1619 kd1619 h41 (by decide) (by decide +kernel) (ni1619 _) (fi1619 _) ?_
  refine j_ltw rfl (fun W42 hc43 => ?_)
  have h44 : jC W42 t = 16 := (congrFun hc43 _).trans h41
  refine j_runA hx 2 (tb := [(225, .iconst 0), (226, .istore_n 3)]) (jtb_ok (by decide +kernel)) (pc' := 227) (lv' := [(3, vI (kI 0)), (0, vR t), (1, vI l1), (2, vI l2)]) (st' := []) rfl ?_
  refine j_lv (lv' := [(0, vR t), (1, vI l1), (2, vI l2), (3, vI (kI 0))]) ⟨rfl, rfl, rfl, rfl, trivial⟩ ?_
  exact k227 l1 l2 (kI 0) W42
theorem wrn_call_183 {x : jCx} {en : (frn_call_S ⊕ (Int32 × jW)) → Option (Outcome × jW)} {t : Nat} (h : hrn_call x en t) (l1 : Int32) (l2 : Int32) (l3 : Int32) (W : jW) : jJ x 4 183 [(0, vR t), (1, vI l1), (2, vI l2), (3, vI l3)] [] W (frn_call_183 t l1 l2 l3 W) en := by
  have h0 := h
  obtain ⟨hx, hm, hr, he, k183, k227⟩ := h0
  unfold frn_call_183
  refine j_runA hx 2 (tb := [(183, .iload_n 3), (184, .iconst 3)]) (jtb_ok (by decide +kernel)) (pc' := 185) (lv' := [(0, vR t), (1, vI l1), (2, vI l2), (3, vI l3)]) (st' := [vI (kI 3), vI l3]) rfl ?_
  refine j_icmp_ge hx (off := 30) (tgt := 215) (by decide +kernel) (by decide) (fun _ => ?_) (fun _ => ?_)
  · refine j_lv (lv' := [(0, vR t), (1, vI l1), (2, vI l2)]) ⟨rfl, rfl, rfl, trivial⟩ ?_
    exact wrn_call_215 h l1 l2 W
  refine j_runA hx 1 (tb := [(188, .aload_n 0)]) (jtb_ok (by decide +kernel)) (pc' := 189) (lv' := [(0, vR t), (1, vI l1), (2, vI l2), (3, vI l3)]) (st' := [vR t]) rfl ?_
  refine j_gd (fun h32 => ?_)
  refine j_getR hx flX11_36 kl1621 h32 (by decide) (by decide +kernel) ?_
  refine j_runA hx 2 (tb := [(192, .iconst 4), (193, .aload_n 0)]) (jtb_ok (by decide +kernel)) (pc' := 194) (lv' := [(0, vR t), (1, vI l1), (2, vI l2), (3, vI l3)]) (st' := [vR t, vI (kI 4), vR (jR W 1621 t)]) rfl ?_
  refine j_getI hx flX11_89 kd1619 h32 (by decide) (by decide +kernel) ?_
  refine j_runA hx 6 (tb := [(197, .imul), (198, .iconst 1), (199, .iadd), (200, .iload_n 3), (201, .iadd), (202, .aload_n 0)]) (jtb_ok (by decide +kernel)) (pc' := 203) (lv' := [(0, vR t), (1, vI l1), (2, vI l2), (3, vI l3)]) (st' := [vR t, vI ((((kI 4) * (jI W 1619 t)) + (kI 1)) + l3), vR (jR W 1621 t)]) rfl ?_
  refine j_getR hx flX11_9 kl1603 h32 (by decide) (by decide +kernel) ?_
  refine j_runA hx 1 (tb := [(206, .iload_n 3)]) (jtb_ok (by decide +kernel)) (pc' := 207) (lv' := [(0, vR t), (1, vI l1), (2, vI l2), (3, vI l3)]) (st' := [vI l3, vR (jR W 1603 t), vI ((((kI 4) * (jI W 1619 t)) + (kI 1)) + l3), vR (jR W 1621 t)]) rfl ?_
  refine j_gd (fun h33 => ?_)
  refine j_lald hx (f := 1603) (o := t) kd1603 rfl (by decide +kernel) h33 ?_
  refine j_gd (fun h34 => ?_)
  refine j_last hx (f := 1621) (o := t) kd1621 rfl (by decide +kernel) h34 ?_
  refine j_ltw rfl (fun W35 hc36 => ?_)
  have h37 : jC W35 t = 16 := (congrFun hc36 _).trans h32
  refine j_runA hx 1 (tb := [(209, .iinc 3 1)]) (jtb_ok (by decide +kernel)) (pc' := 212) (lv' := [(3, vI (l3 + (kI 1))), (0, vR t), (1, vI l1), (2, vI l2)]) (st' := []) rfl ?_
  refine j_let (v := (l3 + (kI 1))) (lv := fun v39 => [(3, vI v39), (0, vR t), (1, vI l1), (2, vI l2)]) (st := fun _ => []) (fun v39 => ?_)
  refine j_goto hx (off := -29) (by decide +kernel) (tgt := 183) (by decide) ?_
  refine j_lv (lv' := [(0, vR t), (1, vI l1), (2, vI l2), (3, vI v39)]) ⟨rfl, rfl, rfl, rfl, trivial⟩ ?_
  exact k183 l1 l2 v39 W35
theorem wrn_call_153 {x : jCx} {en : (frn_call_S ⊕ (Int32 × jW)) → Option (Outcome × jW)} {t : Nat} (h : hrn_call x en t) (l1 : Int32) (l2 : Int32) (W : jW) : jJ x 4 153 [(0, vR t), (1, vI l1), (2, vI l2)] [] W (frn_call_153 t l1 l2 W) en := by
  have h0 := h
  obtain ⟨hx, hm, hr, he, k183, k227⟩ := h0
  unfold frn_call_153
  refine j_runA hx 1 (tb := [(153, .aload_n 0)]) (jtb_ok (by decide +kernel)) (pc' := 154) (lv' := [(0, vR t), (1, vI l1), (2, vI l2)]) (st' := [vR t]) rfl ?_
  refine j_gd (fun h24 => ?_)
  refine j_getI hx flX11_89 kd1619 h24 (by decide) (by decide +kernel) ?_
  refine j_runA hx 1 (tb := [(157, .sipush 200)]) (jtb_ok (by decide +kernel)) (pc' := 160) (lv' := [(0, vR t), (1, vI l1), (2, vI l2)]) (st' := [vI (kI 200), vI (jI W 1619 t)]) rfl ?_
  refine j_icmp_ge hx (off := 55) (tgt := 215) (by decide +kernel) (by decide) (fun _ => ?_) (fun _ => ?_)
  · exact wrn_call_215 h l1 l2 W
  refine j_runA hx 1 (tb := [(163, .aload_n 0)]) (jtb_ok (by decide +kernel)) (pc' := 164) (lv' := [(0, vR t), (1, vI l1), (2, vI l2)]) (st' := [vR t]) rfl ?_
  refine j_getR hx flX11_36 kl1621 h24 (by decide) (by decide +kernel) ?_
  refine j_runA hx 2 (tb := [(167, .iconst 4), (168, .aload_n 0)]) (jtb_ok (by decide +kernel)) (pc' := 169) (lv' := [(0, vR t), (1, vI l1), (2, vI l2)]) (st' := [vR t, vI (kI 4), vR (jR W 1621 t)]) rfl ?_
  refine j_getI hx flX11_89 kd1619 h24 (by decide) (by decide +kernel) ?_
  refine j_runA hx 2 (tb := [(172, .imul), (173, .aload_n 0)]) (jtb_ok (by decide +kernel)) (pc' := 174) (lv' := [(0, vR t), (1, vI l1), (2, vI l2)]) (st' := [vR t, vI ((kI 4) * (jI W 1619 t)), vR (jR W 1621 t)]) rfl ?_
  refine j_getR hx flX11_9 kl1603 h24 (by decide) (by decide +kernel) ?_
  refine j_runA hx 1 (tb := [(177, .bipush 8)]) (jtb_ok (by decide +kernel)) (pc' := 179) (lv' := [(0, vR t), (1, vI l1), (2, vI l2)]) (st' := [vI (kI 8), vR (jR W 1603 t), vI ((kI 4) * (jI W 1619 t)), vR (jR W 1621 t)]) rfl ?_
  refine j_gd (fun h25 => ?_)
  refine j_lald hx (f := 1603) (o := t) kd1603 rfl (by decide +kernel) h25 ?_
  refine j_gd (fun h26 => ?_)
  refine j_last hx (f := 1621) (o := t) kd1621 rfl (by decide +kernel) h26 ?_
  refine j_ltw rfl (fun W27 hc28 => ?_)
  have h29 : jC W27 t = 16 := (congrFun hc28 _).trans h24
  refine j_runA hx 2 (tb := [(181, .iconst 0), (182, .istore_n 3)]) (jtb_ok (by decide +kernel)) (pc' := 183) (lv' := [(3, vI (kI 0)), (0, vR t), (1, vI l1), (2, vI l2)]) (st' := []) rfl ?_
  refine j_lv (lv' := [(0, vR t), (1, vI l1), (2, vI l2), (3, vI (kI 0))]) ⟨rfl, rfl, rfl, rfl, trivial⟩ ?_
  exact k183 l1 l2 (kI 0) W27
theorem wrn_call_137 {x : jCx} {en : (frn_call_S ⊕ (Int32 × jW)) → Option (Outcome × jW)} {t : Nat} (h : hrn_call x en t) (l1 : Int32) (l2 : Int32) (W : jW) : jJ x 4 137 [(0, vR t), (1, vI l1), (2, vI l2)] [] W (frn_call_137 t l1 l2 W) en := by
  have h0 := h
  obtain ⟨hx, hm, hr, he, k183, k227⟩ := h0
  unfold frn_call_137
  refine j_runA hx 2 (tb := [(137, .aload_n 0), (138, .aload_n 0)]) (jtb_ok (by decide +kernel)) (pc' := 139) (lv' := [(0, vR t), (1, vI l1), (2, vI l2)]) (st' := [vR t, vR t]) rfl ?_
  refine j_gd (fun h20 => ?_)
  refine j_getR hx flX11_9 kl1603 h20 (by decide) (by decide +kernel) ?_
  refine j_runA hx 1 (tb := [(142, .iconst 1)]) (jtb_ok (by decide +kernel)) (pc' := 143) (lv' := [(0, vR t), (1, vI l1), (2, vI l2)]) (st' := [vI (kI 1), vR (jR W 1603 t), vR t]) rfl ?_
  refine j_gd (fun h21 => ?_)
  refine j_lald hx (f := 1603) (o := t) kd1603 rfl (by decide +kernel) h21 ?_
  refine j_runA hx 1 (tb := [(144, .iload_n 2)]) (jtb_ok (by decide +kernel)) (pc' := 145) (lv' := [(0, vR t), (1, vI l1), (2, vI l2)]) (st' := [vI l2, vL (jB W 1603 t (ix (kI 1))), vR t]) rfl ?_
  refine j_OI (j_callV (av := [vL (jB W 1603 t (ix (kI 1))), vI l2]) (st := []) hx hr (Or.inl q3501) q3503 qs210 rfl md_frn_faultsLoad np_frn_faultsLoad (crn_faultsLoad t (jB W 1603 t (ix (kI 1))) l2 W) (by decide) (Nat.le_of_ble_eq_true rfl) h20 (by decide) (by decide +kernel)) (fun q22 _ => ?_)
  refine j_if_eq hx (off := 5) (tgt := 153) (by decide +kernel) (by decide) (fun _ => ?_) (fun _ => ?_)
  · exact wrn_call_153 h l1 l2 W
  refine j_runA hx 1 (tb := [(151, .iconst 2)]) (jtb_ok (by decide +kernel)) (pc' := 152) (lv' := [(0, vR t), (1, vI l1), (2, vI l2)]) (st' := [vI (kI 2)]) rfl ?_
  exact j_iret hx hm (by decide +kernel) rfl (he _)
theorem wrn_call_94 {x : jCx} {en : (frn_call_S ⊕ (Int32 × jW)) → Option (Outcome × jW)} {t : Nat} (h : hrn_call x en t) (l1 : Int32) (s0 : Int32) (W : jW) : jJ x 4 94 [(0, vR t), (1, vI l1)] [vI s0] W (frn_call_94 t l1 s0 W) en := by
  have h0 := h
  obtain ⟨hx, hm, hr, he, k183, k227⟩ := h0
  unfold frn_call_94
  refine j_runA hx 2 (tb := [(94, .istore_n 2), (95, .iload_n 2)]) (jtb_ok (by decide +kernel)) (pc' := 96) (lv' := [(2, vI s0), (0, vR t), (1, vI l1)]) (st' := [vI s0]) rfl ?_
  refine j_if_le hx (off := 57) (tgt := 153) (by decide +kernel) (by decide) (fun _ => ?_) (fun _ => ?_)
  · refine j_lv (lv' := [(0, vR t), (1, vI l1), (2, vI s0)]) ⟨rfl, rfl, rfl, trivial⟩ ?_
    exact wrn_call_153 h l1 s0 W
  refine j_runA hx 1 (tb := [(99, .aload_n 0)]) (jtb_ok (by decide +kernel)) (pc' := 100) (lv' := [(2, vI s0), (0, vR t), (1, vI l1)]) (st' := [vR t]) rfl ?_
  refine j_gd (fun h13 => ?_)
  refine j_getI hx flX11_46 kd1601 h13 (by decide) (by decide +kernel) ?_
  refine j_runA hx 1 (tb := [(103, .iconst 1)]) (jtb_ok (by decide +kernel)) (pc' := 104) (lv' := [(2, vI s0), (0, vR t), (1, vI l1)]) (st' := [vI (kI 1), vI (jI W 1601 t)]) rfl ?_
  refine j_icmp_ne hx (off := 33) (tgt := 137) (by decide +kernel) (by decide) (fun _ => ?_) (fun _ => ?_)
  · refine j_lv (lv' := [(0, vR t), (1, vI l1), (2, vI s0)]) ⟨rfl, rfl, rfl, trivial⟩ ?_
    exact wrn_call_137 h l1 s0 W
  refine j_runA hx 2 (tb := [(107, .aload_n 0), (108, .aload_n 0)]) (jtb_ok (by decide +kernel)) (pc' := 109) (lv' := [(2, vI s0), (0, vR t), (1, vI l1)]) (st' := [vR t, vR t]) rfl ?_
  refine j_getR hx flX11_9 kl1603 h13 (by decide) (by decide +kernel) ?_
  refine j_runA hx 1 (tb := [(112, .iconst 1)]) (jtb_ok (by decide +kernel)) (pc' := 113) (lv' := [(2, vI s0), (0, vR t), (1, vI l1)]) (st' := [vI (kI 1), vR (jR W 1603 t), vR t]) rfl ?_
  refine j_gd (fun h14 => ?_)
  refine j_lald hx (f := 1603) (o := t) kd1603 rfl (by decide +kernel) h14 ?_
  refine j_runA hx 1 (tb := [(114, .iload_n 2)]) (jtb_ok (by decide +kernel)) (pc' := 115) (lv' := [(2, vI s0), (0, vR t), (1, vI l1)]) (st' := [vI s0, vL (jB W 1603 t (ix (kI 1))), vR t]) rfl ?_
  refine j_OI (j_callV (av := [vL (jB W 1603 t (ix (kI 1))), vI s0]) (st := []) hx hr (Or.inl q3477) q3479 qs206 rfl md_frn_hits np_frn_hits (crn_hits t (jB W 1603 t (ix (kI 1))) s0 W) (by decide) (Nat.le_of_ble_eq_true rfl) h13 (by decide) (by decide +kernel)) (fun q15 _ => ?_)
  refine j_if_ne hx (off := 17) (tgt := 135) (by decide +kernel) (by decide) (fun _ => ?_) (fun _ => ?_)
  · refine j_lv (lv' := [(0, vR t)]) ⟨rfl, trivial⟩ ?_
    exact wrn_call_135 h W
  refine j_runA hx 2 (tb := [(121, .aload_n 0), (122, .aload_n 0)]) (jtb_ok (by decide +kernel)) (pc' := 123) (lv' := [(2, vI s0), (0, vR t), (1, vI l1)]) (st' := [vR t, vR t]) rfl ?_
  refine j_getR hx flX11_9 kl1603 h13 (by decide) (by decide +kernel) ?_
  refine j_runA hx 1 (tb := [(126, .iconst 1)]) (jtb_ok (by decide +kernel)) (pc' := 127) (lv' := [(2, vI s0), (0, vR t), (1, vI l1)]) (st' := [vI (kI 1), vR (jR W 1603 t), vR t]) rfl ?_
  refine j_gd (fun h16 => ?_)
  refine j_lald hx (f := 1603) (o := t) kd1603 rfl (by decide +kernel) h16 ?_
  refine j_runA hx 1 (tb := [(128, .iload_n 2)]) (jtb_ok (by decide +kernel)) (pc' := 129) (lv' := [(2, vI s0), (0, vR t), (1, vI l1)]) (st' := [vI s0, vL (jB W 1603 t (ix (kI 1))), vR t]) rfl ?_
  refine j_OI (j_callV (av := [vL (jB W 1603 t (ix (kI 1))), vI s0]) (st := []) hx hr (Or.inl q3487) q3489 qs208 rfl md_frn_hasCode np_frn_hasCode (crn_hasCode t (jB W 1603 t (ix (kI 1))) s0 W) (by decide) (Nat.le_of_ble_eq_true rfl) h13 (by decide) (by decide +kernel)) (fun q17 _ => ?_)
  refine j_if_eq hx (off := 5) (tgt := 137) (by decide +kernel) (by decide) (fun _ => ?_) (fun _ => ?_)
  · refine j_lv (lv' := [(0, vR t), (1, vI l1), (2, vI s0)]) ⟨rfl, rfl, rfl, trivial⟩ ?_
    exact wrn_call_137 h l1 s0 W
  refine j_lv (lv' := [(0, vR t)]) ⟨rfl, trivial⟩ ?_
  exact wrn_call_135 h W
theorem wrn_call_78 {x : jCx} {en : (frn_call_S ⊕ (Int32 × jW)) → Option (Outcome × jW)} {t : Nat} (h : hrn_call x en t) (s0 : Int32) (W : jW) : jJ x 4 78 [(0, vR t)] [vI s0] W (frn_call_78 t s0 W) en := by
  have h0 := h
  obtain ⟨hx, hm, hr, he, k183, k227⟩ := h0
  unfold frn_call_78
  refine j_runA hx 2 (tb := [(78, .istore_n 1), (79, .iload_n 1)]) (jtb_ok (by decide +kernel)) (pc' := 80) (lv' := [(1, vI s0), (0, vR t)]) (st' := [vI s0]) rfl ?_
  refine j_if_eq hx (off := 13) (tgt := 93) (by decide +kernel) (by decide) (fun _ => ?_) (fun _ => ?_)
  · refine j_runA hx 1 (tb := [(93, .iconst 0)]) (jtb_ok (by decide +kernel)) (pc' := 94) (lv' := [(1, vI s0), (0, vR t)]) (st' := [vI (kI 0)]) rfl ?_
    refine j_lv (lv' := [(0, vR t), (1, vI s0)]) ⟨rfl, rfl, trivial⟩ ?_
    exact wrn_call_94 h s0 (kI 0) W
  refine j_runA hx 1 (tb := [(83, .aload_n 0)]) (jtb_ok (by decide +kernel)) (pc' := 84) (lv' := [(1, vI s0), (0, vR t)]) (st' := [vR t]) rfl ?_
  refine j_gd (fun h10 => ?_)
  refine j_getR hx flX11_9 kl1603 h10 (by decide) (by decide +kernel) ?_
  refine j_runA hx 1 (tb := [(87, .iconst 2)]) (jtb_ok (by decide +kernel)) (pc' := 88) (lv' := [(1, vI s0), (0, vR t)]) (st' := [vI (kI 2), vR (jR W 1603 t)]) rfl ?_
  refine j_gd (fun h11 => ?_)
  refine j_lald hx (f := 1603) (o := t) kd1603 rfl (by decide +kernel) h11 ?_
  refine j_runA hx 1 (tb := [(89, .l2i)]) (jtb_ok (by decide +kernel)) (pc' := 90) (lv' := [(1, vI s0), (0, vR t)]) (st' := [vI ((jB W 1603 t (ix (kI 2))).toInt32)]) rfl ?_
  refine j_goto hx (off := 4) (by decide +kernel) (tgt := 94) (by decide) ?_
  refine j_lv (lv' := [(0, vR t), (1, vI s0)]) ⟨rfl, rfl, trivial⟩ ?_
  exact wrn_call_94 h s0 ((jB W 1603 t (ix (kI 2))).toInt32) W
theorem wrn_call_77 {x : jCx} {en : (frn_call_S ⊕ (Int32 × jW)) → Option (Outcome × jW)} {t : Nat} (h : hrn_call x en t) (W : jW) : jJ x 4 77 [(0, vR t)] [] W (frn_call_77 t W) en := by
  have h0 := h
  obtain ⟨hx, hm, hr, he, k183, k227⟩ := h0
  unfold frn_call_77
  refine j_runA hx 1 (tb := [(77, .iconst 0)]) (jtb_ok (by decide +kernel)) (pc' := 78) (lv' := [(0, vR t)]) (st' := [vI (kI 0)]) rfl ?_
  exact wrn_call_78 h (kI 0) W
theorem wrn_call {x : jCx} {en : (frn_call_S ⊕ (Int32 × jW)) → Option (Outcome × jW)} {t : Nat} (h : hrn_call x en t) (W : jW) : jJ x 4 0 [(0, vR t)] [] W (frn_call_0 t W) en := by
  have h0 := h
  obtain ⟨hx, hm, hr, he, k183, k227⟩ := h0
  unfold frn_call_0
  refine j_runA hx 2 (tb := [(0, .aload_n 0), (1, .bipush 8)]) (jtb_ok (by decide +kernel)) (pc' := 3) (lv' := [(0, vR t)]) (st' := [vI (kI 8), vR t]) rfl ?_
  refine j_gd (fun h1 => ?_)
  refine j_OI (j_callV (av := [vI (kI 8)]) (st := []) hx hr (Or.inl q3415) q3417 qs194 rfl md_frn_isCode np_frn_isCode (crn_isCode t (kI 8) W) (by decide) (Nat.le_of_ble_eq_true rfl) h1 (by decide) (by decide +kernel)) (fun q2 _ => ?_)
  refine j_if_ne hx (off := 27) (tgt := 33) (by decide +kernel) (by decide) (fun _ => ?_) (fun _ => ?_)
  · exact wrn_call_33 h W
  refine j_runA hx 2 (tb := [(9, .aload_n 0), (10, .iconst 0)]) (jtb_ok (by decide +kernel)) (pc' := 11) (lv' := [(0, vR t)]) (st' := [vI (kI 0), vR t]) rfl ?_
  refine j_OI (j_callV (av := [vI (kI 0)]) (st := []) hx hr (Or.inl q3415) q3417 qs194 rfl md_frn_isCode np_frn_isCode (crn_isCode t (kI 0) W) (by decide) (Nat.le_of_ble_eq_true rfl) h1 (by decide) (by decide +kernel)) (fun q3 _ => ?_)
  refine j_if_ne hx (off := 19) (tgt := 33) (by decide +kernel) (by decide) (fun _ => ?_) (fun _ => ?_)
  · exact wrn_call_33 h W
  refine j_runA hx 2 (tb := [(17, .aload_n 0), (18, .iconst 1)]) (jtb_ok (by decide +kernel)) (pc' := 19) (lv' := [(0, vR t)]) (st' := [vI (kI 1), vR t]) rfl ?_
  refine j_OI (j_callV (av := [vI (kI 1)]) (st := []) hx hr (Or.inl q3415) q3417 qs194 rfl md_frn_isCode np_frn_isCode (crn_isCode t (kI 1) W) (by decide) (Nat.le_of_ble_eq_true rfl) h1 (by decide) (by decide +kernel)) (fun q4 _ => ?_)
  refine j_if_ne hx (off := 11) (tgt := 33) (by decide +kernel) (by decide) (fun _ => ?_) (fun _ => ?_)
  · exact wrn_call_33 h W
  refine j_runA hx 2 (tb := [(25, .aload_n 0), (26, .iconst 2)]) (jtb_ok (by decide +kernel)) (pc' := 27) (lv' := [(0, vR t)]) (st' := [vI (kI 2), vR t]) rfl ?_
  refine j_OI (j_callV (av := [vI (kI 2)]) (st := []) hx hr (Or.inl q3415) q3417 qs194 rfl md_frn_isCode np_frn_isCode (crn_isCode t (kI 2) W) (by decide) (Nat.le_of_ble_eq_true rfl) h1 (by decide) (by decide +kernel)) (fun q5 _ => ?_)
  refine j_if_eq hx (off := 5) (tgt := 35) (by decide +kernel) (by decide) (fun _ => ?_) (fun _ => ?_)
  · refine j_runA hx 1 (tb := [(35, .aload_n 0)]) (jtb_ok (by decide +kernel)) (pc' := 36) (lv' := [(0, vR t)]) (st' := [vR t]) rfl ?_
    refine j_getR hx flX11_9 kl1603 h1 (by decide) (by decide +kernel) ?_
    refine j_runA hx 1 (tb := [(39, .bipush 8)]) (jtb_ok (by decide +kernel)) (pc' := 41) (lv' := [(0, vR t)]) (st' := [vI (kI 8), vR (jR W 1603 t)]) rfl ?_
    refine j_gd (fun h6 => ?_)
    refine j_lald hx (f := 1603) (o := t) kd1603 rfl (by decide +kernel) h6 ?_
    refine j_ldc2 hx (v := (kJ 64)) (jkd2 q3555 (by decide +kernel)) (by decide +kernel) ?_
    refine j_lcmp_ne hx (off := 31) (tgt := 77) (by decide +kernel) (by decide +kernel) (by decide) (fun _ => ?_) (fun _ => ?_)
    · exact wrn_call_77 h W
    refine j_runA hx 1 (tb := [(49, .aload_n 0)]) (jtb_ok (by decide +kernel)) (pc' := 50) (lv' := [(0, vR t)]) (st' := [vR t]) rfl ?_
    refine j_getR hx flX11_9 kl1603 h1 (by decide) (by decide +kernel) ?_
    refine j_runA hx 1 (tb := [(53, .iconst 2)]) (jtb_ok (by decide +kernel)) (pc' := 54) (lv' := [(0, vR t)]) (st' := [vI (kI 2), vR (jR W 1603 t)]) rfl ?_
    refine j_gd (fun h7 => ?_)
    refine j_lald hx (f := 1603) (o := t) kd1603 rfl (by decide +kernel) h7 ?_
    refine j_runA hx 1 (tb := [(55, .lconst 0)]) (jtb_ok (by decide +kernel)) (pc' := 56) (lv' := [(0, vR t)]) (st' := [vL (kJ 0), vL (jB W 1603 t (ix (kI 2)))]) rfl ?_
    refine j_lcmp_lt hx (off := 20) (tgt := 77) (by decide +kernel) (by decide +kernel) (by decide) (fun _ => ?_) (fun _ => ?_)
    · exact wrn_call_77 h W
    refine j_runA hx 1 (tb := [(60, .aload_n 0)]) (jtb_ok (by decide +kernel)) (pc' := 61) (lv' := [(0, vR t)]) (st' := [vR t]) rfl ?_
    refine j_getR hx flX11_9 kl1603 h1 (by decide) (by decide +kernel) ?_
    refine j_runA hx 1 (tb := [(64, .iconst 2)]) (jtb_ok (by decide +kernel)) (pc' := 65) (lv' := [(0, vR t)]) (st' := [vI (kI 2), vR (jR W 1603 t)]) rfl ?_
    refine j_gd (fun h8 => ?_)
    refine j_lald hx (f := 1603) (o := t) kd1603 rfl (by decide +kernel) h8 ?_
    refine j_ldc2 hx (v := (kJ 4096)) (jkd2 q3556 (by decide +kernel)) (by decide +kernel) ?_
    refine j_lcmp_gt hx (off := 7) (tgt := 77) (by decide +kernel) (by decide +kernel) (by decide) (fun _ => ?_) (fun _ => ?_)
    · exact wrn_call_77 h W
    refine j_runA hx 1 (tb := [(73, .iconst 1)]) (jtb_ok (by decide +kernel)) (pc' := 74) (lv' := [(0, vR t)]) (st' := [vI (kI 1)]) rfl ?_
    refine j_goto hx (off := 4) (by decide +kernel) (tgt := 78) (by decide) ?_
    exact wrn_call_78 h (kI 1) W
  exact wrn_call_33 h W
theorem crn_call (t : Nat) (W : jW) : jM yX11_call cX11_call 4 (Option.some Jvm.ClassFile.FieldType.int) [] 3 56 [vR t] W ((frn_call t W).bind (fun q => some (.returned (some (.int q.1)), q.2))) := by
  refine jM.of (Nat.le_of_ble_eq_true rfl) (fun x hx hm hr => ?_)
  refine j_begin (P := (Sum.elim (fun s => (183, [(0, vR t), (1, vI s.1), (2, vI s.2.1), (3, vI s.2.2.1)], s.2.2.2)) (fun s => (227, [(0, vR t), (1, vI s.1), (2, vI s.2.1), (3, vI s.2.2.1)], s.2.2.2)))) (fun en he hk => ?_)
  have h : hrn_call x en t := ⟨hx, hm, hr, fun q => he _, fun l1 l2 l3 W => hk (.inl (l1, l2, l3, W)), fun l1 l2 l3 W => hk (.inr (l1, l2, l3, W))⟩
  refine ⟨fun s => ?_, wrn_call h W⟩
  rcases s with s | s
  · exact wrn_call_183 h s.1 s.2.1 s.2.2.1 s.2.2.2
  · exact wrn_call_227 h s.1 s.2.1 s.2.2.1 s.2.2.2
def hrn_goes (x : jCx) (en : (Int32 × jW) → Option (Outcome × jW)) (t : Nat) (a1 : Int32) (a2 : Int32) (a3 : Int32) : Prop :=
  jOK x RX11 cX11_goes 9 ∧
  jMt x "goes" (Option.some Jvm.ClassFile.FieldType.int) [] ∧
  jRm x 4 71 ∧
  (∀ q : Int32 × jW, en q = some (.returned (some (.int q.1)), q.2))
theorem wrn_goes_141 {x : jCx} {en : (Int32 × jW) → Option (Outcome × jW)} {t : Nat} {a1 : Int32} {a2 : Int32} {a3 : Int32} (h : hrn_goes x en t a1 a2 a3) (s0 : Int64) (s1 : Int64) (s2 : Nat) (W : jW) : jJ x 9 141 [(0, vR t), (1, vI a1), (2, vI a2), (3, vI a3)] [vL s0, vL s1, vR s2] W (frn_goes_141 t a1 a2 a3 s0 s1 s2 W) en := by
  have h0 := h
  obtain ⟨hx, hm, hr, he⟩ := h0
  unfold frn_goes_141
  refine j_runA hx 1 (tb := [(141, .ladd)]) (jtb_ok (by decide +kernel)) (pc' := 142) (lv' := [(0, vR t), (1, vI a1), (2, vI a2), (3, vI a3)]) (st' := [vL (s1 + s0), vR s2]) rfl ?_
  refine j_gd (fun h66 => ?_)
  refine j_putL hx fwX11_107 wf1623 kd1623 h66 (by decide) (by decide +kernel) (nl1623 _) (ff1623 _) ?_
  refine j_ltw rfl (fun W67 hc68 => ?_)
  have h69 : jC W67 s2 = 16 := (congrFun hc68 _).trans h66
  refine j_runA hx 1 (tb := [(145, .iconst (-1))]) (jtb_ok (by decide +kernel)) (pc' := 146) (lv' := [(0, vR t), (1, vI a1), (2, vI a2), (3, vI a3)]) (st' := [vI (kI (-1))]) rfl ?_
  exact j_iret hx hm (by decide +kernel) rfl (he _)
theorem wrn_goes_234 {x : jCx} {en : (Int32 × jW) → Option (Outcome × jW)} {t : Nat} {a1 : Int32} {a2 : Int32} {a3 : Int32} (h : hrn_goes x en t a1 a2 a3) (s0 : Int64) (s1 : Int64) (s2 : Nat) (W : jW) : jJ x 9 234 [(0, vR t), (1, vI a1), (2, vI a2), (3, vI a3)] [vL s0, vL s1, vR s2] W (frn_goes_234 t a1 a2 a3 s0 s1 s2 W) en := by
  have h0 := h
  obtain ⟨hx, hm, hr, he⟩ := h0
  unfold frn_goes_234
  refine j_runA hx 1 (tb := [(234, .ladd)]) (jtb_ok (by decide +kernel)) (pc' := 235) (lv' := [(0, vR t), (1, vI a1), (2, vI a2), (3, vI a3)]) (st' := [vL (s1 + s0), vR s2]) rfl ?_
  refine j_gd (fun h60 => ?_)
  refine j_putL hx fwX11_107 wf1623 kd1623 h60 (by decide) (by decide +kernel) (nl1623 _) (ff1623 _) ?_
  refine j_ltw rfl (fun W61 hc62 => ?_)
  have h63 : jC W61 s2 = 16 := (congrFun hc62 _).trans h60
  refine j_runA hx 1 (tb := [(238, .iconst (-1))]) (jtb_ok (by decide +kernel)) (pc' := 239) (lv' := [(0, vR t), (1, vI a1), (2, vI a2), (3, vI a3)]) (st' := [vI (kI (-1))]) rfl ?_
  exact j_iret hx hm (by decide +kernel) rfl (he _)
theorem wrn_goes_215 {x : jCx} {en : (Int32 × jW) → Option (Outcome × jW)} {t : Nat} {a1 : Int32} {a2 : Int32} {a3 : Int32} (h : hrn_goes x en t a1 a2 a3) (s0 : Int32) (s1 : Int32) (s2 : Int64) (s3 : Nat) (W : jW) : jJ x 9 215 [(0, vR t), (1, vI a1), (2, vI a2), (3, vI a3)] [vI s0, vI s1, vL s2, vR s3] W (frn_goes_215 t a1 a2 a3 s0 s1 s2 s3 W) en := by
  have h0 := h
  obtain ⟨hx, hm, hr, he⟩ := h0
  unfold frn_goes_215
  refine j_icmp_ne hx (off := 16) (tgt := 231) (by decide +kernel) (by decide) (fun _ => ?_) (fun _ => ?_)
  · refine j_ldc2 hx (v := (kJ 4)) (jkd2 q3365 (by decide +kernel)) (by decide +kernel) ?_
    exact wrn_goes_234 h (kJ 4) s2 s3 W
  refine j_ldc2 hx (v := (kJ 4)) (jkd2 q3365 (by decide +kernel)) (by decide +kernel) ?_
  refine j_runA hx 2 (tb := [(221, .iload_n 1), (222, .iload_n 2)]) (jtb_ok (by decide +kernel)) (pc' := 223) (lv' := [(0, vR t), (1, vI a1), (2, vI a2), (3, vI a3)]) (st' := [vI a2, vI a1, vL (kJ 4), vL s2, vR s3]) rfl ?_
  refine j_TI (j_callS (av := [vI a1, vI a2]) (st := [vL (kJ 4), vL s2, vR s3]) hx hr (Or.inr ⟨_, q3537⟩) q3032 q241 md_fmo_far np_fmo_far (cmo_far a1 a2 W) (by decide) (Nat.le_of_ble_eq_true rfl) (by decide +kernel)) ?_
  refine j_runA hx 2 (tb := [(226, .i2l), (227, .lmul)]) (jtb_ok (by decide +kernel)) (pc' := 228) (lv' := [(0, vR t), (1, vI a1), (2, vI a2), (3, vI a3)]) (st' := [vL ((kJ 4) * ((fmo_far a1 a2).toInt64)), vL s2, vR s3]) rfl ?_
  refine j_goto hx (off := 6) (by decide +kernel) (tgt := 234) (by decide) ?_
  exact wrn_goes_234 h ((kJ 4) * ((fmo_far a1 a2).toInt64)) s2 s3 W
theorem wrn_goes_200 {x : jCx} {en : (Int32 × jW) → Option (Outcome × jW)} {t : Nat} {a1 : Int32} {a2 : Int32} {a3 : Int32} (h : hrn_goes x en t a1 a2 a3) (s0 : Int32) (s1 : Int64) (s2 : Nat) (W : jW) : jJ x 9 200 [(0, vR t), (1, vI a1), (2, vI a2), (3, vI a3)] [vI s0, vL s1, vR s2] W (frn_goes_200 t a1 a2 a3 s0 s1 s2 W) en := by
  have h0 := h
  obtain ⟨hx, hm, hr, he⟩ := h0
  unfold frn_goes_200
  refine j_runA hx 3 (tb := [(200, .iload_n 1), (201, .bipush 24), (203, .iconst 1)]) (jtb_ok (by decide +kernel)) (pc' := 204) (lv' := [(0, vR t), (1, vI a1), (2, vI a2), (3, vI a3)]) (st' := [vI (kI 1), vI (kI 24), vI a1, vI s0, vL s1, vR s2]) rfl ?_
  refine j_TI (j_callS (av := [vI a1, vI (kI 24), vI (kI 1)]) (st := [vI s0, vL s1, vR s2]) hx hr (Or.inr ⟨_, q3393⟩) q2964 q241 md_fmo_bits np_fmo_bits (cmo_bits a1 (kI 24) (kI 1) W) (by decide) (Nat.le_of_ble_eq_true rfl) (by decide +kernel)) ?_
  refine j_if_ne hx (off := 7) (tgt := 214) (by decide +kernel) (by decide) (fun _ => ?_) (fun _ => ?_)
  · refine j_runA hx 1 (tb := [(214, .iconst 0)]) (jtb_ok (by decide +kernel)) (pc' := 215) (lv' := [(0, vR t), (1, vI a1), (2, vI a2), (3, vI a3)]) (st' := [vI (kI 0), vI s0, vL s1, vR s2]) rfl ?_
    exact wrn_goes_215 h (kI 0) s0 s1 s2 W
  refine j_runA hx 1 (tb := [(210, .iconst 1)]) (jtb_ok (by decide +kernel)) (pc' := 211) (lv' := [(0, vR t), (1, vI a1), (2, vI a2), (3, vI a3)]) (st' := [vI (kI 1), vI s0, vL s1, vR s2]) rfl ?_
  refine j_goto hx (off := 4) (by decide +kernel) (tgt := 215) (by decide) ?_
  exact wrn_goes_215 h (kI 1) s0 s1 s2 W
theorem wrn_goes_181 {x : jCx} {en : (Int32 × jW) → Option (Outcome × jW)} {t : Nat} {a1 : Int32} {a2 : Int32} {a3 : Int32} (h : hrn_goes x en t a1 a2 a3) (s0 : Int64) (W : jW) : jJ x 9 181 [(0, vR t), (1, vI a1), (2, vI a2), (3, vI a3)] [vL s0] W (frn_goes_181 t a1 a2 a3 s0 W) en := by
  have h0 := h
  obtain ⟨hx, hm, hr, he⟩ := h0
  unfold frn_goes_181
  refine j_runA hx 3 (tb := [(181, .lstore 5), (183, .aload_n 0), (184, .dup)]) (jtb_ok (by decide +kernel)) (pc' := 185) (lv' := [(5, vL s0), (0, vR t), (1, vI a1), (2, vI a2), (3, vI a3)]) (st' := [vR t, vR t]) rfl ?_
  refine j_gd (fun h56 => ?_)
  refine j_getL hx flX11_107 kd1623 h56 (by decide) (by decide +kernel) ?_
  refine j_runA hx 2 (tb := [(188, .lload 5), (190, .lconst 0)]) (jtb_ok (by decide +kernel)) (pc' := 191) (lv' := [(5, vL s0), (0, vR t), (1, vI a1), (2, vI a2), (3, vI a3)]) (st' := [vL (kJ 0), vL s0, vL (jL W 1623 t), vR t]) rfl ?_
  refine j_lcmp_ne hx (off := 7) (tgt := 199) (by decide +kernel) (by decide +kernel) (by decide) (fun _ => ?_) (fun _ => ?_)
  · refine j_runA hx 1 (tb := [(199, .iconst 0)]) (jtb_ok (by decide +kernel)) (pc' := 200) (lv' := [(5, vL s0), (0, vR t), (1, vI a1), (2, vI a2), (3, vI a3)]) (st' := [vI (kI 0), vL (jL W 1623 t), vR t]) rfl ?_
    refine j_lv (lv' := [(0, vR t), (1, vI a1), (2, vI a2), (3, vI a3)]) ⟨rfl, rfl, rfl, rfl, trivial⟩ ?_
    exact wrn_goes_200 h (kI 0) (jL W 1623 t) t W
  refine j_runA hx 1 (tb := [(195, .iconst 1)]) (jtb_ok (by decide +kernel)) (pc' := 196) (lv' := [(5, vL s0), (0, vR t), (1, vI a1), (2, vI a2), (3, vI a3)]) (st' := [vI (kI 1), vL (jL W 1623 t), vR t]) rfl ?_
  refine j_goto hx (off := 4) (by decide +kernel) (tgt := 200) (by decide) ?_
  refine j_lv (lv' := [(0, vR t), (1, vI a1), (2, vI a2), (3, vI a3)]) ⟨rfl, rfl, rfl, rfl, trivial⟩ ?_
  exact wrn_goes_200 h (kI 1) (jL W 1623 t) t W
theorem wrn_goes_315 {x : jCx} {en : (Int32 × jW) → Option (Outcome × jW)} {t : Nat} {a1 : Int32} {a2 : Int32} {a3 : Int32} (h : hrn_goes x en t a1 a2 a3) (s0 : Int64) (s1 : Int64) (s2 : Nat) (W : jW) : jJ x 9 315 [(0, vR t), (1, vI a1), (2, vI a2), (3, vI a3)] [vL s0, vL s1, vR s2] W (frn_goes_315 t a1 a2 a3 s0 s1 s2 W) en := by
  have h0 := h
  obtain ⟨hx, hm, hr, he⟩ := h0
  unfold frn_goes_315
  refine j_runA hx 1 (tb := [(315, .ladd)]) (jtb_ok (by decide +kernel)) (pc' := 316) (lv' := [(0, vR t), (1, vI a1), (2, vI a2), (3, vI a3)]) (st' := [vL (s1 + s0), vR s2]) rfl ?_
  refine j_gd (fun h50 => ?_)
  refine j_putL hx fwX11_107 wf1623 kd1623 h50 (by decide) (by decide +kernel) (nl1623 _) (ff1623 _) ?_
  refine j_ltw rfl (fun W51 hc52 => ?_)
  have h53 : jC W51 s2 = 16 := (congrFun hc52 _).trans h50
  refine j_runA hx 1 (tb := [(319, .iconst (-1))]) (jtb_ok (by decide +kernel)) (pc' := 320) (lv' := [(0, vR t), (1, vI a1), (2, vI a2), (3, vI a3)]) (st' := [vI (kI (-1))]) rfl ?_
  exact j_iret hx hm (by decide +kernel) rfl (he _)
theorem wrn_goes_274 {x : jCx} {en : (Int32 × jW) → Option (Outcome × jW)} {t : Nat} {a1 : Int32} {a2 : Int32} {a3 : Int32} (h : hrn_goes x en t a1 a2 a3) (s0 : Int32) (s1 : Int32) (s2 : Int64) (W : jW) : jJ x 9 274 [(0, vR t), (1, vI a1), (2, vI a2), (3, vI a3)] [vI s0, vI s1, vL s2] W (frn_goes_274 t a1 a2 a3 s0 s1 s2 W) en := by
  have h0 := h
  obtain ⟨hx, hm, hr, he⟩ := h0
  unfold frn_goes_274
  refine j_runA hx 5 (tb := [(274, .iadd), (275, .lshr), (276, .lconst 1), (277, .land), (278, .lstore 7)]) (jtb_ok (by decide +kernel)) (pc' := 280) (lv' := [(7, vL ((lxr s2 (s1 + s0)) &&& (kJ 1))), (0, vR t), (1, vI a1), (2, vI a2), (3, vI a3)]) (st' := []) rfl ?_
  refine j_let (v := ((lxr s2 (s1 + s0)) &&& (kJ 1))) (lv := fun v47 => [(7, vL v47), (0, vR t), (1, vI a1), (2, vI a2), (3, vI a3)]) (st := fun _ => []) (fun v47 => ?_)
  refine j_runA hx 2 (tb := [(280, .aload_n 0), (281, .dup)]) (jtb_ok (by decide +kernel)) (pc' := 282) (lv' := [(7, vL v47), (0, vR t), (1, vI a1), (2, vI a2), (3, vI a3)]) (st' := [vR t, vR t]) rfl ?_
  refine j_gd (fun h48 => ?_)
  refine j_getL hx flX11_107 kd1623 h48 (by decide) (by decide +kernel) ?_
  refine j_runA hx 4 (tb := [(285, .lload 7), (287, .iload_n 1), (288, .bipush 24), (290, .iconst 1)]) (jtb_ok (by decide +kernel)) (pc' := 291) (lv' := [(7, vL v47), (0, vR t), (1, vI a1), (2, vI a2), (3, vI a3)]) (st' := [vI (kI 1), vI (kI 24), vI a1, vL v47, vL (jL W 1623 t), vR t]) rfl ?_
  refine j_TI (j_callS (av := [vI a1, vI (kI 24), vI (kI 1)]) (st := [vL v47, vL (jL W 1623 t), vR t]) hx hr (Or.inr ⟨_, q3393⟩) q2964 q241 md_fmo_bits np_fmo_bits (cmo_bits a1 (kI 24) (kI 1) W) (by decide) (Nat.le_of_ble_eq_true rfl) (by decide +kernel)) ?_
  refine j_runA hx 1 (tb := [(294, .i2l)]) (jtb_ok (by decide +kernel)) (pc' := 295) (lv' := [(7, vL v47), (0, vR t), (1, vI a1), (2, vI a2), (3, vI a3)]) (st' := [vL ((fmo_bits a1 (kI 24) (kI 1)).toInt64), vL v47, vL (jL W 1623 t), vR t]) rfl ?_
  refine j_lcmp_ne hx (off := 16) (tgt := 312) (by decide +kernel) (by decide +kernel) (by decide) (fun _ => ?_) (fun _ => ?_)
  · refine j_ldc2 hx (v := (kJ 4)) (jkd2 q3365 (by decide +kernel)) (by decide +kernel) ?_
    refine j_lv (lv' := [(0, vR t), (1, vI a1), (2, vI a2), (3, vI a3)]) ⟨rfl, rfl, rfl, rfl, trivial⟩ ?_
    exact wrn_goes_315 h (kJ 4) (jL W 1623 t) t W
  refine j_ldc2 hx (v := (kJ 4)) (jkd2 q3365 (by decide +kernel)) (by decide +kernel) ?_
  refine j_runA hx 2 (tb := [(302, .iload_n 1), (303, .iload_n 2)]) (jtb_ok (by decide +kernel)) (pc' := 304) (lv' := [(7, vL v47), (0, vR t), (1, vI a1), (2, vI a2), (3, vI a3)]) (st' := [vI a2, vI a1, vL (kJ 4), vL (jL W 1623 t), vR t]) rfl ?_
  refine j_TI (j_callS (av := [vI a1, vI a2]) (st := [vL (kJ 4), vL (jL W 1623 t), vR t]) hx hr (Or.inr ⟨_, q3537⟩) q3032 q241 md_fmo_far np_fmo_far (cmo_far a1 a2 W) (by decide) (Nat.le_of_ble_eq_true rfl) (by decide +kernel)) ?_
  refine j_runA hx 2 (tb := [(307, .i2l), (308, .lmul)]) (jtb_ok (by decide +kernel)) (pc' := 309) (lv' := [(7, vL v47), (0, vR t), (1, vI a1), (2, vI a2), (3, vI a3)]) (st' := [vL ((kJ 4) * ((fmo_far a1 a2).toInt64)), vL (jL W 1623 t), vR t]) rfl ?_
  refine j_goto hx (off := 6) (by decide +kernel) (tgt := 315) (by decide) ?_
  refine j_lv (lv' := [(0, vR t), (1, vI a1), (2, vI a2), (3, vI a3)]) ⟨rfl, rfl, rfl, rfl, trivial⟩ ?_
  exact wrn_goes_315 h ((kJ 4) * ((fmo_far a1 a2).toInt64)) (jL W 1623 t) t W
theorem wrn_goes_339 {x : jCx} {en : (Int32 × jW) → Option (Outcome × jW)} {t : Nat} {a1 : Int32} {a2 : Int32} {a3 : Int32} (h : hrn_goes x en t a1 a2 a3) (s0 : Int32) (s1 : Int32) (s2 : Nat) (W : jW) : jJ x 9 339 [(0, vR t), (1, vI a1), (2, vI a2), (3, vI a3)] [vI s0, vI s1, vR s2] W (frn_goes_339 t a1 a2 a3 s0 s1 s2 W) en := by
  have h0 := h
  obtain ⟨hx, hm, hr, he⟩ := h0
  unfold frn_goes_339
  refine j_runA hx 1 (tb := [(339, .iload_n 3)]) (jtb_ok (by decide +kernel)) (pc' := 340) (lv' := [(0, vR t), (1, vI a1), (2, vI a2), (3, vI a3)]) (st' := [vI a3, vI s0, vI s1, vR s2]) rfl ?_
  refine j_gd (fun h43 => ?_)
  refine j_WI (j_callV (av := [vI s1, vI s0, vI a3]) (st := []) hx hr (Or.inl q3542) q3544 qs220 rfl md_frn_goesTo np_frn_goesTo (crn_goesTo s2 s1 s0 a3 W) (by decide) (Nat.le_of_ble_eq_true rfl) h43 (by decide) (by decide +kernel)) (fun q44 _ => ?_)
  exact j_iret hx hm (by decide +kernel) rfl (he _)
theorem wrn_goes_321 {x : jCx} {en : (Int32 × jW) → Option (Outcome × jW)} {t : Nat} {a1 : Int32} {a2 : Int32} {a3 : Int32} (h : hrn_goes x en t a1 a2 a3) (W : jW) : jJ x 9 321 [(0, vR t), (1, vI a1), (2, vI a2), (3, vI a3)] [] W (frn_goes_321 t a1 a2 a3 W) en := by
  have h0 := h
  obtain ⟨hx, hm, hr, he⟩ := h0
  unfold frn_goes_321
  refine j_runA hx 4 (tb := [(321, .aload_n 0), (322, .iload_n 1), (323, .iconst 5), (324, .iconst 5)]) (jtb_ok (by decide +kernel)) (pc' := 325) (lv' := [(0, vR t), (1, vI a1), (2, vI a2), (3, vI a3)]) (st' := [vI (kI 5), vI (kI 5), vI a1, vR t]) rfl ?_
  refine j_TI (j_callS (av := [vI a1, vI (kI 5), vI (kI 5)]) (st := [vR t]) hx hr (Or.inr ⟨_, q3393⟩) q2964 q241 md_fmo_bits np_fmo_bits (cmo_bits a1 (kI 5) (kI 5) W) (by decide) (Nat.le_of_ble_eq_true rfl) (by decide +kernel)) ?_
  refine j_runA hx 2 (tb := [(328, .iload_n 2), (329, .bipush 18)]) (jtb_ok (by decide +kernel)) (pc' := 331) (lv' := [(0, vR t), (1, vI a1), (2, vI a2), (3, vI a3)]) (st' := [vI (kI 18), vI a2, vI (fmo_bits a1 (kI 5) (kI 5)), vR t]) rfl ?_
  refine j_icmp_ne hx (off := 7) (tgt := 338) (by decide +kernel) (by decide) (fun _ => ?_) (fun _ => ?_)
  · refine j_runA hx 1 (tb := [(338, .iconst 0)]) (jtb_ok (by decide +kernel)) (pc' := 339) (lv' := [(0, vR t), (1, vI a1), (2, vI a2), (3, vI a3)]) (st' := [vI (kI 0), vI (fmo_bits a1 (kI 5) (kI 5)), vR t]) rfl ?_
    exact wrn_goes_339 h (kI 0) (fmo_bits a1 (kI 5) (kI 5)) t W
  refine j_runA hx 1 (tb := [(334, .iconst 1)]) (jtb_ok (by decide +kernel)) (pc' := 335) (lv' := [(0, vR t), (1, vI a1), (2, vI a2), (3, vI a3)]) (st' := [vI (kI 1), vI (fmo_bits a1 (kI 5) (kI 5)), vR t]) rfl ?_
  refine j_goto hx (off := 4) (by decide +kernel) (tgt := 339) (by decide) ?_
  exact wrn_goes_339 h (kI 1) (fmo_bits a1 (kI 5) (kI 5)) t W
theorem wrn_goes {x : jCx} {en : (Int32 × jW) → Option (Outcome × jW)} {t : Nat} {a1 : Int32} {a2 : Int32} {a3 : Int32} (h : hrn_goes x en t a1 a2 a3) (W : jW) : jJ x 9 0 [(0, vR t), (1, vI a1), (2, vI a2), (3, vI a3)] [] W (frn_goes t a1 a2 a3 W) en := by
  have h0 := h
  obtain ⟨hx, hm, hr, he⟩ := h0
  unfold frn_goes
  refine j_runA hx 3 (tb := [(0, .iload_n 1), (1, .iconst 0), (2, .iconst 5)]) (jtb_ok (by decide +kernel)) (pc' := 3) (lv' := [(0, vR t), (1, vI a1), (2, vI a2), (3, vI a3)]) (st' := [vI (kI 5), vI (kI 0), vI a1]) rfl ?_
  refine j_TI (j_callS (av := [vI a1, vI (kI 0), vI (kI 5)]) (st := []) hx hr (Or.inr ⟨_, q3393⟩) q2964 q241 md_fmo_bits np_fmo_bits (cmo_bits a1 (kI 0) (kI 5) W) (by decide) (Nat.le_of_ble_eq_true rfl) (by decide +kernel)) ?_
  refine j_runA hx 1 (tb := [(6, .istore 4)]) (jtb_ok (by decide +kernel)) (pc' := 8) (lv' := [(4, vI (fmo_bits a1 (kI 0) (kI 5))), (0, vR t), (1, vI a1), (2, vI a2), (3, vI a3)]) (st' := []) rfl ?_
  refine j_let (v := (fmo_bits a1 (kI 0) (kI 5))) (lv := fun v1 => [(4, vI v1), (0, vR t), (1, vI a1), (2, vI a2), (3, vI a3)]) (st := fun _ => []) (fun v1 => ?_)
  refine j_runA hx 1 (tb := [(8, .iload_n 2)]) (jtb_ok (by decide +kernel)) (pc' := 9) (lv' := [(4, vI v1), (0, vR t), (1, vI a1), (2, vI a2), (3, vI a3)]) (st' := [vI a2]) rfl ?_
  refine j_tab hx (dflt := 340) (lo := 12) (hi := 20) (offs := #[51, 72, 98, 138, 231, 312, 312, 312, 335]) (len := 51) (k := 12) (off := 51) (tgt := 60) (by decide +kernel) (by decide) (by decide) (by decide) rfl (by decide) (fun _ => ?_) (fun h2 => ?_)
  · refine j_runA hx 2 (tb := [(60, .aload_n 0), (61, .dup)]) (jtb_ok (by decide +kernel)) (pc' := 62) (lv' := [(4, vI v1), (0, vR t), (1, vI a1), (2, vI a2), (3, vI a3)]) (st' := [vR t, vR t]) rfl ?_
    refine j_gd (fun h3 => ?_)
    refine j_getL hx flX11_107 kd1623 h3 (by decide) (by decide +kernel) ?_
    refine j_ldc2 hx (v := (kJ 4)) (jkd2 q3365 (by decide +kernel)) (by decide +kernel) ?_
    refine j_runA hx 2 (tb := [(68, .iload_n 1), (69, .iload_n 2)]) (jtb_ok (by decide +kernel)) (pc' := 70) (lv' := [(4, vI v1), (0, vR t), (1, vI a1), (2, vI a2), (3, vI a3)]) (st' := [vI a2, vI a1, vL (kJ 4), vL (jL W 1623 t), vR t]) rfl ?_
    refine j_TI (j_callS (av := [vI a1, vI a2]) (st := [vL (kJ 4), vL (jL W 1623 t), vR t]) hx hr (Or.inr ⟨_, q3537⟩) q3032 q241 md_fmo_far np_fmo_far (cmo_far a1 a2 W) (by decide) (Nat.le_of_ble_eq_true rfl) (by decide +kernel)) ?_
    refine j_runA hx 3 (tb := [(73, .i2l), (74, .lmul), (75, .ladd)]) (jtb_ok (by decide +kernel)) (pc' := 76) (lv' := [(4, vI v1), (0, vR t), (1, vI a1), (2, vI a2), (3, vI a3)]) (st' := [vL ((jL W 1623 t) + ((kJ 4) * ((fmo_far a1 a2).toInt64))), vR t]) rfl ?_
    refine j_putL hx fwX11_107 wf1623 kd1623 h3 (by decide) (by decide +kernel) (nl1623 _) (ff1623 _) ?_
    refine j_ltw rfl (fun W4 hc5 => ?_)
    have h6 : jC W4 t = 16 := (congrFun hc5 _).trans h3
    refine j_runA hx 1 (tb := [(79, .iconst (-1))]) (jtb_ok (by decide +kernel)) (pc' := 80) (lv' := [(4, vI v1), (0, vR t), (1, vI a1), (2, vI a2), (3, vI a3)]) (st' := [vI (kI (-1))]) rfl ?_
    exact j_iret hx hm (by decide +kernel) rfl (he _)
  refine j_tab hx (dflt := 340) (lo := 12) (hi := 20) (offs := #[51, 72, 98, 138, 231, 312, 312, 312, 335]) (len := 51) (k := 13) (off := 72) (tgt := 81) (by decide +kernel) (by decide) (by decide) (by decide) rfl (by decide) (fun _ => ?_) (fun h8 => ?_)
  · refine j_runA hx 2 (tb := [(81, .aload_n 0), (82, .iload_n 3)]) (jtb_ok (by decide +kernel)) (pc' := 83) (lv' := [(4, vI v1), (0, vR t), (1, vI a1), (2, vI a2), (3, vI a3)]) (st' := [vI a3, vR t]) rfl ?_
    refine j_gd (fun h9 => ?_)
    refine j_WV (j_callV (av := [vI a3]) (st := []) hx hr (Or.inl q3538) q3540 qs219 rfl md_frn_returnHere np_frn_returnHere (crn_returnHere t a3 W) (by decide) (Nat.le_of_ble_eq_true rfl) h9 (by decide) (by decide +kernel)) (fun q10 _ => ?_)
    refine j_runA hx 2 (tb := [(86, .aload_n 0), (87, .dup)]) (jtb_ok (by decide +kernel)) (pc' := 88) (lv' := [(4, vI v1), (0, vR t), (1, vI a1), (2, vI a2), (3, vI a3)]) (st' := [vR t, vR t]) rfl ?_
    refine j_gd (fun h12 => ?_)
    refine j_getL hx flX11_107 kd1623 h12 (by decide) (by decide +kernel) ?_
    refine j_ldc2 hx (v := (kJ 4)) (jkd2 q3365 (by decide +kernel)) (by decide +kernel) ?_
    refine j_runA hx 2 (tb := [(94, .iload_n 1), (95, .iload_n 2)]) (jtb_ok (by decide +kernel)) (pc' := 96) (lv' := [(4, vI v1), (0, vR t), (1, vI a1), (2, vI a2), (3, vI a3)]) (st' := [vI a2, vI a1, vL (kJ 4), vL (jL q10 1623 t), vR t]) rfl ?_
    refine j_TI (j_callS (av := [vI a1, vI a2]) (st := [vL (kJ 4), vL (jL q10 1623 t), vR t]) hx hr (Or.inr ⟨_, q3537⟩) q3032 q241 md_fmo_far np_fmo_far (cmo_far a1 a2 q10) (by decide) (Nat.le_of_ble_eq_true rfl) (by decide +kernel)) ?_
    refine j_runA hx 3 (tb := [(99, .i2l), (100, .lmul), (101, .ladd)]) (jtb_ok (by decide +kernel)) (pc' := 102) (lv' := [(4, vI v1), (0, vR t), (1, vI a1), (2, vI a2), (3, vI a3)]) (st' := [vL ((jL q10 1623 t) + ((kJ 4) * ((fmo_far a1 a2).toInt64))), vR t]) rfl ?_
    refine j_putL hx fwX11_107 wf1623 kd1623 h12 (by decide) (by decide +kernel) (nl1623 _) (ff1623 _) ?_
    refine j_ltw rfl (fun W13 hc14 => ?_)
    have h15 : jC W13 t = 16 := (congrFun hc14 _).trans h12
    refine j_runA hx 1 (tb := [(105, .iconst (-1))]) (jtb_ok (by decide +kernel)) (pc' := 106) (lv' := [(4, vI v1), (0, vR t), (1, vI a1), (2, vI a2), (3, vI a3)]) (st' := [vI (kI (-1))]) rfl ?_
    exact j_iret hx hm (by decide +kernel) rfl (he _)
  refine j_tab hx (dflt := 340) (lo := 12) (hi := 20) (offs := #[51, 72, 98, 138, 231, 312, 312, 312, 335]) (len := 51) (k := 14) (off := 98) (tgt := 107) (by decide +kernel) (by decide) (by decide) (by decide) rfl (by decide) (fun _ => ?_) (fun h17 => ?_)
  · refine j_runA hx 2 (tb := [(107, .aload_n 0), (108, .dup)]) (jtb_ok (by decide +kernel)) (pc' := 109) (lv' := [(4, vI v1), (0, vR t), (1, vI a1), (2, vI a2), (3, vI a3)]) (st' := [vR t, vR t]) rfl ?_
    refine j_gd (fun h18 => ?_)
    refine j_getL hx flX11_107 kd1623 h18 (by decide) (by decide +kernel) ?_
    refine j_runA hx 4 (tb := [(112, .aload_n 0), (113, .iload_n 1), (114, .iconst 0), (115, .iconst 4)]) (jtb_ok (by decide +kernel)) (pc' := 116) (lv' := [(4, vI v1), (0, vR t), (1, vI a1), (2, vI a2), (3, vI a3)]) (st' := [vI (kI 4), vI (kI 0), vI a1, vR t, vL (jL W 1623 t), vR t]) rfl ?_
    refine j_TI (j_callS (av := [vI a1, vI (kI 0), vI (kI 4)]) (st := [vR t, vL (jL W 1623 t), vR t]) hx hr (Or.inr ⟨_, q3393⟩) q2964 q241 md_fmo_bits np_fmo_bits (cmo_bits a1 (kI 0) (kI 4) W) (by decide) (Nat.le_of_ble_eq_true rfl) (by decide +kernel)) ?_
    refine j_OI (j_callV (av := [vI (fmo_bits a1 (kI 0) (kI 4))]) (st := [vL (jL W 1623 t), vR t]) hx hr (Or.inl q3463) q3465 qs203 rfl md_frn_holds np_frn_holds (crn_holds t (fmo_bits a1 (kI 0) (kI 4)) W) (by decide) (Nat.le_of_ble_eq_true rfl) h18 (by decide) (by decide +kernel)) (fun q19 _ => ?_)
    refine j_if_eq hx (off := 16) (tgt := 138) (by decide +kernel) (by decide) (fun _ => ?_) (fun _ => ?_)
    · refine j_ldc2 hx (v := (kJ 4)) (jkd2 q3365 (by decide +kernel)) (by decide +kernel) ?_
      refine j_lv (lv' := [(0, vR t), (1, vI a1), (2, vI a2), (3, vI a3)]) ⟨rfl, rfl, rfl, rfl, trivial⟩ ?_
      exact wrn_goes_141 h (kJ 4) (jL W 1623 t) t W
    refine j_ldc2 hx (v := (kJ 4)) (jkd2 q3365 (by decide +kernel)) (by decide +kernel) ?_
    refine j_runA hx 2 (tb := [(128, .iload_n 1), (129, .iload_n 2)]) (jtb_ok (by decide +kernel)) (pc' := 130) (lv' := [(4, vI v1), (0, vR t), (1, vI a1), (2, vI a2), (3, vI a3)]) (st' := [vI a2, vI a1, vL (kJ 4), vL (jL W 1623 t), vR t]) rfl ?_
    refine j_TI (j_callS (av := [vI a1, vI a2]) (st := [vL (kJ 4), vL (jL W 1623 t), vR t]) hx hr (Or.inr ⟨_, q3537⟩) q3032 q241 md_fmo_far np_fmo_far (cmo_far a1 a2 W) (by decide) (Nat.le_of_ble_eq_true rfl) (by decide +kernel)) ?_
    refine j_runA hx 2 (tb := [(133, .i2l), (134, .lmul)]) (jtb_ok (by decide +kernel)) (pc' := 135) (lv' := [(4, vI v1), (0, vR t), (1, vI a1), (2, vI a2), (3, vI a3)]) (st' := [vL ((kJ 4) * ((fmo_far a1 a2).toInt64)), vL (jL W 1623 t), vR t]) rfl ?_
    refine j_goto hx (off := 6) (by decide +kernel) (tgt := 141) (by decide) ?_
    refine j_lv (lv' := [(0, vR t), (1, vI a1), (2, vI a2), (3, vI a3)]) ⟨rfl, rfl, rfl, rfl, trivial⟩ ?_
    exact wrn_goes_141 h ((kJ 4) * ((fmo_far a1 a2).toInt64)) (jL W 1623 t) t W
  refine j_tab hx (dflt := 340) (lo := 12) (hi := 20) (offs := #[51, 72, 98, 138, 231, 312, 312, 312, 335]) (len := 51) (k := 15) (off := 138) (tgt := 147) (by decide +kernel) (by decide) (by decide) (by decide) rfl (by decide) (fun _ => ?_) (fun h20 => ?_)
  · refine j_runA hx 2 (tb := [(147, .aload_n 0), (148, .iload 4)]) (jtb_ok (by decide +kernel)) (pc' := 150) (lv' := [(4, vI v1), (0, vR t), (1, vI a1), (2, vI a2), (3, vI a3)]) (st' := [vI v1, vR t]) rfl ?_
    refine j_gd (fun h21 => ?_)
    refine j_OI (j_callV (av := [vI v1]) (st := []) hx hr (Or.inl q3415) q3417 qs194 rfl md_frn_isCode np_frn_isCode (crn_isCode t v1 W) (by decide) (Nat.le_of_ble_eq_true rfl) h21 (by decide) (by decide +kernel)) (fun q22 _ => ?_)
    refine j_if_eq hx (off := 5) (tgt := 158) (by decide +kernel) (by decide) (fun _ => ?_) (fun _ => ?_)
    · refine j_runA hx 1 (tb := [(158, .iload_n 1)]) (jtb_ok (by decide +kernel)) (pc' := 159) (lv' := [(4, vI v1), (0, vR t), (1, vI a1), (2, vI a2), (3, vI a3)]) (st' := [vI a1]) rfl ?_
      refine j_if_ge hx (off := 12) (tgt := 171) (by decide +kernel) (by decide) (fun _ => ?_) (fun _ => ?_)
      · refine j_runA hx 2 (tb := [(171, .aload_n 0), (172, .iload 4)]) (jtb_ok (by decide +kernel)) (pc' := 174) (lv' := [(4, vI v1), (0, vR t), (1, vI a1), (2, vI a2), (3, vI a3)]) (st' := [vI v1, vR t]) rfl ?_
        refine j_OL (j_callV (av := [vI v1]) (st := []) hx hr (Or.inl q3419) q3421 qs195 rfl md_frn_r np_frn_r (crn_r t v1 W) (by decide) (Nat.le_of_ble_eq_true rfl) h21 (by decide) (by decide +kernel)) (fun q23 _ => ?_)
        refine j_ldc2 hx (v := (kJ 4294967295)) (jkd2 q3406 (by decide +kernel)) (by decide +kernel) ?_
        refine j_runA hx 1 (tb := [(180, .land)]) (jtb_ok (by decide +kernel)) (pc' := 181) (lv' := [(4, vI v1), (0, vR t), (1, vI a1), (2, vI a2), (3, vI a3)]) (st' := [vL (q23 &&& (kJ 4294967295))]) rfl ?_
        refine j_lv (lv' := [(0, vR t), (1, vI a1), (2, vI a2), (3, vI a3)]) ⟨rfl, rfl, rfl, rfl, trivial⟩ ?_
        exact wrn_goes_181 h (q23 &&& (kJ 4294967295)) W
      refine j_runA hx 2 (tb := [(162, .aload_n 0), (163, .iload 4)]) (jtb_ok (by decide +kernel)) (pc' := 165) (lv' := [(4, vI v1), (0, vR t), (1, vI a1), (2, vI a2), (3, vI a3)]) (st' := [vI v1, vR t]) rfl ?_
      refine j_OL (j_callV (av := [vI v1]) (st := []) hx hr (Or.inl q3419) q3421 qs195 rfl md_frn_r np_frn_r (crn_r t v1 W) (by decide) (Nat.le_of_ble_eq_true rfl) h21 (by decide) (by decide +kernel)) (fun q24 _ => ?_)
      refine j_goto hx (off := 13) (by decide +kernel) (tgt := 181) (by decide) ?_
      refine j_lv (lv' := [(0, vR t), (1, vI a1), (2, vI a2), (3, vI a3)]) ⟨rfl, rfl, rfl, rfl, trivial⟩ ?_
      exact wrn_goes_181 h q24 W
    refine j_runA hx 1 (tb := [(156, .iconst 3)]) (jtb_ok (by decide +kernel)) (pc' := 157) (lv' := [(4, vI v1), (0, vR t), (1, vI a1), (2, vI a2), (3, vI a3)]) (st' := [vI (kI 3)]) rfl ?_
    exact j_iret hx hm (by decide +kernel) rfl (he _)
  refine j_tab hx (dflt := 340) (lo := 12) (hi := 20) (offs := #[51, 72, 98, 138, 231, 312, 312, 312, 335]) (len := 51) (k := 16) (off := 231) (tgt := 240) (by decide +kernel) (by decide) (by decide) (by decide) rfl (by decide) (fun _ => ?_) (fun h25 => ?_)
  · refine j_runA hx 2 (tb := [(240, .aload_n 0), (241, .iload 4)]) (jtb_ok (by decide +kernel)) (pc' := 243) (lv' := [(4, vI v1), (0, vR t), (1, vI a1), (2, vI a2), (3, vI a3)]) (st' := [vI v1, vR t]) rfl ?_
    refine j_gd (fun h26 => ?_)
    refine j_OI (j_callV (av := [vI v1]) (st := []) hx hr (Or.inl q3415) q3417 qs194 rfl md_frn_isCode np_frn_isCode (crn_isCode t v1 W) (by decide) (Nat.le_of_ble_eq_true rfl) h26 (by decide) (by decide +kernel)) (fun q27 _ => ?_)
    refine j_if_eq hx (off := 5) (tgt := 251) (by decide +kernel) (by decide) (fun _ => ?_) (fun _ => ?_)
    · refine j_runA hx 2 (tb := [(251, .aload_n 0), (252, .iload 4)]) (jtb_ok (by decide +kernel)) (pc' := 254) (lv' := [(4, vI v1), (0, vR t), (1, vI a1), (2, vI a2), (3, vI a3)]) (st' := [vI v1, vR t]) rfl ?_
      refine j_OL (j_callV (av := [vI v1]) (st := []) hx hr (Or.inl q3419) q3421 qs195 rfl md_frn_r np_frn_r (crn_r t v1 W) (by decide) (Nat.le_of_ble_eq_true rfl) h26 (by decide) (by decide +kernel)) (fun q28 _ => ?_)
      refine j_runA hx 3 (tb := [(257, .iload_n 1), (258, .bipush 19), (260, .iconst 5)]) (jtb_ok (by decide +kernel)) (pc' := 261) (lv' := [(4, vI v1), (0, vR t), (1, vI a1), (2, vI a2), (3, vI a3)]) (st' := [vI (kI 5), vI (kI 19), vI a1, vL q28]) rfl ?_
      refine j_TI (j_callS (av := [vI a1, vI (kI 19), vI (kI 5)]) (st := [vL q28]) hx hr (Or.inr ⟨_, q3393⟩) q2964 q241 md_fmo_bits np_fmo_bits (cmo_bits a1 (kI 19) (kI 5) W) (by decide) (Nat.le_of_ble_eq_true rfl) (by decide +kernel)) ?_
      refine j_runA hx 1 (tb := [(264, .iload_n 1)]) (jtb_ok (by decide +kernel)) (pc' := 265) (lv' := [(4, vI v1), (0, vR t), (1, vI a1), (2, vI a2), (3, vI a3)]) (st' := [vI a1, vI (fmo_bits a1 (kI 19) (kI 5)), vL q28]) rfl ?_
      refine j_if_ge hx (off := 8) (tgt := 273) (by decide +kernel) (by decide) (fun _ => ?_) (fun _ => ?_)
      · refine j_runA hx 1 (tb := [(273, .iconst 0)]) (jtb_ok (by decide +kernel)) (pc' := 274) (lv' := [(4, vI v1), (0, vR t), (1, vI a1), (2, vI a2), (3, vI a3)]) (st' := [vI (kI 0), vI (fmo_bits a1 (kI 19) (kI 5)), vL q28]) rfl ?_
        refine j_lv (lv' := [(0, vR t), (1, vI a1), (2, vI a2), (3, vI a3)]) ⟨rfl, rfl, rfl, rfl, trivial⟩ ?_
        exact wrn_goes_274 h (kI 0) (fmo_bits a1 (kI 19) (kI 5)) q28 W
      refine j_runA hx 1 (tb := [(268, .bipush 32)]) (jtb_ok (by decide +kernel)) (pc' := 270) (lv' := [(4, vI v1), (0, vR t), (1, vI a1), (2, vI a2), (3, vI a3)]) (st' := [vI (kI 32), vI (fmo_bits a1 (kI 19) (kI 5)), vL q28]) rfl ?_
      refine j_goto hx (off := 4) (by decide +kernel) (tgt := 274) (by decide) ?_
      refine j_lv (lv' := [(0, vR t), (1, vI a1), (2, vI a2), (3, vI a3)]) ⟨rfl, rfl, rfl, rfl, trivial⟩ ?_
      exact wrn_goes_274 h (kI 32) (fmo_bits a1 (kI 19) (kI 5)) q28 W
    refine j_runA hx 1 (tb := [(249, .iconst 3)]) (jtb_ok (by decide +kernel)) (pc' := 250) (lv' := [(4, vI v1), (0, vR t), (1, vI a1), (2, vI a2), (3, vI a3)]) (st' := [vI (kI 3)]) rfl ?_
    exact j_iret hx hm (by decide +kernel) rfl (he _)
  refine j_tab hx (dflt := 340) (lo := 12) (hi := 20) (offs := #[51, 72, 98, 138, 231, 312, 312, 312, 335]) (len := 51) (k := 17) (off := 312) (tgt := 321) (by decide +kernel) (by decide) (by decide) (by decide) rfl (by decide) (fun _ => ?_) (fun h29 => ?_)
  · refine j_lv (lv' := [(0, vR t), (1, vI a1), (2, vI a2), (3, vI a3)]) ⟨rfl, rfl, rfl, rfl, trivial⟩ ?_
    exact wrn_goes_321 h W
  refine j_tab hx (dflt := 340) (lo := 12) (hi := 20) (offs := #[51, 72, 98, 138, 231, 312, 312, 312, 335]) (len := 51) (k := 18) (off := 312) (tgt := 321) (by decide +kernel) (by decide) (by decide) (by decide) rfl (by decide) (fun _ => ?_) (fun h30 => ?_)
  · refine j_lv (lv' := [(0, vR t), (1, vI a1), (2, vI a2), (3, vI a3)]) ⟨rfl, rfl, rfl, rfl, trivial⟩ ?_
    exact wrn_goes_321 h W
  refine j_tab hx (dflt := 340) (lo := 12) (hi := 20) (offs := #[51, 72, 98, 138, 231, 312, 312, 312, 335]) (len := 51) (k := 19) (off := 312) (tgt := 321) (by decide +kernel) (by decide) (by decide) (by decide) rfl (by decide) (fun _ => ?_) (fun h31 => ?_)
  · refine j_lv (lv' := [(0, vR t), (1, vI a1), (2, vI a2), (3, vI a3)]) ⟨rfl, rfl, rfl, rfl, trivial⟩ ?_
    exact wrn_goes_321 h W
  refine j_tab hx (dflt := 340) (lo := 12) (hi := 20) (offs := #[51, 72, 98, 138, 231, 312, 312, 312, 335]) (len := 51) (k := 20) (off := 335) (tgt := 344) (by decide +kernel) (by decide) (by decide) (by decide) rfl (by decide) (fun _ => ?_) (fun h32 => ?_)
  · refine j_runA hx 1 (tb := [(344, .aload_n 0)]) (jtb_ok (by decide +kernel)) (pc' := 345) (lv' := [(4, vI v1), (0, vR t), (1, vI a1), (2, vI a2), (3, vI a3)]) (st' := [vR t]) rfl ?_
    refine j_gd (fun h33 => ?_)
    refine j_WI (j_callV (av := []) (st := []) hx hr (Or.inl q3551) q3553 qs222 rfl md_frn_call np_frn_call (crn_call t W) (by decide) (Nat.le_of_ble_eq_true rfl) h33 (by decide) (by decide +kernel)) (fun q34 _ => ?_)
    exact j_iret hx hm (by decide +kernel) rfl (he _)
  refine j_tabD hx (dflt := 340) (lo := 12) (hi := 20) (offs := #[51, 72, 98, 138, 231, 312, 312, 312, 335]) (len := 51) (tgt := 349) (by decide +kernel) (by decide) (fun i hi => by
    match i, hi with
    | 0, _ => exact Or.inr h2
    | 1, _ => exact Or.inr h8
    | 2, _ => exact Or.inr h17
    | 3, _ => exact Or.inr h20
    | 4, _ => exact Or.inr h25
    | 5, _ => exact Or.inr h29
    | 6, _ => exact Or.inr h30
    | 7, _ => exact Or.inr h31
    | 8, _ => exact Or.inr h32
    | n + 9, h => exact absurd h (by omega)) ?_
  refine j_runA hx 2 (tb := [(349, .aload_n 0), (350, .dup)]) (jtb_ok (by decide +kernel)) (pc' := 351) (lv' := [(4, vI v1), (0, vR t), (1, vI a1), (2, vI a2), (3, vI a3)]) (st' := [vR t, vR t]) rfl ?_
  refine j_gd (fun h36 => ?_)
  refine j_getL hx flX11_107 kd1623 h36 (by decide) (by decide +kernel) ?_
  refine j_ldc2 hx (v := (kJ 4)) (jkd2 q3365 (by decide +kernel)) (by decide +kernel) ?_
  refine j_runA hx 1 (tb := [(357, .ladd)]) (jtb_ok (by decide +kernel)) (pc' := 358) (lv' := [(4, vI v1), (0, vR t), (1, vI a1), (2, vI a2), (3, vI a3)]) (st' := [vL ((jL W 1623 t) + (kJ 4)), vR t]) rfl ?_
  refine j_putL hx fwX11_107 wf1623 kd1623 h36 (by decide) (by decide +kernel) (nl1623 _) (ff1623 _) ?_
  refine j_ltw rfl (fun W37 hc38 => ?_)
  have h39 : jC W37 t = 16 := (congrFun hc38 _).trans h36
  refine j_runA hx 1 (tb := [(361, .iconst (-1))]) (jtb_ok (by decide +kernel)) (pc' := 362) (lv' := [(4, vI v1), (0, vR t), (1, vI a1), (2, vI a2), (3, vI a3)]) (st' := [vI (kI (-1))]) rfl ?_
  exact j_iret hx hm (by decide +kernel) rfl (he _)
theorem crn_goes (t : Nat) (a1 : Int32) (a2 : Int32) (a3 : Int32) (W : jW) : jM yX11_goes cX11_goes 9 (Option.some Jvm.ClassFile.FieldType.int) [] 4 71 [vR t, vI a1, vI a2, vI a3] W ((frn_goes t a1 a2 a3 W).bind (fun q => some (.returned (some (.int q.1)), q.2))) := 
  jM.of (Nat.le_of_ble_eq_true rfl) (fun x hx hm hr => wrn_goes ⟨hx, hm, hr, fun _ => rfl⟩ W)
def hrn_runOne (x : jCx) (en : (jW) → Option (Outcome × jW)) (t : Nat) (a1 : Int64) : Prop :=
  jOK x RX11 cX11_runOne 6 ∧
  jMt x "runOne" (Option.none : Option Jvm.ClassFile.FieldType) [] ∧
  jRm x 6 121 ∧
  (∀ q : jW, en q = some (.returned none, q))
theorem wrn_runOne_16 {x : jCx} {en : (jW) → Option (Outcome × jW)} {t : Nat} {a1 : Int64} (h : hrn_runOne x en t a1) (W : jW) : jJ x 6 16 [(0, vR t), (1, vL a1)] [] W (frn_runOne_16 t a1 W) en := by
  have h0 := h
  obtain ⟨hx, hm, hr, he⟩ := h0
  unfold frn_runOne_16
  refine j_runA hx 2 (tb := [(16, .aload_n 0), (17, .iconst 2)]) (jtb_ok (by decide +kernel)) (pc' := 18) (lv' := [(0, vR t), (1, vL a1)]) (st' := [vI (kI 2), vR t]) rfl ?_
  refine j_gd (fun h36 => ?_)
  refine j_putI hx fwX11_115 wf1618 kd1618 h36 (by decide) (by decide +kernel) (ni1618 _) (fi1618 _) ?_
  refine j_ltw rfl (fun W37 hc38 => ?_)
  have h39 : jC W37 t = 16 := (congrFun hc38 _).trans h36
  exact j_vret hx hm (by decide +kernel) (he _)
theorem wrn_runOne_126 {x : jCx} {en : (jW) → Option (Outcome × jW)} {t : Nat} {a1 : Int64} (h : hrn_runOne x en t a1) (l5 : Int32) (W : jW) : jJ x 6 126 [(0, vR t), (1, vL a1), (5, vI l5)] [] W (frn_runOne_126 t a1 l5 W) en := by
  have h0 := h
  obtain ⟨hx, hm, hr, he⟩ := h0
  unfold frn_runOne_126
  refine j_runA hx 2 (tb := [(126, .aload_n 0), (127, .iload 5)]) (jtb_ok (by decide +kernel)) (pc' := 129) (lv' := [(0, vR t), (1, vL a1), (5, vI l5)]) (st' := [vI l5, vR t]) rfl ?_
  refine j_gd (fun h30 => ?_)
  refine j_putI hx fwX11_115 wf1618 kd1618 h30 (by decide) (by decide +kernel) (ni1618 _) (fi1618 _) ?_
  refine j_ltw rfl (fun W31 hc32 => ?_)
  have h33 : jC W31 t = 16 := (congrFun hc32 _).trans h30
  refine j_goto hx (off := 24) (by decide +kernel) (tgt := 156) (by decide) ?_
  exact j_vret hx hm (by decide +kernel) (he _)
theorem wrn_runOne_106 {x : jCx} {en : (jW) → Option (Outcome × jW)} {t : Nat} {a1 : Int64} (h : hrn_runOne x en t a1) (s0 : Int32) (W : jW) : jJ x 6 106 [(0, vR t), (1, vL a1)] [vI s0] W (frn_runOne_106 t a1 s0 W) en := by
  have h0 := h
  obtain ⟨hx, hm, hr, he⟩ := h0
  unfold frn_runOne_106
  refine j_runA hx 3 (tb := [(106, .istore 5), (108, .iload 5), (110, .iconst 2)]) (jtb_ok (by decide +kernel)) (pc' := 111) (lv' := [(5, vI s0), (0, vR t), (1, vL a1)]) (st' := [vI (kI 2), vI s0]) rfl ?_
  refine j_icmp_eq hx (off := 15) (tgt := 126) (by decide +kernel) (by decide) (fun _ => ?_) (fun _ => ?_)
  · refine j_lv (lv' := [(0, vR t), (1, vL a1), (5, vI s0)]) ⟨rfl, rfl, rfl, trivial⟩ ?_
    exact wrn_runOne_126 h s0 W
  refine j_runA hx 2 (tb := [(114, .iload 5), (116, .iconst 3)]) (jtb_ok (by decide +kernel)) (pc' := 117) (lv' := [(5, vI s0), (0, vR t), (1, vL a1)]) (st' := [vI (kI 3), vI s0]) rfl ?_
  refine j_icmp_eq hx (off := 9) (tgt := 126) (by decide +kernel) (by decide) (fun _ => ?_) (fun _ => ?_)
  · refine j_lv (lv' := [(0, vR t), (1, vL a1), (5, vI s0)]) ⟨rfl, rfl, rfl, trivial⟩ ?_
    exact wrn_runOne_126 h s0 W
  refine j_runA hx 2 (tb := [(120, .iload 5), (122, .iconst 4)]) (jtb_ok (by decide +kernel)) (pc' := 123) (lv' := [(5, vI s0), (0, vR t), (1, vL a1)]) (st' := [vI (kI 4), vI s0]) rfl ?_
  refine j_icmp_ne hx (off := 12) (tgt := 135) (by decide +kernel) (by decide) (fun _ => ?_) (fun _ => ?_)
  · refine j_runA hx 2 (tb := [(135, .aload_n 0), (136, .dup)]) (jtb_ok (by decide +kernel)) (pc' := 137) (lv' := [(5, vI s0), (0, vR t), (1, vL a1)]) (st' := [vR t, vR t]) rfl ?_
    refine j_gd (fun h20 => ?_)
    refine j_getI hx flX11_86 kd1617 h20 (by decide) (by decide +kernel) ?_
    refine j_runA hx 2 (tb := [(140, .iconst 1), (141, .iadd)]) (jtb_ok (by decide +kernel)) (pc' := 142) (lv' := [(5, vI s0), (0, vR t), (1, vL a1)]) (st' := [vI ((jI W 1617 t) + (kI 1)), vR t]) rfl ?_
    refine j_putI hx fwX11_86 wf1617 kd1617 h20 (by decide) (by decide +kernel) (ni1617 _) (fi1617 _) ?_
    refine j_ltw rfl (fun W21 hc22 => ?_)
    have h23 : jC W21 t = 16 := (congrFun hc22 _).trans h20
    refine j_runA hx 2 (tb := [(145, .iload 5), (147, .iconst 1)]) (jtb_ok (by decide +kernel)) (pc' := 148) (lv' := [(5, vI s0), (0, vR t), (1, vL a1)]) (st' := [vI (kI 1), vI s0]) rfl ?_
    refine j_icmp_ne hx (off := 8) (tgt := 156) (by decide +kernel) (by decide) (fun _ => ?_) (fun _ => ?_)
    · exact j_vret hx hm (by decide +kernel) (he _)
    refine j_runA hx 2 (tb := [(151, .aload_n 0), (152, .iconst 1)]) (jtb_ok (by decide +kernel)) (pc' := 153) (lv' := [(5, vI s0), (0, vR t), (1, vL a1)]) (st' := [vI (kI 1), vR t]) rfl ?_
    refine j_putI hx fwX11_115 wf1618 kd1618 h23 (by decide) (by decide +kernel) (ni1618 _) (fi1618 _) ?_
    refine j_ltw rfl (fun W25 hc26 => ?_)
    have h27 : jC W25 t = 16 := (congrFun hc26 _).trans h23
    exact j_vret hx hm (by decide +kernel) (he _)
  refine j_lv (lv' := [(0, vR t), (1, vL a1), (5, vI s0)]) ⟨rfl, rfl, rfl, trivial⟩ ?_
  exact wrn_runOne_126 h s0 W
theorem wrn_runOne_56 {x : jCx} {en : (jW) → Option (Outcome × jW)} {t : Nat} {a1 : Int64} (h : hrn_runOne x en t a1) (s0 : Int32) (W : jW) : jJ x 6 56 [(0, vR t), (1, vL a1)] [vI s0] W (frn_runOne_56 t a1 s0 W) en := by
  have h0 := h
  obtain ⟨hx, hm, hr, he⟩ := h0
  unfold frn_runOne_56
  refine j_runA hx 2 (tb := [(56, .istore_n 3), (57, .iload_n 3)]) (jtb_ok (by decide +kernel)) (pc' := 58) (lv' := [(3, vI s0), (0, vR t), (1, vL a1)]) (st' := [vI s0]) rfl ?_
  refine j_TI (j_callS (av := [vI s0]) (st := []) hx hr (Or.inr ⟨_, q3388⟩) q2954 q241 md_fmo_sort np_fmo_sort (cmo_sort s0 W) (by decide) (Nat.le_of_ble_eq_true rfl) (by decide +kernel)) ?_
  refine j_runA hx 1 (tb := [(61, .istore 4)]) (jtb_ok (by decide +kernel)) (pc' := 63) (lv' := [(4, vI (fmo_sort s0)), (3, vI s0), (0, vR t), (1, vL a1)]) (st' := []) rfl ?_
  refine j_let (v := (fmo_sort s0)) (lv := fun v7 => [(4, vI v7), (3, vI s0), (0, vR t), (1, vL a1)]) (st := fun _ => []) (fun v7 => ?_)
  refine j_runA hx 1 (tb := [(63, .iload 4)]) (jtb_ok (by decide +kernel)) (pc' := 65) (lv' := [(4, vI v7), (3, vI s0), (0, vR t), (1, vL a1)]) (st' := [vI v7]) rfl ?_
  refine j_if_ne hx (off := 9) (tgt := 74) (by decide +kernel) (by decide) (fun _ => ?_) (fun _ => ?_)
  · refine j_runA hx 2 (tb := [(74, .iload 4), (76, .bipush 12)]) (jtb_ok (by decide +kernel)) (pc' := 78) (lv' := [(4, vI v7), (3, vI s0), (0, vR t), (1, vL a1)]) (st' := [vI (kI 12), vI v7]) rfl ?_
    refine j_icmp_ge hx (off := 17) (tgt := 95) (by decide +kernel) (by decide) (fun _ => ?_) (fun _ => ?_)
    · refine j_runA hx 6 (tb := [(95, .aload_n 0), (96, .iload_n 3), (97, .iload 4), (99, .lload_n 1), (100, .l2i), (101, .iconst 4)]) (jtb_ok (by decide +kernel)) (pc' := 102) (lv' := [(4, vI v7), (3, vI s0), (0, vR t), (1, vL a1)]) (st' := [vI (kI 4), vI a1.toInt32, vI v7, vI s0, vR t]) rfl ?_
      refine j_idiv hx (by decide +kernel) (by decide +kernel) ?_
      refine j_gd (fun h8 => ?_)
      refine j_WI (j_callV (av := [vI s0, vI v7, vI (a1.toInt32 / (kI 4))]) (st := []) hx hr (Or.inl q3533) q3535 qs218 rfl md_frn_goes np_frn_goes (crn_goes t s0 v7 (a1.toInt32 / (kI 4)) W) (by decide) (Nat.le_of_ble_eq_true rfl) h8 (by decide) (by decide +kernel)) (fun q9 _ => ?_)
      refine j_lv (lv' := [(0, vR t), (1, vL a1)]) ⟨rfl, rfl, trivial⟩ ?_
      exact wrn_runOne_106 h q9.1 q9.2
    refine j_runA hx 6 (tb := [(81, .aload_n 0), (82, .iload_n 3), (83, .iload 4), (85, .lload_n 1), (86, .l2i), (87, .iconst 4)]) (jtb_ok (by decide +kernel)) (pc' := 88) (lv' := [(4, vI v7), (3, vI s0), (0, vR t), (1, vL a1)]) (st' := [vI (kI 4), vI a1.toInt32, vI v7, vI s0, vR t]) rfl ?_
    refine j_idiv hx (by decide +kernel) (by decide +kernel) ?_
    refine j_gd (fun h11 => ?_)
    refine j_WI (j_callV (av := [vI s0, vI v7, vI (a1.toInt32 / (kI 4))]) (st := []) hx hr (Or.inl q3389) q3391 qs189 rfl md_frn_work np_frn_work (crn_work t s0 v7 (a1.toInt32 / (kI 4)) W) (by decide) (Nat.le_of_ble_eq_true rfl) h11 (by decide) (by decide +kernel)) (fun q12 _ => ?_)
    refine j_goto hx (off := 14) (by decide +kernel) (tgt := 106) (by decide) ?_
    refine j_lv (lv' := [(0, vR t), (1, vL a1)]) ⟨rfl, rfl, trivial⟩ ?_
    exact wrn_runOne_106 h q12.1 q12.2
  refine j_runA hx 2 (tb := [(68, .aload_n 0), (69, .iconst 2)]) (jtb_ok (by decide +kernel)) (pc' := 70) (lv' := [(4, vI v7), (3, vI s0), (0, vR t), (1, vL a1)]) (st' := [vI (kI 2), vR t]) rfl ?_
  refine j_gd (fun h14 => ?_)
  refine j_putI hx fwX11_115 wf1618 kd1618 h14 (by decide) (by decide +kernel) (ni1618 _) (fi1618 _) ?_
  refine j_ltw rfl (fun W15 hc16 => ?_)
  have h17 : jC W15 t = 16 := (congrFun hc16 _).trans h14
  exact j_vret hx hm (by decide +kernel) (he _)
theorem wrn_runOne {x : jCx} {en : (jW) → Option (Outcome × jW)} {t : Nat} {a1 : Int64} (h : hrn_runOne x en t a1) (W : jW) : jJ x 6 0 [(0, vR t), (1, vL a1)] [] W (frn_runOne t a1 W) en := by
  have h0 := h
  obtain ⟨hx, hm, hr, he⟩ := h0
  unfold frn_runOne
  refine j_runA hx 2 (tb := [(0, .lload_n 1), (1, .lconst 0)]) (jtb_ok (by decide +kernel)) (pc' := 2) (lv' := [(0, vR t), (1, vL a1)]) (st' := [vL (kJ 0), vL a1]) rfl ?_
  refine j_lcmp_lt hx (off := 13) (tgt := 16) (by decide +kernel) (by decide +kernel) (by decide) (fun _ => ?_) (fun _ => ?_)
  · exact wrn_runOne_16 h W
  refine j_runA hx 1 (tb := [(6, .lload_n 1)]) (jtb_ok (by decide +kernel)) (pc' := 7) (lv' := [(0, vR t), (1, vL a1)]) (st' := [vL a1]) rfl ?_
  refine j_ldc2 hx (v := (kJ 3)) (jkd2 q3371 (by decide +kernel)) (by decide +kernel) ?_
  refine j_runA hx 2 (tb := [(10, .land), (11, .lconst 0)]) (jtb_ok (by decide +kernel)) (pc' := 12) (lv' := [(0, vR t), (1, vL a1)]) (st' := [vL (kJ 0), vL (a1 &&& (kJ 3))]) rfl ?_
  refine j_lcmp_eq hx (off := 9) (tgt := 22) (by decide +kernel) (by decide +kernel) (by decide) (fun _ => ?_) (fun _ => ?_)
  · refine j_runA hx 1 (tb := [(22, .aload_n 0)]) (jtb_ok (by decide +kernel)) (pc' := 23) (lv' := [(0, vR t), (1, vL a1)]) (st' := [vR t]) rfl ?_
    refine j_gd (fun h1 => ?_)
    refine j_getI hx flX11_46 kd1601 h1 (by decide) (by decide +kernel) ?_
    refine j_runA hx 1 (tb := [(26, .iconst 2)]) (jtb_ok (by decide +kernel)) (pc' := 27) (lv' := [(0, vR t), (1, vL a1)]) (st' := [vI (kI 2), vI (jI W 1601 t)]) rfl ?_
    refine j_icmp_ne hx (off := 17) (tgt := 44) (by decide +kernel) (by decide) (fun _ => ?_) (fun _ => ?_)
    · refine j_runA hx 1 (tb := [(44, .aload_n 0)]) (jtb_ok (by decide +kernel)) (pc' := 45) (lv' := [(0, vR t), (1, vL a1)]) (st' := [vR t]) rfl ?_
      refine j_getR hx flX11_42 kl1600 h1 (by decide) (by decide +kernel) ?_
      refine j_gd (fun h2 => ?_)
      refine j_getR hx flX11_272 kl1315 h2 (by decide) (by decide +kernel) ?_
      refine j_runA hx 3 (tb := [(51, .lload_n 1), (52, .l2i), (53, .iconst 4)]) (jtb_ok (by decide +kernel)) (pc' := 54) (lv' := [(0, vR t), (1, vL a1)]) (st' := [vI (kI 4), vI a1.toInt32, vR (jR W 1315 (jR W 1600 t))]) rfl ?_
      refine j_idiv hx (by decide +kernel) (by decide +kernel) ?_
      refine j_gd (fun h3 => ?_)
      refine j_iald hx (f := 1315) (o := (jR W 1600 t)) kd1315 rfl (by decide +kernel) h3 ?_
      exact wrn_runOne_56 h (jA W 1315 (jR W 1600 t) (ix (a1.toInt32 / (kI 4)))) W
    refine j_runA hx 1 (tb := [(30, .aload_n 0)]) (jtb_ok (by decide +kernel)) (pc' := 31) (lv' := [(0, vR t), (1, vL a1)]) (st' := [vR t]) rfl ?_
    refine j_getR hx flX11_42 kl1600 h1 (by decide) (by decide +kernel) ?_
    refine j_runA hx 3 (tb := [(34, .lload_n 1), (35, .l2i), (36, .iconst 4)]) (jtb_ok (by decide +kernel)) (pc' := 37) (lv' := [(0, vR t), (1, vL a1)]) (st' := [vI (kI 4), vI a1.toInt32, vR (jR W 1600 t)]) rfl ?_
    refine j_idiv hx (by decide +kernel) (by decide +kernel) ?_
    refine j_gd (fun h4 => ?_)
    refine j_OI (j_callV (av := [vI (a1.toInt32 / (kI 4))]) (st := []) hx hr (Or.inr ⟨_, q3384⟩) q3386 qs188 rfl md_fmo_newWordAt np_fmo_newWordAt (cmo_newWordAt (jR W 1600 t) (a1.toInt32 / (kI 4)) W) (by decide) (Nat.le_of_ble_eq_true rfl) h4 (by decide) (by decide +kernel)) (fun q5 _ => ?_)
    refine j_goto hx (off := 15) (by decide +kernel) (tgt := 56) (by decide) ?_
    exact wrn_runOne_56 h q5 W
  exact wrn_runOne_16 h W
theorem crn_runOne (t : Nat) (a1 : Int64) (W : jW) : jM yX11_runOne cX11_runOne 6 (Option.none : Option Jvm.ClassFile.FieldType) [] 6 121 [vR t, vL a1] W ((frn_runOne t a1 W).bind (fun q => some (.returned none, q))) := 
  jM.of (Nat.le_of_ble_eq_true rfl) (fun x hx hm hr => wrn_runOne ⟨hx, hm, hr, fun _ => rfl⟩ W)
