/-! ===== walks: fmo_laid fmo_weight fmo_moved fmo_size fmo_out fmo_check fmo_strays fmo_runOf fmo_run fmo_known fmo_told fmo_register fmo_kind fmo_newOf fmo_newer fmo_visit fmo_memory fmo_keeps fmo_newest fmo_trace fmo_text ===== -/
set_option maxRecDepth 100000
def hmo_laid (x : jCx) (en : (Int32) → Option (Outcome × jW)) (t : Nat) (a1 : Int32) (W : jW) : Prop :=
  jOK x RX8 cX8_laid 2 ∧
  jMt x "laid" (Option.some Jvm.ClassFile.FieldType.int) [] ∧
  jRm x 0 0 ∧
  (∀ q : Int32, en q = some (.returned (some (.int q)), W))
theorem wmo_laid_16 {x : jCx} {en : (Int32) → Option (Outcome × jW)} {W : jW} {t : Nat} {a1 : Int32} (h : hmo_laid x en t a1 W) : jJ x 2 16 [(0, vR t), (1, vI a1)] [] W (fmo_laid_16 t a1 W) en := by
  have h0 := h
  obtain ⟨hx, hm, hr, he⟩ := h0
  unfold fmo_laid_16
  refine j_runA hx 1 (tb := [(16, .bipush (-14))]) (jtb_ok (by decide +kernel)) (pc' := 18) (lv' := [(0, vR t), (1, vI a1)]) (st' := [vI (kI (-14))]) rfl ?_
  exact j_iret hx hm (by decide +kernel) rfl (he _)
theorem wmo_laid {x : jCx} {en : (Int32) → Option (Outcome × jW)} {W : jW} {t : Nat} {a1 : Int32} (h : hmo_laid x en t a1 W) : jJ x 2 0 [(0, vR t), (1, vI a1)] [] W (fmo_laid t a1 W) en := by
  have h0 := h
  obtain ⟨hx, hm, hr, he⟩ := h0
  unfold fmo_laid
  refine j_runA hx 1 (tb := [(0, .aload_n 0)]) (jtb_ok (by decide +kernel)) (pc' := 1) (lv' := [(0, vR t), (1, vI a1)]) (st' := [vR t]) rfl ?_
  refine j_gd (fun h1 => ?_)
  refine j_getI hx flX8_275 kd1352 h1 (by decide) (by decide +kernel) ?_
  refine j_if_eq hx (off := 12) (tgt := 16) (by decide +kernel) (by decide) (fun _ => ?_) (fun _ => ?_)
  · exact wmo_laid_16 h
  refine j_runA hx 1 (tb := [(7, .iload_n 1)]) (jtb_ok (by decide +kernel)) (pc' := 8) (lv' := [(0, vR t), (1, vI a1)]) (st' := [vI a1]) rfl ?_
  refine j_if_lt hx (off := 8) (tgt := 16) (by decide +kernel) (by decide) (fun _ => ?_) (fun _ => ?_)
  · exact wmo_laid_16 h
  refine j_runA hx 2 (tb := [(11, .iload_n 1), (12, .iconst 4)]) (jtb_ok (by decide +kernel)) (pc' := 13) (lv' := [(0, vR t), (1, vI a1)]) (st' := [vI (kI 4), vI a1]) rfl ?_
  refine j_icmp_le hx (off := 6) (tgt := 19) (by decide +kernel) (by decide) (fun _ => ?_) (fun _ => ?_)
  · refine j_runA hx 1 (tb := [(19, .iload_n 1)]) (jtb_ok (by decide +kernel)) (pc' := 20) (lv' := [(0, vR t), (1, vI a1)]) (st' := [vI a1]) rfl ?_
    refine j_if_ne hx (off := 13) (tgt := 33) (by decide +kernel) (by decide) (fun _ => ?_) (fun _ => ?_)
    · refine j_runA hx 2 (tb := [(33, .iload_n 1), (34, .iconst 1)]) (jtb_ok (by decide +kernel)) (pc' := 35) (lv' := [(0, vR t), (1, vI a1)]) (st' := [vI (kI 1), vI a1]) rfl ?_
      refine j_icmp_ne hx (off := 13) (tgt := 48) (by decide +kernel) (by decide) (fun _ => ?_) (fun _ => ?_)
      · refine j_runA hx 2 (tb := [(48, .iload_n 1), (49, .iconst 2)]) (jtb_ok (by decide +kernel)) (pc' := 50) (lv' := [(0, vR t), (1, vI a1)]) (st' := [vI (kI 2), vI a1]) rfl ?_
        refine j_icmp_ne hx (off := 13) (tgt := 63) (by decide +kernel) (by decide) (fun _ => ?_) (fun _ => ?_)
        · refine j_runA hx 2 (tb := [(63, .iload_n 1), (64, .iconst 3)]) (jtb_ok (by decide +kernel)) (pc' := 65) (lv' := [(0, vR t), (1, vI a1)]) (st' := [vI (kI 3), vI a1]) rfl ?_
          refine j_icmp_ne hx (off := 13) (tgt := 78) (by decide +kernel) (by decide) (fun _ => ?_) (fun _ => ?_)
          · refine j_runA hx 1 (tb := [(78, .aload_n 0)]) (jtb_ok (by decide +kernel)) (pc' := 79) (lv' := [(0, vR t), (1, vI a1)]) (st' := [vR t]) rfl ?_
            refine j_getR hx flX8_143 kl1350 h1 (by decide) (by decide +kernel) ?_
            refine j_gd (fun h2 => ?_)
            refine j_getI hx flX8_575 kd1513 h2 (by decide) (by decide +kernel) ?_
            exact j_iret hx hm (by decide +kernel) rfl (he _)
          refine j_runA hx 1 (tb := [(68, .aload_n 0)]) (jtb_ok (by decide +kernel)) (pc' := 69) (lv' := [(0, vR t), (1, vI a1)]) (st' := [vR t]) rfl ?_
          refine j_getR hx flX8_143 kl1350 h1 (by decide) (by decide +kernel) ?_
          refine j_gd (fun h3 => ?_)
          refine j_getI hx flX8_572 kd1512 h3 (by decide) (by decide +kernel) ?_
          refine j_goto hx (off := 10) (by decide +kernel) (tgt := 85) (by decide) ?_
          exact j_iret hx hm (by decide +kernel) rfl (he _)
        refine j_runA hx 1 (tb := [(53, .aload_n 0)]) (jtb_ok (by decide +kernel)) (pc' := 54) (lv' := [(0, vR t), (1, vI a1)]) (st' := [vR t]) rfl ?_
        refine j_getR hx flX8_143 kl1350 h1 (by decide) (by decide +kernel) ?_
        refine j_gd (fun h4 => ?_)
        refine j_getI hx flX8_569 kd1511 h4 (by decide) (by decide +kernel) ?_
        refine j_goto hx (off := 25) (by decide +kernel) (tgt := 85) (by decide) ?_
        exact j_iret hx hm (by decide +kernel) rfl (he _)
      refine j_runA hx 1 (tb := [(38, .aload_n 0)]) (jtb_ok (by decide +kernel)) (pc' := 39) (lv' := [(0, vR t), (1, vI a1)]) (st' := [vR t]) rfl ?_
      refine j_getR hx flX8_143 kl1350 h1 (by decide) (by decide +kernel) ?_
      refine j_gd (fun h5 => ?_)
      refine j_getI hx flX8_566 kd1510 h5 (by decide) (by decide +kernel) ?_
      refine j_goto hx (off := 40) (by decide +kernel) (tgt := 85) (by decide) ?_
      exact j_iret hx hm (by decide +kernel) rfl (he _)
    refine j_runA hx 1 (tb := [(23, .aload_n 0)]) (jtb_ok (by decide +kernel)) (pc' := 24) (lv' := [(0, vR t), (1, vI a1)]) (st' := [vR t]) rfl ?_
    refine j_getR hx flX8_143 kl1350 h1 (by decide) (by decide +kernel) ?_
    refine j_gd (fun h6 => ?_)
    refine j_getI hx flX8_481 kd1502 h6 (by decide) (by decide +kernel) ?_
    refine j_goto hx (off := 55) (by decide +kernel) (tgt := 85) (by decide) ?_
    exact j_iret hx hm (by decide +kernel) rfl (he _)
  exact wmo_laid_16 h
theorem cmo_laid (t : Nat) (a1 : Int32) (W : jW) : jM yX8_laid cX8_laid 2 (Option.some Jvm.ClassFile.FieldType.int) [] 0 0 [vR t, vI a1] W ((fmo_laid t a1 W).bind (fun q => some (.returned (some (.int q)), W))) := 
  jM.of (Nat.le_of_ble_eq_true rfl) (fun x hx hm hr => wmo_laid ⟨hx, hm, hr, fun _ => rfl⟩)
def hmo_weight (x : jCx) (en : (Int64) → Option (Outcome × jW)) (t : Nat) (a1 : Int32) (a2 : Int32) (W : jW) : Prop :=
  jOK x RX8 cX8_weight 3 ∧
  jMt x "weight" (Option.some Jvm.ClassFile.FieldType.long) [] ∧
  jRm x 0 0 ∧
  (∀ q : Int64, en q = some (.returned (some (.long q)), W))
theorem wmo_weight_28 {x : jCx} {en : (Int64) → Option (Outcome × jW)} {W : jW} {t : Nat} {a1 : Int32} {a2 : Int32} (h : hmo_weight x en t a1 a2 W) : jJ x 3 28 [(0, vR t), (1, vI a1), (2, vI a2)] [] W (fmo_weight_28 t a1 a2 W) en := by
  have h0 := h
  obtain ⟨hx, hm, hr, he⟩ := h0
  unfold fmo_weight_28
  refine j_ldc2 hx (v := (kJ (-14))) (jkd2 q3083 (by decide +kernel)) (by decide +kernel) ?_
  exact j_lret hx hm (by decide +kernel) (he _)
theorem wmo_weight {x : jCx} {en : (Int64) → Option (Outcome × jW)} {W : jW} {t : Nat} {a1 : Int32} {a2 : Int32} (h : hmo_weight x en t a1 a2 W) : jJ x 3 0 [(0, vR t), (1, vI a1), (2, vI a2)] [] W (fmo_weight t a1 a2 W) en := by
  have h0 := h
  obtain ⟨hx, hm, hr, he⟩ := h0
  unfold fmo_weight
  refine j_runA hx 1 (tb := [(0, .aload_n 0)]) (jtb_ok (by decide +kernel)) (pc' := 1) (lv' := [(0, vR t), (1, vI a1), (2, vI a2)]) (st' := [vR t]) rfl ?_
  refine j_gd (fun h1 => ?_)
  refine j_getI hx flX8_275 kd1352 h1 (by decide) (by decide +kernel) ?_
  refine j_if_eq hx (off := 24) (tgt := 28) (by decide +kernel) (by decide) (fun _ => ?_) (fun _ => ?_)
  · exact wmo_weight_28 h
  refine j_runA hx 1 (tb := [(7, .iload_n 1)]) (jtb_ok (by decide +kernel)) (pc' := 8) (lv' := [(0, vR t), (1, vI a1), (2, vI a2)]) (st' := [vI a1]) rfl ?_
  refine j_if_lt hx (off := 20) (tgt := 28) (by decide +kernel) (by decide) (fun _ => ?_) (fun _ => ?_)
  · exact wmo_weight_28 h
  refine j_runA hx 2 (tb := [(11, .iload_n 1), (12, .aload_n 0)]) (jtb_ok (by decide +kernel)) (pc' := 13) (lv' := [(0, vR t), (1, vI a1), (2, vI a2)]) (st' := [vR t, vI a1]) rfl ?_
  refine j_getI hx flX8_281 kd1311 h1 (by decide) (by decide +kernel) ?_
  refine j_icmp_ge hx (off := 12) (tgt := 28) (by decide +kernel) (by decide) (fun _ => ?_) (fun _ => ?_)
  · exact wmo_weight_28 h
  refine j_runA hx 1 (tb := [(19, .iload_n 2)]) (jtb_ok (by decide +kernel)) (pc' := 20) (lv' := [(0, vR t), (1, vI a1), (2, vI a2)]) (st' := [vI a2]) rfl ?_
  refine j_if_lt hx (off := 8) (tgt := 28) (by decide +kernel) (by decide) (fun _ => ?_) (fun _ => ?_)
  · exact wmo_weight_28 h
  refine j_runA hx 2 (tb := [(23, .iload_n 2), (24, .iconst 1)]) (jtb_ok (by decide +kernel)) (pc' := 25) (lv' := [(0, vR t), (1, vI a1), (2, vI a2)]) (st' := [vI (kI 1), vI a2]) rfl ?_
  refine j_icmp_le hx (off := 7) (tgt := 32) (by decide +kernel) (by decide) (fun _ => ?_) (fun _ => ?_)
  · refine j_runA hx 1 (tb := [(32, .iload_n 2)]) (jtb_ok (by decide +kernel)) (pc' := 33) (lv' := [(0, vR t), (1, vI a1), (2, vI a2)]) (st' := [vI a2]) rfl ?_
    refine j_if_ne hx (off := 12) (tgt := 45) (by decide +kernel) (by decide) (fun _ => ?_) (fun _ => ?_)
    · refine j_runA hx 1 (tb := [(45, .aload_n 0)]) (jtb_ok (by decide +kernel)) (pc' := 46) (lv' := [(0, vR t), (1, vI a1), (2, vI a2)]) (st' := [vR t]) rfl ?_
      refine j_getR hx flX8_108 kl1340 h1 (by decide) (by decide +kernel) ?_
      refine j_runA hx 1 (tb := [(49, .iload_n 1)]) (jtb_ok (by decide +kernel)) (pc' := 50) (lv' := [(0, vR t), (1, vI a1), (2, vI a2)]) (st' := [vI a1, vR (jR W 1340 t)]) rfl ?_
      refine j_gd (fun h2 => ?_)
      refine j_lald hx (f := 1340) (o := t) kd1340 rfl (by decide +kernel) h2 ?_
      exact j_lret hx hm (by decide +kernel) (he _)
    refine j_runA hx 1 (tb := [(36, .aload_n 0)]) (jtb_ok (by decide +kernel)) (pc' := 37) (lv' := [(0, vR t), (1, vI a1), (2, vI a2)]) (st' := [vR t]) rfl ?_
    refine j_getR hx flX8_111 kl1341 h1 (by decide) (by decide +kernel) ?_
    refine j_runA hx 1 (tb := [(40, .iload_n 1)]) (jtb_ok (by decide +kernel)) (pc' := 41) (lv' := [(0, vR t), (1, vI a1), (2, vI a2)]) (st' := [vI a1, vR (jR W 1341 t)]) rfl ?_
    refine j_gd (fun h3 => ?_)
    refine j_lald hx (f := 1341) (o := t) kd1341 rfl (by decide +kernel) h3 ?_
    refine j_goto hx (off := 9) (by decide +kernel) (tgt := 51) (by decide) ?_
    exact j_lret hx hm (by decide +kernel) (he _)
  exact wmo_weight_28 h
theorem cmo_weight (t : Nat) (a1 : Int32) (a2 : Int32) (W : jW) : jM yX8_weight cX8_weight 3 (Option.some Jvm.ClassFile.FieldType.long) [] 0 0 [vR t, vI a1, vI a2] W ((fmo_weight t a1 a2 W).bind (fun q => some (.returned (some (.long q)), W))) := 
  jM.of (Nat.le_of_ble_eq_true rfl) (fun x hx hm hr => wmo_weight ⟨hx, hm, hr, fun _ => rfl⟩)
def hmo_moved (x : jCx) (en : (Int64) → Option (Outcome × jW)) (t : Nat) (a1 : Int64) (W : jW) : Prop :=
  jOK x RX8 cX8_moved 4 ∧
  jMt x "moved" (Option.some Jvm.ClassFile.FieldType.long) [] ∧
  jRm x 2 28 ∧
  (∀ q : Int64, en q = some (.returned (some (.long q)), W))
theorem wmo_moved_17 {x : jCx} {en : (Int64) → Option (Outcome × jW)} {W : jW} {t : Nat} {a1 : Int64} (h : hmo_moved x en t a1 W) : jJ x 4 17 [(0, vR t), (1, vL a1)] [] W (fmo_moved_17 t a1 W) en := by
  have h0 := h
  obtain ⟨hx, hm, hr, he⟩ := h0
  unfold fmo_moved_17
  refine j_ldc2 hx (v := (kJ (-14))) (jkd2 q3083 (by decide +kernel)) (by decide +kernel) ?_
  refine j_goto hx (off := 21) (by decide +kernel) (tgt := 41) (by decide) ?_
  exact j_lret hx hm (by decide +kernel) (he _)
theorem wmo_moved {x : jCx} {en : (Int64) → Option (Outcome × jW)} {W : jW} {t : Nat} {a1 : Int64} (h : hmo_moved x en t a1 W) : jJ x 4 0 [(0, vR t), (1, vL a1)] [] W (fmo_moved t a1 W) en := by
  have h0 := h
  obtain ⟨hx, hm, hr, he⟩ := h0
  unfold fmo_moved
  refine j_runA hx 2 (tb := [(0, .aload_n 0), (1, .lload_n 1)]) (jtb_ok (by decide +kernel)) (pc' := 2) (lv' := [(0, vR t), (1, vL a1)]) (st' := [vL a1, vR t]) rfl ?_
  refine j_gd (fun h1 => ?_)
  refine j_OI (j_callV (av := [vL a1]) (st := []) hx hr (Or.inl q3106) q3108 qs152 rfl md_fmo_wordAt np_fmo_wordAt (cmo_wordAt t a1 W) (by decide) (Nat.le_of_ble_eq_true rfl) h1 (by decide) (by decide +kernel)) (fun q2 _ => ?_)
  refine j_runA hx 2 (tb := [(5, .istore_n 3), (6, .aload_n 0)]) (jtb_ok (by decide +kernel)) (pc' := 7) (lv' := [(3, vI q2), (0, vR t), (1, vL a1)]) (st' := [vR t]) rfl ?_
  refine j_getI hx flX8_275 kd1352 h1 (by decide) (by decide +kernel) ?_
  refine j_if_eq hx (off := 7) (tgt := 17) (by decide +kernel) (by decide) (fun _ => ?_) (fun _ => ?_)
  · refine j_lv (lv' := [(0, vR t), (1, vL a1)]) ⟨rfl, rfl, trivial⟩ ?_
    exact wmo_moved_17 h
  refine j_runA hx 1 (tb := [(13, .iload_n 3)]) (jtb_ok (by decide +kernel)) (pc' := 14) (lv' := [(3, vI q2), (0, vR t), (1, vL a1)]) (st' := [vI q2]) rfl ?_
  refine j_if_ge hx (off := 9) (tgt := 23) (by decide +kernel) (by decide) (fun _ => ?_) (fun _ => ?_)
  · refine j_runA hx 1 (tb := [(23, .aload_n 0)]) (jtb_ok (by decide +kernel)) (pc' := 24) (lv' := [(3, vI q2), (0, vR t), (1, vL a1)]) (st' := [vR t]) rfl ?_
    refine j_getL hx flX8_310 kd1313 h1 (by decide) (by decide +kernel) ?_
    refine j_ldc2 hx (v := (kJ 4)) (jkd2 q2931 (by decide +kernel)) (by decide +kernel) ?_
    refine j_runA hx 1 (tb := [(30, .aload_n 0)]) (jtb_ok (by decide +kernel)) (pc' := 31) (lv' := [(3, vI q2), (0, vR t), (1, vL a1)]) (st' := [vR t, vL (kJ 4), vL (jL W 1313 t)]) rfl ?_
    refine j_getR hx flX8_143 kl1350 h1 (by decide) (by decide +kernel) ?_
    refine j_runA hx 1 (tb := [(34, .iload_n 3)]) (jtb_ok (by decide +kernel)) (pc' := 35) (lv' := [(3, vI q2), (0, vR t), (1, vL a1)]) (st' := [vI q2, vR (jR W 1350 t), vL (kJ 4), vL (jL W 1313 t)]) rfl ?_
    refine j_gd (fun h3 => ?_)
    refine j_OI (j_callV (av := [vI q2]) (st := [vL (kJ 4), vL (jL W 1313 t)]) hx hr (Or.inl q3276) q3195 q3196 rfl md_fwn_newWord np_fwn_newWord (cwn_newWord (jR W 1350 t) q2 W) (by decide) (Nat.le_of_ble_eq_true rfl) h3 (by decide) (by decide +kernel)) (fun q4 _ => ?_)
    refine j_runA hx 3 (tb := [(38, .i2l), (39, .lmul), (40, .ladd)]) (jtb_ok (by decide +kernel)) (pc' := 41) (lv' := [(3, vI q2), (0, vR t), (1, vL a1)]) (st' := [vL ((jL W 1313 t) + ((kJ 4) * q4.toInt64))]) rfl ?_
    exact j_lret hx hm (by decide +kernel) (he _)
  refine j_lv (lv' := [(0, vR t), (1, vL a1)]) ⟨rfl, rfl, trivial⟩ ?_
  exact wmo_moved_17 h
theorem cmo_moved (t : Nat) (a1 : Int64) (W : jW) : jM yX8_moved cX8_moved 4 (Option.some Jvm.ClassFile.FieldType.long) [] 2 28 [vR t, vL a1] W ((fmo_moved t a1 W).bind (fun q => some (.returned (some (.long q)), W))) := 
  jM.of (Nat.le_of_ble_eq_true rfl) (fun x hx hm hr => wmo_moved ⟨hx, hm, hr, fun _ => rfl⟩)
def hmo_size (x : jCx) (en : (Int32) → Option (Outcome × jW)) (t : Nat) (W : jW) : Prop :=
  jOK x RX8 cX8_size 1 ∧
  jMt x "size" (Option.some Jvm.ClassFile.FieldType.int) [] ∧
  jRm x 0 0 ∧
  (∀ q : Int32, en q = some (.returned (some (.int q)), W))
theorem wmo_size {x : jCx} {en : (Int32) → Option (Outcome × jW)} {W : jW} {t : Nat} (h : hmo_size x en t W) : jJ x 1 0 [(0, vR t)] [] W (fmo_size t W) en := by
  have h0 := h
  obtain ⟨hx, hm, hr, he⟩ := h0
  unfold fmo_size
  refine j_runA hx 1 (tb := [(0, .aload_n 0)]) (jtb_ok (by decide +kernel)) (pc' := 1) (lv' := [(0, vR t)]) (st' := [vR t]) rfl ?_
  refine j_gd (fun h1 => ?_)
  refine j_getI hx flX8_275 kd1352 h1 (by decide) (by decide +kernel) ?_
  refine j_if_eq hx (off := 10) (tgt := 14) (by decide +kernel) (by decide) (fun _ => ?_) (fun _ => ?_)
  · refine j_runA hx 1 (tb := [(14, .bipush (-14))]) (jtb_ok (by decide +kernel)) (pc' := 16) (lv' := [(0, vR t)]) (st' := [vI (kI (-14))]) rfl ?_
    exact j_iret hx hm (by decide +kernel) rfl (he _)
  refine j_runA hx 1 (tb := [(7, .aload_n 0)]) (jtb_ok (by decide +kernel)) (pc' := 8) (lv' := [(0, vR t)]) (st' := [vR t]) rfl ?_
  refine j_getI hx flX8_530 kd1355 h1 (by decide) (by decide +kernel) ?_
  refine j_goto hx (off := 5) (by decide +kernel) (tgt := 16) (by decide) ?_
  exact j_iret hx hm (by decide +kernel) rfl (he _)
theorem cmo_size (t : Nat) (W : jW) : jM yX8_size cX8_size 1 (Option.some Jvm.ClassFile.FieldType.int) [] 0 0 [vR t] W ((fmo_size t W).bind (fun q => some (.returned (some (.int q)), W))) := 
  jM.of (Nat.le_of_ble_eq_true rfl) (fun x hx hm hr => wmo_size ⟨hx, hm, hr, fun _ => rfl⟩)
def hmo_out (x : jCx) (en : (Int32) → Option (Outcome × jW)) (t : Nat) (a1 : Int32) (W : jW) : Prop :=
  jOK x RX8 cX8_out 2 ∧
  jMt x "out" (Option.some Jvm.ClassFile.FieldType.int) [] ∧
  jRm x 0 0 ∧
  (∀ q : Int32, en q = some (.returned (some (.int q)), W))
theorem wmo_out_32 {x : jCx} {en : (Int32) → Option (Outcome × jW)} {W : jW} {t : Nat} {a1 : Int32} (h : hmo_out x en t a1 W) : jJ x 2 32 [(0, vR t), (1, vI a1)] [] W (fmo_out_32 t a1 W) en := by
  have h0 := h
  obtain ⟨hx, hm, hr, he⟩ := h0
  unfold fmo_out_32
  refine j_runA hx 1 (tb := [(32, .iconst (-1))]) (jtb_ok (by decide +kernel)) (pc' := 33) (lv' := [(0, vR t), (1, vI a1)]) (st' := [vI (kI (-1))]) rfl ?_
  exact j_iret hx hm (by decide +kernel) rfl (he _)
theorem wmo_out {x : jCx} {en : (Int32) → Option (Outcome × jW)} {W : jW} {t : Nat} {a1 : Int32} (h : hmo_out x en t a1 W) : jJ x 2 0 [(0, vR t), (1, vI a1)] [] W (fmo_out t a1 W) en := by
  have h0 := h
  obtain ⟨hx, hm, hr, he⟩ := h0
  unfold fmo_out
  refine j_runA hx 1 (tb := [(0, .aload_n 0)]) (jtb_ok (by decide +kernel)) (pc' := 1) (lv' := [(0, vR t), (1, vI a1)]) (st' := [vR t]) rfl ?_
  refine j_gd (fun h1 => ?_)
  refine j_getI hx flX8_275 kd1352 h1 (by decide) (by decide +kernel) ?_
  refine j_if_eq hx (off := 28) (tgt := 32) (by decide +kernel) (by decide) (fun _ => ?_) (fun _ => ?_)
  · exact wmo_out_32 h
  refine j_runA hx 1 (tb := [(7, .iload_n 1)]) (jtb_ok (by decide +kernel)) (pc' := 8) (lv' := [(0, vR t), (1, vI a1)]) (st' := [vI a1]) rfl ?_
  refine j_if_lt hx (off := 24) (tgt := 32) (by decide +kernel) (by decide) (fun _ => ?_) (fun _ => ?_)
  · exact wmo_out_32 h
  refine j_runA hx 2 (tb := [(11, .iload_n 1), (12, .aload_n 0)]) (jtb_ok (by decide +kernel)) (pc' := 13) (lv' := [(0, vR t), (1, vI a1)]) (st' := [vR t, vI a1]) rfl ?_
  refine j_getI hx flX8_530 kd1355 h1 (by decide) (by decide +kernel) ?_
  refine j_icmp_ge hx (off := 16) (tgt := 32) (by decide +kernel) (by decide) (fun _ => ?_) (fun _ => ?_)
  · exact wmo_out_32 h
  refine j_runA hx 1 (tb := [(19, .aload_n 0)]) (jtb_ok (by decide +kernel)) (pc' := 20) (lv' := [(0, vR t), (1, vI a1)]) (st' := [vR t]) rfl ?_
  refine j_getR hx flX8_151 kl1354 h1 (by decide) (by decide +kernel) ?_
  refine j_runA hx 1 (tb := [(23, .iload_n 1)]) (jtb_ok (by decide +kernel)) (pc' := 24) (lv' := [(0, vR t), (1, vI a1)]) (st' := [vI a1, vR (jR W 1354 t)]) rfl ?_
  refine j_gd (fun h2 => ?_)
  refine j_gd (fun h3 => ?_)
  refine j_bald hx (f := 9004) (o := (jR W 1354 t)) kd9004 h2 (by decide +kernel) h3 ?_
  refine j_runA hx 2 (tb := [(25, .sipush 255), (28, .iand)]) (jtb_ok (by decide +kernel)) (pc' := 29) (lv' := [(0, vR t), (1, vI a1)]) (st' := [vI ((jA W 9004 (jR W 1354 t) (ix a1)) &&& (kI 255))]) rfl ?_
  refine j_goto hx (off := 4) (by decide +kernel) (tgt := 33) (by decide) ?_
  exact j_iret hx hm (by decide +kernel) rfl (he _)
theorem cmo_out (t : Nat) (a1 : Int32) (W : jW) : jM yX8_out cX8_out 2 (Option.some Jvm.ClassFile.FieldType.int) [] 0 0 [vR t, vI a1] W ((fmo_out t a1 W).bind (fun q => some (.returned (some (.int q)), W))) := 
  jM.of (Nat.le_of_ble_eq_true rfl) (fun x hx hm hr => wmo_out ⟨hx, hm, hr, fun _ => rfl⟩)
def hmo_check (x : jCx) (en : (Int32 × jW) → Option (Outcome × jW)) (t : Nat) : Prop :=
  jOK x RX8 cX8_check 1 ∧
  jMt x "check" (Option.some Jvm.ClassFile.FieldType.int) [] ∧
  jRm x 5 91 ∧
  (∀ q : Int32 × jW, en q = some (.returned (some (.int q.1)), q.2))
theorem wmo_check_50 {x : jCx} {en : (Int32 × jW) → Option (Outcome × jW)} {t : Nat} (h : hmo_check x en t) (W : jW) : jJ x 1 50 [(0, vR t)] [] W (fmo_check_50 t W) en := by
  have h0 := h
  obtain ⟨hx, hm, hr, he⟩ := h0
  unfold fmo_check_50
  refine j_runA hx 1 (tb := [(50, .aload_n 0)]) (jtb_ok (by decide +kernel)) (pc' := 51) (lv' := [(0, vR t)]) (st' := [vR t]) rfl ?_
  refine j_gd (fun h24 => ?_)
  refine j_getI hx flX8_521 kd1357 h24 (by decide) (by decide +kernel) ?_
  exact j_iret hx hm (by decide +kernel) rfl (he _)
theorem wmo_check {x : jCx} {en : (Int32 × jW) → Option (Outcome × jW)} {t : Nat} (h : hmo_check x en t) (W : jW) : jJ x 1 0 [(0, vR t)] [] W (fmo_check t W) en := by
  have h0 := h
  obtain ⟨hx, hm, hr, he⟩ := h0
  unfold fmo_check
  refine j_runA hx 1 (tb := [(0, .aload_n 0)]) (jtb_ok (by decide +kernel)) (pc' := 1) (lv' := [(0, vR t)]) (st' := [vR t]) rfl ?_
  refine j_gd (fun h1 => ?_)
  refine j_getI hx flX8_275 kd1352 h1 (by decide) (by decide +kernel) ?_
  refine j_if_ne hx (off := 6) (tgt := 10) (by decide +kernel) (by decide) (fun _ => ?_) (fun _ => ?_)
  · refine j_runA hx 1 (tb := [(10, .aload_n 0)]) (jtb_ok (by decide +kernel)) (pc' := 11) (lv' := [(0, vR t)]) (st' := [vR t]) rfl ?_
    refine j_getI hx flX8_521 kd1357 h1 (by decide) (by decide +kernel) ?_
    refine j_if_ge hx (off := 36) (tgt := 50) (by decide +kernel) (by decide) (fun _ => ?_) (fun _ => ?_)
    · exact wmo_check_50 h W
    refine j_runA hx 1 (tb := [(17, .aload_n 0)]) (jtb_ok (by decide +kernel)) (pc' := 18) (lv' := [(0, vR t)]) (st' := [vR t]) rfl ?_
    refine j_getR hx flX8_160 kl1360 h1 (by decide) (by decide +kernel) ?_
    refine j_runA hx 1 (tb := [(21, .aload_n 0)]) (jtb_ok (by decide +kernel)) (pc' := 22) (lv' := [(0, vR t)]) (st' := [vR t, vR (jR W 1360 t)]) rfl ?_
    refine j_getR hx flX8_151 kl1354 h1 (by decide) (by decide +kernel) ?_
    refine j_gd (fun h2 => ?_)
    refine j_putR hx fwX8_251 wf1400 kd1400 h2 (by decide) (by decide +kernel) nr1400 fr1400 ?_
    refine j_ltw rfl (fun W3 hc4 => ?_)
    have h5 : jC W3 t = 13 := (congrFun hc4 _).trans h1
    have h6 : jC W3 (jR W 1360 t) = 14 := (congrFun hc4 _).trans h2
    refine j_runA hx 1 (tb := [(28, .aload_n 0)]) (jtb_ok (by decide +kernel)) (pc' := 29) (lv' := [(0, vR t)]) (st' := [vR t]) rfl ?_
    refine j_getR hx flX8_160 kl1360 h5 (by decide) (by decide +kernel) ?_
    refine j_runA hx 1 (tb := [(32, .aload_n 0)]) (jtb_ok (by decide +kernel)) (pc' := 33) (lv' := [(0, vR t)]) (st' := [vR t, vR (jR W3 1360 t)]) rfl ?_
    refine j_getI hx flX8_530 kd1355 h5 (by decide) (by decide +kernel) ?_
    refine j_gd (fun h8 => ?_)
    refine j_putI hx fwX8_254 wf1401 kd1401 h8 (by decide) (by decide +kernel) (ni1401 _) (fi1401 _) ?_
    refine j_ltw rfl (fun W9 hc10 => ?_)
    have h11 : jC W9 t = 13 := (congrFun hc10 _).trans h5
    have h12 : jC W9 (jR W 1360 t) = 14 := (congrFun hc10 _).trans h6
    have h13 : jC W9 (jR W3 1360 t) = 14 := (congrFun hc10 _).trans h8
    refine j_runA hx 2 (tb := [(39, .aload_n 0), (40, .aload_n 0)]) (jtb_ok (by decide +kernel)) (pc' := 41) (lv' := [(0, vR t)]) (st' := [vR t, vR t]) rfl ?_
    refine j_getR hx flX8_160 kl1360 h11 (by decide) (by decide +kernel) ?_
    refine j_gd (fun h15 => ?_)
    refine j_WI (j_callV (av := []) (st := [vR t]) hx hr (Or.inl q2810) q2811 q2812 rfl md_fhd_broken np_fhd_broken (chd_broken (jR W9 1360 t) W9) (by decide) (Nat.le_of_ble_eq_true rfl) h15 (by decide) (by decide +kernel)) (fun q16 _ => ?_)
    refine j_gd (fun h18 => ?_)
    refine j_putI hx fwX8_521 wf1357 kd1357 h18 (by decide) (by decide +kernel) (ni1357 _) (fi1357 _) ?_
    refine j_ltw rfl (fun W19 hc20 => ?_)
    have h21 : jC W19 t = 13 := (congrFun hc20 _).trans h18
    exact wmo_check_50 h W19
  refine j_runA hx 1 (tb := [(7, .bipush (-14))]) (jtb_ok (by decide +kernel)) (pc' := 9) (lv' := [(0, vR t)]) (st' := [vI (kI (-14))]) rfl ?_
  exact j_iret hx hm (by decide +kernel) rfl (he _)
theorem cmo_check (t : Nat) (W : jW) : jM yX8_check cX8_check 1 (Option.some Jvm.ClassFile.FieldType.int) [] 5 91 [vR t] W ((fmo_check t W).bind (fun q => some (.returned (some (.int q.1)), q.2))) := 
  jM.of (Nat.le_of_ble_eq_true rfl) (fun x hx hm hr => wmo_check ⟨hx, hm, hr, fun _ => rfl⟩ W)
def hmo_strays (x : jCx) (en : (Int32) → Option (Outcome × jW)) (t : Nat) (W : jW) : Prop :=
  jOK x RX8 cX8_strays 1 ∧
  jMt x "strays" (Option.some Jvm.ClassFile.FieldType.int) [] ∧
  jRm x 0 0 ∧
  (∀ q : Int32, en q = some (.returned (some (.int q)), W))
theorem wmo_strays {x : jCx} {en : (Int32) → Option (Outcome × jW)} {W : jW} {t : Nat} (h : hmo_strays x en t W) : jJ x 1 0 [(0, vR t)] [] W (fmo_strays t W) en := by
  have h0 := h
  obtain ⟨hx, hm, hr, he⟩ := h0
  unfold fmo_strays
  refine j_runA hx 1 (tb := [(0, .aload_n 0)]) (jtb_ok (by decide +kernel)) (pc' := 1) (lv' := [(0, vR t)]) (st' := [vR t]) rfl ?_
  refine j_gd (fun h1 => ?_)
  refine j_getI hx flX8_518 kd1353 h1 (by decide) (by decide +kernel) ?_
  exact j_iret hx hm (by decide +kernel) rfl (he _)
theorem cmo_strays (t : Nat) (W : jW) : jM yX8_strays cX8_strays 1 (Option.some Jvm.ClassFile.FieldType.int) [] 0 0 [vR t] W ((fmo_strays t W).bind (fun q => some (.returned (some (.int q)), W))) := 
  jM.of (Nat.le_of_ble_eq_true rfl) (fun x hx hm hr => wmo_strays ⟨hx, hm, hr, fun _ => rfl⟩)
def hmo_runOf (x : jCx) (en : (Nat) → Option (Outcome × jW)) (t : Nat) (a1 : Int32) (W : jW) : Prop :=
  jOK x RX8 cX8_runOf 2 ∧
  jMt x "runOf" (Option.some (Jvm.ClassFile.FieldType.object "CodeLayoutModel$Run")) [] ∧
  jRm x 0 0 ∧
  (∀ q : Nat, en q = some (.returned (some (jrv q)), W))
theorem wmo_runOf {x : jCx} {en : (Nat) → Option (Outcome × jW)} {W : jW} {t : Nat} {a1 : Int32} (h : hmo_runOf x en t a1 W) : jJ x 2 0 [(0, vR t), (1, vI a1)] [] W (fmo_runOf t a1 W) en := by
  have h0 := h
  obtain ⟨hx, hm, hr, he⟩ := h0
  unfold fmo_runOf
  refine j_runA hx 1 (tb := [(0, .iload_n 1)]) (jtb_ok (by decide +kernel)) (pc' := 1) (lv' := [(0, vR t), (1, vI a1)]) (st' := [vI a1]) rfl ?_
  refine j_if_ne hx (off := 10) (tgt := 11) (by decide +kernel) (by decide) (fun _ => ?_) (fun _ => ?_)
  · refine j_runA hx 2 (tb := [(11, .iload_n 1), (12, .iconst 1)]) (jtb_ok (by decide +kernel)) (pc' := 13) (lv' := [(0, vR t), (1, vI a1)]) (st' := [vI (kI 1), vI a1]) rfl ?_
    refine j_icmp_ne hx (off := 10) (tgt := 23) (by decide +kernel) (by decide) (fun _ => ?_) (fun _ => ?_)
    · refine j_runA hx 2 (tb := [(23, .iload_n 1), (24, .iconst 2)]) (jtb_ok (by decide +kernel)) (pc' := 25) (lv' := [(0, vR t), (1, vI a1)]) (st' := [vI (kI 2), vI a1]) rfl ?_
      refine j_icmp_ne hx (off := 10) (tgt := 35) (by decide +kernel) (by decide) (fun _ => ?_) (fun _ => ?_)
      · refine j_runA hx 1 (tb := [(35, .aconst_null)]) (jtb_ok (by decide +kernel)) (pc' := 36) (lv' := [(0, vR t), (1, vI a1)]) (st' := [vR 0]) rfl ?_
        exact j_aret hx hm (Or.inl ⟨_, rfl⟩) (by decide +kernel) (he _)
      refine j_runA hx 1 (tb := [(28, .aload_n 0)]) (jtb_ok (by decide +kernel)) (pc' := 29) (lv' := [(0, vR t), (1, vI a1)]) (st' := [vR t]) rfl ?_
      refine j_gd (fun h1 => ?_)
      refine j_getR hx flX8_175 kl1363 h1 (by decide) (by decide +kernel) ?_
      refine j_goto hx (off := 4) (by decide +kernel) (tgt := 36) (by decide) ?_
      exact j_aret hx hm (Or.inl ⟨_, rfl⟩) (by decide +kernel) (he _)
    refine j_runA hx 1 (tb := [(16, .aload_n 0)]) (jtb_ok (by decide +kernel)) (pc' := 17) (lv' := [(0, vR t), (1, vI a1)]) (st' := [vR t]) rfl ?_
    refine j_gd (fun h2 => ?_)
    refine j_getR hx flX8_172 kl1362 h2 (by decide) (by decide +kernel) ?_
    refine j_goto hx (off := 16) (by decide +kernel) (tgt := 36) (by decide) ?_
    exact j_aret hx hm (Or.inl ⟨_, rfl⟩) (by decide +kernel) (he _)
  refine j_runA hx 1 (tb := [(4, .aload_n 0)]) (jtb_ok (by decide +kernel)) (pc' := 5) (lv' := [(0, vR t), (1, vI a1)]) (st' := [vR t]) rfl ?_
  refine j_gd (fun h3 => ?_)
  refine j_getR hx flX8_168 kl1361 h3 (by decide) (by decide +kernel) ?_
  refine j_goto hx (off := 28) (by decide +kernel) (tgt := 36) (by decide) ?_
  exact j_aret hx hm (Or.inl ⟨_, rfl⟩) (by decide +kernel) (he _)
theorem cmo_runOf (t : Nat) (a1 : Int32) (W : jW) : jM yX8_runOf cX8_runOf 2 (Option.some (Jvm.ClassFile.FieldType.object "CodeLayoutModel$Run")) [] 0 0 [vR t, vI a1] W ((fmo_runOf t a1 W).bind (fun q => some (.returned (some (jrv q)), W))) := 
  jM.of (Nat.le_of_ble_eq_true rfl) (fun x hx hm hr => wmo_runOf ⟨hx, hm, hr, fun _ => rfl⟩)
def hmo_run (x : jCx) (en : (Int32 × jW) → Option (Outcome × jW)) (t : Nat) (a1 : Int32) (a2 : Int32) : Prop :=
  jOK x RX8 cX8_run 3 ∧
  jMt x "run" (Option.some Jvm.ClassFile.FieldType.int) [] ∧
  jRm x 9 167 ∧
  (∀ q : Int32 × jW, en q = some (.returned (some (.int q.1)), q.2))
theorem wmo_run_19 {x : jCx} {en : (Int32 × jW) → Option (Outcome × jW)} {t : Nat} {a1 : Int32} {a2 : Int32} (h : hmo_run x en t a1 a2) (W : jW) : jJ x 3 19 [(0, vR t), (1, vI a1), (2, vI a2)] [] W (fmo_run_19 t a1 a2 W) en := by
  have h0 := h
  obtain ⟨hx, hm, hr, he⟩ := h0
  unfold fmo_run_19
  refine j_runA hx 1 (tb := [(19, .bipush (-14))]) (jtb_ok (by decide +kernel)) (pc' := 21) (lv' := [(0, vR t), (1, vI a1), (2, vI a2)]) (st' := [vI (kI (-14))]) rfl ?_
  exact j_iret hx hm (by decide +kernel) rfl (he _)
theorem wmo_run_42 {x : jCx} {en : (Int32 × jW) → Option (Outcome × jW)} {t : Nat} {a1 : Int32} {a2 : Int32} (h : hmo_run x en t a1 a2) (W : jW) : jJ x 3 42 [(0, vR t), (1, vI a1), (2, vI a2)] [] W (fmo_run_42 t a1 a2 W) en := by
  have h0 := h
  obtain ⟨hx, hm, hr, he⟩ := h0
  unfold fmo_run_42
  refine j_runA hx 1 (tb := [(42, .iconst (-1))]) (jtb_ok (by decide +kernel)) (pc' := 43) (lv' := [(0, vR t), (1, vI a1), (2, vI a2)]) (st' := [vI (kI (-1))]) rfl ?_
  exact j_iret hx hm (by decide +kernel) rfl (he _)
theorem wmo_run_22 {x : jCx} {en : (Int32 × jW) → Option (Outcome × jW)} {t : Nat} {a1 : Int32} {a2 : Int32} (h : hmo_run x en t a1 a2) (W : jW) : jJ x 3 22 [(0, vR t), (1, vI a1), (2, vI a2)] [] W (fmo_run_22 t a1 a2 W) en := by
  have h0 := h
  obtain ⟨hx, hm, hr, he⟩ := h0
  unfold fmo_run_22
  refine j_runA hx 1 (tb := [(22, .iload_n 1)]) (jtb_ok (by decide +kernel)) (pc' := 23) (lv' := [(0, vR t), (1, vI a1), (2, vI a2)]) (st' := [vI a1]) rfl ?_
  refine j_if_lt hx (off := 19) (tgt := 42) (by decide +kernel) (by decide) (fun _ => ?_) (fun _ => ?_)
  · exact wmo_run_42 h W
  refine j_runA hx 2 (tb := [(26, .iload_n 1), (27, .iconst 2)]) (jtb_ok (by decide +kernel)) (pc' := 28) (lv' := [(0, vR t), (1, vI a1), (2, vI a2)]) (st' := [vI (kI 2), vI a1]) rfl ?_
  refine j_icmp_gt hx (off := 14) (tgt := 42) (by decide +kernel) (by decide) (fun _ => ?_) (fun _ => ?_)
  · exact wmo_run_42 h W
  refine j_runA hx 1 (tb := [(31, .iload_n 2)]) (jtb_ok (by decide +kernel)) (pc' := 32) (lv' := [(0, vR t), (1, vI a1), (2, vI a2)]) (st' := [vI a2]) rfl ?_
  refine j_if_lt hx (off := 10) (tgt := 42) (by decide +kernel) (by decide) (fun _ => ?_) (fun _ => ?_)
  · exact wmo_run_42 h W
  refine j_runA hx 2 (tb := [(35, .iload_n 2), (36, .sipush 4096)]) (jtb_ok (by decide +kernel)) (pc' := 39) (lv' := [(0, vR t), (1, vI a1), (2, vI a2)]) (st' := [vI (kI 4096), vI a2]) rfl ?_
  refine j_icmp_le hx (off := 5) (tgt := 44) (by decide +kernel) (by decide) (fun _ => ?_) (fun _ => ?_)
  · refine j_runA hx 2 (tb := [(44, .aload_n 0), (45, .iload_n 1)]) (jtb_ok (by decide +kernel)) (pc' := 46) (lv' := [(0, vR t), (1, vI a1), (2, vI a2)]) (st' := [vI a1, vR t]) rfl ?_
    refine j_gd (fun h3 => ?_)
    refine j_OR (j_callV (av := [vI a1]) (st := []) hx hr (Or.inl q3332) q3334 qs179 rfl md_fmo_runOf np_fmo_runOf (cmo_runOf t a1 W) (by decide) (Nat.le_of_ble_eq_true rfl) h3 (by decide) (by decide +kernel)) (fun q4 _ => ?_)
    refine j_runA hx 1 (tb := [(49, .iload_n 2)]) (jtb_ok (by decide +kernel)) (pc' := 50) (lv' := [(0, vR t), (1, vI a1), (2, vI a2)]) (st' := [vI a2, vR q4]) rfl ?_
    refine j_gd (fun h5 => ?_)
    refine j_WI (j_callV (av := [vI a2]) (st := []) hx hr (Or.inl q3336) q3337 q3338 rfl md_frn_go np_frn_go (crn_go q4 a2 W) (by decide) (Nat.le_of_ble_eq_true rfl) h5 (by decide) (by decide +kernel)) (fun q6 _ => ?_)
    exact j_iret hx hm (by decide +kernel) rfl (he _)
  exact wmo_run_42 h W
theorem wmo_run {x : jCx} {en : (Int32 × jW) → Option (Outcome × jW)} {t : Nat} {a1 : Int32} {a2 : Int32} (h : hmo_run x en t a1 a2) (W : jW) : jJ x 3 0 [(0, vR t), (1, vI a1), (2, vI a2)] [] W (fmo_run t a1 a2 W) en := by
  have h0 := h
  obtain ⟨hx, hm, hr, he⟩ := h0
  unfold fmo_run
  refine j_runA hx 1 (tb := [(0, .aload_n 0)]) (jtb_ok (by decide +kernel)) (pc' := 1) (lv' := [(0, vR t), (1, vI a1), (2, vI a2)]) (st' := [vR t]) rfl ?_
  refine j_gd (fun h1 => ?_)
  refine j_getI hx flX8_265 kd1307 h1 (by decide) (by decide +kernel) ?_
  refine j_if_eq hx (off := 15) (tgt := 19) (by decide +kernel) (by decide) (fun _ => ?_) (fun _ => ?_)
  · exact wmo_run_19 h W
  refine j_runA hx 2 (tb := [(7, .iload_n 1), (8, .iconst 2)]) (jtb_ok (by decide +kernel)) (pc' := 9) (lv' := [(0, vR t), (1, vI a1), (2, vI a2)]) (st' := [vI (kI 2), vI a1]) rfl ?_
  refine j_icmp_ne hx (off := 13) (tgt := 22) (by decide +kernel) (by decide) (fun _ => ?_) (fun _ => ?_)
  · exact wmo_run_22 h W
  refine j_runA hx 1 (tb := [(12, .aload_n 0)]) (jtb_ok (by decide +kernel)) (pc' := 13) (lv' := [(0, vR t), (1, vI a1), (2, vI a2)]) (st' := [vR t]) rfl ?_
  refine j_getI hx flX8_275 kd1352 h1 (by decide) (by decide +kernel) ?_
  refine j_if_ne hx (off := 6) (tgt := 22) (by decide +kernel) (by decide) (fun _ => ?_) (fun _ => ?_)
  · exact wmo_run_22 h W
  exact wmo_run_19 h W
theorem cmo_run (t : Nat) (a1 : Int32) (a2 : Int32) (W : jW) : jM yX8_run cX8_run 3 (Option.some Jvm.ClassFile.FieldType.int) [] 9 167 [vR t, vI a1, vI a2] W ((fmo_run t a1 a2 W).bind (fun q => some (.returned (some (.int q.1)), q.2))) := 
  jM.of (Nat.le_of_ble_eq_true rfl) (fun x hx hm hr => wmo_run ⟨hx, hm, hr, fun _ => rfl⟩ W)
def hmo_known (x : jCx) (en : (Nat) → Option (Outcome × jW)) (t : Nat) (a1 : Int32) (W : jW) : Prop :=
  jOK x RX8 cX8_known 3 ∧
  jMt x "known" (Option.some (Jvm.ClassFile.FieldType.object "CodeLayoutModel$Run")) [] ∧
  jRm x 1 13 ∧
  (∀ q : Nat, en q = some (.returned (some (jrv q)), W))
theorem wmo_known_17 {x : jCx} {en : (Nat) → Option (Outcome × jW)} {W : jW} {t : Nat} {a1 : Int32} (h : hmo_known x en t a1 W) : jJ x 3 17 [(0, vR t), (1, vI a1)] [] W (fmo_known_17 t a1 W) en := by
  have h0 := h
  obtain ⟨hx, hm, hr, he⟩ := h0
  unfold fmo_known_17
  refine j_runA hx 1 (tb := [(17, .aconst_null)]) (jtb_ok (by decide +kernel)) (pc' := 18) (lv' := [(0, vR t), (1, vI a1)]) (st' := [vR 0]) rfl ?_
  refine j_goto hx (off := 4) (by decide +kernel) (tgt := 22) (by decide) ?_
  exact j_aret hx hm (Or.inl ⟨_, rfl⟩) (by decide +kernel) (he _)
theorem wmo_known {x : jCx} {en : (Nat) → Option (Outcome × jW)} {W : jW} {t : Nat} {a1 : Int32} (h : hmo_known x en t a1 W) : jJ x 3 0 [(0, vR t), (1, vI a1)] [] W (fmo_known t a1 W) en := by
  have h0 := h
  obtain ⟨hx, hm, hr, he⟩ := h0
  unfold fmo_known
  refine j_runA hx 2 (tb := [(0, .aload_n 0), (1, .iload_n 1)]) (jtb_ok (by decide +kernel)) (pc' := 2) (lv' := [(0, vR t), (1, vI a1)]) (st' := [vI a1, vR t]) rfl ?_
  refine j_gd (fun h1 => ?_)
  refine j_OR (j_callV (av := [vI a1]) (st := []) hx hr (Or.inl q3332) q3334 qs179 rfl md_fmo_runOf np_fmo_runOf (cmo_runOf t a1 W) (by decide) (Nat.le_of_ble_eq_true rfl) h1 (by decide) (by decide +kernel)) (fun q2 _ => ?_)
  refine j_runA hx 2 (tb := [(5, .astore_n 2), (6, .aload_n 2)]) (jtb_ok (by decide +kernel)) (pc' := 7) (lv' := [(2, vR q2), (0, vR t), (1, vI a1)]) (st' := [vR q2]) rfl ?_
  refine j_ifnull hx (off := 10) (tgt := 17) (by decide +kernel) (by decide) (fun _ => ?_) (fun _ => ?_)
  · refine j_lv (lv' := [(0, vR t), (1, vI a1)]) ⟨rfl, rfl, trivial⟩ ?_
    exact wmo_known_17 h
  refine j_runA hx 1 (tb := [(10, .aload_n 2)]) (jtb_ok (by decide +kernel)) (pc' := 11) (lv' := [(2, vR q2), (0, vR t), (1, vI a1)]) (st' := [vR q2]) rfl ?_
  refine j_gd (fun h3 => ?_)
  refine j_getI hx flX8_584 kd1602 h3 (by decide) (by decide +kernel) ?_
  refine j_if_ne hx (off := 7) (tgt := 21) (by decide +kernel) (by decide) (fun _ => ?_) (fun _ => ?_)
  · refine j_runA hx 1 (tb := [(21, .aload_n 2)]) (jtb_ok (by decide +kernel)) (pc' := 22) (lv' := [(2, vR q2), (0, vR t), (1, vI a1)]) (st' := [vR q2]) rfl ?_
    exact j_aret hx hm (Or.inl ⟨_, rfl⟩) (by decide +kernel) (he _)
  refine j_lv (lv' := [(0, vR t), (1, vI a1)]) ⟨rfl, rfl, trivial⟩ ?_
  exact wmo_known_17 h
theorem cmo_known (t : Nat) (a1 : Int32) (W : jW) : jM yX8_known cX8_known 3 (Option.some (Jvm.ClassFile.FieldType.object "CodeLayoutModel$Run")) [] 1 13 [vR t, vI a1] W ((fmo_known t a1 W).bind (fun q => some (.returned (some (jrv q)), W))) := 
  jM.of (Nat.le_of_ble_eq_true rfl) (fun x hx hm hr => wmo_known ⟨hx, hm, hr, fun _ => rfl⟩)
def hmo_told (x : jCx) (en : (Int32) → Option (Outcome × jW)) (t : Nat) (a1 : Int32) (a2 : Int32) (W : jW) : Prop :=
  jOK x RX8 cX8_told 4 ∧
  jMt x "told" (Option.some Jvm.ClassFile.FieldType.int) [] ∧
  jRm x 2 27 ∧
  (∀ q : Int32, en q = some (.returned (some (.int q)), W))
theorem wmo_told_113 {x : jCx} {en : (Int32) → Option (Outcome × jW)} {W : jW} {t : Nat} {a1 : Int32} {a2 : Int32} (h : hmo_told x en t a1 a2 W) (s0 : Int32) (s1 : Int32) : jJ x 4 113 [(0, vR t), (1, vI a1), (2, vI a2)] [vI s0, vI s1] W (fmo_told_113 t a1 a2 s0 s1 W) en := by
  have h0 := h
  obtain ⟨hx, hm, hr, he⟩ := h0
  unfold fmo_told_113
  refine j_runA hx 1 (tb := [(113, .iadd)]) (jtb_ok (by decide +kernel)) (pc' := 114) (lv' := [(0, vR t), (1, vI a1), (2, vI a2)]) (st' := [vI (s1 + s0)]) rfl ?_
  exact j_iret hx hm (by decide +kernel) rfl (he _)
theorem wmo_told_100 {x : jCx} {en : (Int32) → Option (Outcome × jW)} {W : jW} {t : Nat} {a1 : Int32} {a2 : Int32} (h : hmo_told x en t a1 a2 W) (l3 : Nat) (s0 : Int32) (s1 : Int32) : jJ x 4 100 [(0, vR t), (1, vI a1), (2, vI a2), (3, vR l3)] [vI s0, vI s1] W (fmo_told_100 t a1 a2 l3 s0 s1 W) en := by
  have h0 := h
  obtain ⟨hx, hm, hr, he⟩ := h0
  unfold fmo_told_100
  refine j_runA hx 2 (tb := [(100, .iadd), (101, .aload_n 3)]) (jtb_ok (by decide +kernel)) (pc' := 102) (lv' := [(0, vR t), (1, vI a1), (2, vI a2), (3, vR l3)]) (st' := [vR l3, vI (s1 + s0)]) rfl ?_
  refine j_gd (fun h20 => ?_)
  refine j_getI hx flX8_611 kd1609 h20 (by decide) (by decide +kernel) ?_
  refine j_if_eq hx (off := 7) (tgt := 112) (by decide +kernel) (by decide) (fun _ => ?_) (fun _ => ?_)
  · refine j_runA hx 1 (tb := [(112, .iconst 0)]) (jtb_ok (by decide +kernel)) (pc' := 113) (lv' := [(0, vR t), (1, vI a1), (2, vI a2), (3, vR l3)]) (st' := [vI (kI 0), vI (s1 + s0)]) rfl ?_
    refine j_lv (lv' := [(0, vR t), (1, vI a1), (2, vI a2)]) ⟨rfl, rfl, rfl, trivial⟩ ?_
    exact wmo_told_113 h (kI 0) (s1 + s0)
  refine j_runA hx 1 (tb := [(108, .iconst 1)]) (jtb_ok (by decide +kernel)) (pc' := 109) (lv' := [(0, vR t), (1, vI a1), (2, vI a2), (3, vR l3)]) (st' := [vI (kI 1), vI (s1 + s0)]) rfl ?_
  refine j_goto hx (off := 4) (by decide +kernel) (tgt := 113) (by decide) ?_
  refine j_lv (lv' := [(0, vR t), (1, vI a1), (2, vI a2)]) ⟨rfl, rfl, rfl, trivial⟩ ?_
  exact wmo_told_113 h (kI 1) (s1 + s0)
theorem wmo_told_87 {x : jCx} {en : (Int32) → Option (Outcome × jW)} {W : jW} {t : Nat} {a1 : Int32} {a2 : Int32} (h : hmo_told x en t a1 a2 W) (l3 : Nat) (s0 : Int32) (s1 : Int32) : jJ x 4 87 [(0, vR t), (1, vI a1), (2, vI a2), (3, vR l3)] [vI s0, vI s1] W (fmo_told_87 t a1 a2 l3 s0 s1 W) en := by
  have h0 := h
  obtain ⟨hx, hm, hr, he⟩ := h0
  unfold fmo_told_87
  refine j_runA hx 2 (tb := [(87, .iadd), (88, .aload_n 3)]) (jtb_ok (by decide +kernel)) (pc' := 89) (lv' := [(0, vR t), (1, vI a1), (2, vI a2), (3, vR l3)]) (st' := [vR l3, vI (s1 + s0)]) rfl ?_
  refine j_gd (fun h18 => ?_)
  refine j_getI hx flX8_608 kd1608 h18 (by decide) (by decide +kernel) ?_
  refine j_if_eq hx (off := 7) (tgt := 99) (by decide +kernel) (by decide) (fun _ => ?_) (fun _ => ?_)
  · refine j_runA hx 1 (tb := [(99, .iconst 0)]) (jtb_ok (by decide +kernel)) (pc' := 100) (lv' := [(0, vR t), (1, vI a1), (2, vI a2), (3, vR l3)]) (st' := [vI (kI 0), vI (s1 + s0)]) rfl ?_
    exact wmo_told_100 h l3 (kI 0) (s1 + s0)
  refine j_runA hx 1 (tb := [(95, .iconst 2)]) (jtb_ok (by decide +kernel)) (pc' := 96) (lv' := [(0, vR t), (1, vI a1), (2, vI a2), (3, vR l3)]) (st' := [vI (kI 2), vI (s1 + s0)]) rfl ?_
  refine j_goto hx (off := 4) (by decide +kernel) (tgt := 100) (by decide) ?_
  exact wmo_told_100 h l3 (kI 2) (s1 + s0)
theorem wmo_told_75 {x : jCx} {en : (Int32) → Option (Outcome × jW)} {W : jW} {t : Nat} {a1 : Int32} {a2 : Int32} (h : hmo_told x en t a1 a2 W) (l3 : Nat) (s0 : Int32) : jJ x 4 75 [(0, vR t), (1, vI a1), (2, vI a2), (3, vR l3)] [vI s0] W (fmo_told_75 t a1 a2 l3 s0 W) en := by
  have h0 := h
  obtain ⟨hx, hm, hr, he⟩ := h0
  unfold fmo_told_75
  refine j_runA hx 1 (tb := [(75, .aload_n 3)]) (jtb_ok (by decide +kernel)) (pc' := 76) (lv' := [(0, vR t), (1, vI a1), (2, vI a2), (3, vR l3)]) (st' := [vR l3, vI s0]) rfl ?_
  refine j_gd (fun h16 => ?_)
  refine j_getI hx flX8_605 kd1607 h16 (by decide) (by decide +kernel) ?_
  refine j_if_eq hx (off := 7) (tgt := 86) (by decide +kernel) (by decide) (fun _ => ?_) (fun _ => ?_)
  · refine j_runA hx 1 (tb := [(86, .iconst 0)]) (jtb_ok (by decide +kernel)) (pc' := 87) (lv' := [(0, vR t), (1, vI a1), (2, vI a2), (3, vR l3)]) (st' := [vI (kI 0), vI s0]) rfl ?_
    exact wmo_told_87 h l3 (kI 0) s0
  refine j_runA hx 1 (tb := [(82, .iconst 4)]) (jtb_ok (by decide +kernel)) (pc' := 83) (lv' := [(0, vR t), (1, vI a1), (2, vI a2), (3, vR l3)]) (st' := [vI (kI 4), vI s0]) rfl ?_
  refine j_goto hx (off := 4) (by decide +kernel) (tgt := 87) (by decide) ?_
  exact wmo_told_87 h l3 (kI 4) s0
theorem wmo_told {x : jCx} {en : (Int32) → Option (Outcome × jW)} {W : jW} {t : Nat} {a1 : Int32} {a2 : Int32} (h : hmo_told x en t a1 a2 W) : jJ x 4 0 [(0, vR t), (1, vI a1), (2, vI a2)] [] W (fmo_told t a1 a2 W) en := by
  have h0 := h
  obtain ⟨hx, hm, hr, he⟩ := h0
  unfold fmo_told
  refine j_runA hx 2 (tb := [(0, .aload_n 0), (1, .iload_n 1)]) (jtb_ok (by decide +kernel)) (pc' := 2) (lv' := [(0, vR t), (1, vI a1), (2, vI a2)]) (st' := [vI a1, vR t]) rfl ?_
  refine j_gd (fun h1 => ?_)
  refine j_OR (j_callV (av := [vI a1]) (st := []) hx hr (Or.inl q3563) q3565 qs223 rfl md_fmo_known np_fmo_known (cmo_known t a1 W) (by decide) (Nat.le_of_ble_eq_true rfl) h1 (by decide) (by decide +kernel)) (fun q2 _ => ?_)
  refine j_runA hx 2 (tb := [(5, .astore_n 3), (6, .aload_n 3)]) (jtb_ok (by decide +kernel)) (pc' := 7) (lv' := [(3, vR q2), (0, vR t), (1, vI a1), (2, vI a2)]) (st' := [vR q2]) rfl ?_
  refine j_ifnonnull hx (off := 6) (tgt := 13) (by decide +kernel) (by decide) (fun _ => ?_) (fun _ => ?_)
  · refine j_runA hx 1 (tb := [(10, .bipush (-14))]) (jtb_ok (by decide +kernel)) (pc' := 12) (lv' := [(3, vR q2), (0, vR t), (1, vI a1), (2, vI a2)]) (st' := [vI (kI (-14))]) rfl ?_
    exact j_iret hx hm (by decide +kernel) rfl (he _)
  refine j_runA hx 1 (tb := [(13, .iload_n 2)]) (jtb_ok (by decide +kernel)) (pc' := 14) (lv' := [(3, vR q2), (0, vR t), (1, vI a1), (2, vI a2)]) (st' := [vI a2]) rfl ?_
  refine j_tab hx (dflt := 116) (lo := 0) (hi := 5) (offs := #[38, 43, 48, 101, 106, 111]) (len := 38) (k := 0) (off := 38) (tgt := 52) (by decide +kernel) (by decide) (by decide) (by decide) rfl (by decide) (fun _ => ?_) (fun h3 => ?_)
  · refine j_runA hx 1 (tb := [(52, .aload_n 3)]) (jtb_ok (by decide +kernel)) (pc' := 53) (lv' := [(3, vR q2), (0, vR t), (1, vI a1), (2, vI a2)]) (st' := [vR q2]) rfl ?_
    refine j_gd (fun h4 => ?_)
    refine j_getI hx flX8_597 kd1614 h4 (by decide) (by decide +kernel) ?_
    exact j_iret hx hm (by decide +kernel) rfl (he _)
  refine j_tab hx (dflt := 116) (lo := 0) (hi := 5) (offs := #[38, 43, 48, 101, 106, 111]) (len := 38) (k := 1) (off := 43) (tgt := 57) (by decide +kernel) (by decide) (by decide) (by decide) rfl (by decide) (fun _ => ?_) (fun h5 => ?_)
  · refine j_runA hx 1 (tb := [(57, .aload_n 3)]) (jtb_ok (by decide +kernel)) (pc' := 58) (lv' := [(3, vR q2), (0, vR t), (1, vI a1), (2, vI a2)]) (st' := [vR q2]) rfl ?_
    refine j_gd (fun h6 => ?_)
    refine j_getI hx flX8_600 kd1617 h6 (by decide) (by decide +kernel) ?_
    exact j_iret hx hm (by decide +kernel) rfl (he _)
  refine j_tab hx (dflt := 116) (lo := 0) (hi := 5) (offs := #[38, 43, 48, 101, 106, 111]) (len := 38) (k := 2) (off := 48) (tgt := 62) (by decide +kernel) (by decide) (by decide) (by decide) rfl (by decide) (fun _ => ?_) (fun h7 => ?_)
  · refine j_runA hx 1 (tb := [(62, .aload_n 3)]) (jtb_ok (by decide +kernel)) (pc' := 63) (lv' := [(3, vR q2), (0, vR t), (1, vI a1), (2, vI a2)]) (st' := [vR q2]) rfl ?_
    refine j_gd (fun h8 => ?_)
    refine j_getI hx flX8_602 kd1606 h8 (by decide) (by decide +kernel) ?_
    refine j_if_eq hx (off := 8) (tgt := 74) (by decide +kernel) (by decide) (fun _ => ?_) (fun _ => ?_)
    · refine j_runA hx 1 (tb := [(74, .iconst 0)]) (jtb_ok (by decide +kernel)) (pc' := 75) (lv' := [(3, vR q2), (0, vR t), (1, vI a1), (2, vI a2)]) (st' := [vI (kI 0)]) rfl ?_
      refine j_lv (lv' := [(0, vR t), (1, vI a1), (2, vI a2), (3, vR q2)]) ⟨rfl, rfl, rfl, rfl, trivial⟩ ?_
      exact wmo_told_75 h q2 (kI 0)
    refine j_runA hx 1 (tb := [(69, .bipush 8)]) (jtb_ok (by decide +kernel)) (pc' := 71) (lv' := [(3, vR q2), (0, vR t), (1, vI a1), (2, vI a2)]) (st' := [vI (kI 8)]) rfl ?_
    refine j_goto hx (off := 4) (by decide +kernel) (tgt := 75) (by decide) ?_
    refine j_lv (lv' := [(0, vR t), (1, vI a1), (2, vI a2), (3, vR q2)]) ⟨rfl, rfl, rfl, rfl, trivial⟩ ?_
    exact wmo_told_75 h q2 (kI 8)
  refine j_tab hx (dflt := 116) (lo := 0) (hi := 5) (offs := #[38, 43, 48, 101, 106, 111]) (len := 38) (k := 3) (off := 101) (tgt := 115) (by decide +kernel) (by decide) (by decide) (by decide) rfl (by decide) (fun _ => ?_) (fun h9 => ?_)
  · refine j_runA hx 1 (tb := [(115, .aload_n 3)]) (jtb_ok (by decide +kernel)) (pc' := 116) (lv' := [(3, vR q2), (0, vR t), (1, vI a1), (2, vI a2)]) (st' := [vR q2]) rfl ?_
    refine j_gd (fun h10 => ?_)
    refine j_getI hx flX8_614 kd1619 h10 (by decide) (by decide +kernel) ?_
    exact j_iret hx hm (by decide +kernel) rfl (he _)
  refine j_tab hx (dflt := 116) (lo := 0) (hi := 5) (offs := #[38, 43, 48, 101, 106, 111]) (len := 38) (k := 4) (off := 106) (tgt := 120) (by decide +kernel) (by decide) (by decide) (by decide) rfl (by decide) (fun _ => ?_) (fun h11 => ?_)
  · refine j_runA hx 1 (tb := [(120, .aload_n 3)]) (jtb_ok (by decide +kernel)) (pc' := 121) (lv' := [(3, vR q2), (0, vR t), (1, vI a1), (2, vI a2)]) (st' := [vR q2]) rfl ?_
    refine j_gd (fun h12 => ?_)
    refine j_getI hx flX8_617 kd1620 h12 (by decide) (by decide +kernel) ?_
    exact j_iret hx hm (by decide +kernel) rfl (he _)
  refine j_tab hx (dflt := 116) (lo := 0) (hi := 5) (offs := #[38, 43, 48, 101, 106, 111]) (len := 38) (k := 5) (off := 111) (tgt := 125) (by decide +kernel) (by decide) (by decide) (by decide) rfl (by decide) (fun _ => ?_) (fun h13 => ?_)
  · refine j_runA hx 1 (tb := [(125, .aload_n 3)]) (jtb_ok (by decide +kernel)) (pc' := 126) (lv' := [(3, vR q2), (0, vR t), (1, vI a1), (2, vI a2)]) (st' := [vR q2]) rfl ?_
    refine j_gd (fun h14 => ?_)
    refine j_getI hx flX8_620 kd1618 h14 (by decide) (by decide +kernel) ?_
    exact j_iret hx hm (by decide +kernel) rfl (he _)
  refine j_tabD hx (dflt := 116) (lo := 0) (hi := 5) (offs := #[38, 43, 48, 101, 106, 111]) (len := 38) (tgt := 130) (by decide +kernel) (by decide) (fun i hi => by
    match i, hi with
    | 0, _ => exact Or.inr h3
    | 1, _ => exact Or.inr h5
    | 2, _ => exact Or.inr h7
    | 3, _ => exact Or.inr h9
    | 4, _ => exact Or.inr h11
    | 5, _ => exact Or.inr h13
    | n + 6, h => exact absurd h (by omega)) ?_
  refine j_runA hx 1 (tb := [(130, .bipush (-14))]) (jtb_ok (by decide +kernel)) (pc' := 132) (lv' := [(3, vR q2), (0, vR t), (1, vI a1), (2, vI a2)]) (st' := [vI (kI (-14))]) rfl ?_
  exact j_iret hx hm (by decide +kernel) rfl (he _)
theorem cmo_told (t : Nat) (a1 : Int32) (a2 : Int32) (W : jW) : jM yX8_told cX8_told 4 (Option.some Jvm.ClassFile.FieldType.int) [] 2 27 [vR t, vI a1, vI a2] W ((fmo_told t a1 a2 W).bind (fun q => some (.returned (some (.int q)), W))) := 
  jM.of (Nat.le_of_ble_eq_true rfl) (fun x hx hm hr => wmo_told ⟨hx, hm, hr, fun _ => rfl⟩)
def hmo_register (x : jCx) (en : (Int64) → Option (Outcome × jW)) (t : Nat) (a1 : Int32) (a2 : Int32) (W : jW) : Prop :=
  jOK x RX8 cX8_register 4 ∧
  jMt x "register" (Option.some Jvm.ClassFile.FieldType.long) [] ∧
  jRm x 2 27 ∧
  (∀ q : Int64, en q = some (.returned (some (.long q)), W))
theorem wmo_register_20 {x : jCx} {en : (Int64) → Option (Outcome × jW)} {W : jW} {t : Nat} {a1 : Int32} {a2 : Int32} (h : hmo_register x en t a1 a2 W) : jJ x 4 20 [(0, vR t), (1, vI a1), (2, vI a2)] [] W (fmo_register_20 t a1 a2 W) en := by
  have h0 := h
  obtain ⟨hx, hm, hr, he⟩ := h0
  unfold fmo_register_20
  refine j_runA hx 1 (tb := [(20, .lconst 0)]) (jtb_ok (by decide +kernel)) (pc' := 21) (lv' := [(0, vR t), (1, vI a1), (2, vI a2)]) (st' := [vL (kJ 0)]) rfl ?_
  refine j_goto hx (off := 9) (by decide +kernel) (tgt := 30) (by decide) ?_
  exact j_lret hx hm (by decide +kernel) (he _)
theorem wmo_register {x : jCx} {en : (Int64) → Option (Outcome × jW)} {W : jW} {t : Nat} {a1 : Int32} {a2 : Int32} (h : hmo_register x en t a1 a2 W) : jJ x 4 0 [(0, vR t), (1, vI a1), (2, vI a2)] [] W (fmo_register t a1 a2 W) en := by
  have h0 := h
  obtain ⟨hx, hm, hr, he⟩ := h0
  unfold fmo_register
  refine j_runA hx 2 (tb := [(0, .aload_n 0), (1, .iload_n 1)]) (jtb_ok (by decide +kernel)) (pc' := 2) (lv' := [(0, vR t), (1, vI a1), (2, vI a2)]) (st' := [vI a1, vR t]) rfl ?_
  refine j_gd (fun h1 => ?_)
  refine j_OR (j_callV (av := [vI a1]) (st := []) hx hr (Or.inl q3563) q3565 qs223 rfl md_fmo_known np_fmo_known (cmo_known t a1 W) (by decide) (Nat.le_of_ble_eq_true rfl) h1 (by decide) (by decide +kernel)) (fun q2 _ => ?_)
  refine j_runA hx 2 (tb := [(5, .astore_n 3), (6, .aload_n 3)]) (jtb_ok (by decide +kernel)) (pc' := 7) (lv' := [(3, vR q2), (0, vR t), (1, vI a1), (2, vI a2)]) (st' := [vR q2]) rfl ?_
  refine j_ifnull hx (off := 13) (tgt := 20) (by decide +kernel) (by decide) (fun _ => ?_) (fun _ => ?_)
  · refine j_lv (lv' := [(0, vR t), (1, vI a1), (2, vI a2)]) ⟨rfl, rfl, rfl, trivial⟩ ?_
    exact wmo_register_20 h
  refine j_runA hx 1 (tb := [(10, .iload_n 2)]) (jtb_ok (by decide +kernel)) (pc' := 11) (lv' := [(3, vR q2), (0, vR t), (1, vI a1), (2, vI a2)]) (st' := [vI a2]) rfl ?_
  refine j_if_lt hx (off := 9) (tgt := 20) (by decide +kernel) (by decide) (fun _ => ?_) (fun _ => ?_)
  · refine j_lv (lv' := [(0, vR t), (1, vI a1), (2, vI a2)]) ⟨rfl, rfl, rfl, trivial⟩ ?_
    exact wmo_register_20 h
  refine j_runA hx 2 (tb := [(14, .iload_n 2), (15, .bipush 31)]) (jtb_ok (by decide +kernel)) (pc' := 17) (lv' := [(3, vR q2), (0, vR t), (1, vI a1), (2, vI a2)]) (st' := [vI (kI 31), vI a2]) rfl ?_
  refine j_icmp_le hx (off := 7) (tgt := 24) (by decide +kernel) (by decide) (fun _ => ?_) (fun _ => ?_)
  · refine j_runA hx 1 (tb := [(24, .aload_n 3)]) (jtb_ok (by decide +kernel)) (pc' := 25) (lv' := [(3, vR q2), (0, vR t), (1, vI a1), (2, vI a2)]) (st' := [vR q2]) rfl ?_
    refine j_gd (fun h3 => ?_)
    refine j_getR hx flX8_623 kl1603 h3 (by decide) (by decide +kernel) ?_
    refine j_runA hx 1 (tb := [(28, .iload_n 2)]) (jtb_ok (by decide +kernel)) (pc' := 29) (lv' := [(3, vR q2), (0, vR t), (1, vI a1), (2, vI a2)]) (st' := [vI a2, vR (jR W 1603 q2)]) rfl ?_
    refine j_gd (fun h4 => ?_)
    refine j_lald hx (f := 1603) (o := q2) kd1603 rfl (by decide +kernel) h4 ?_
    exact j_lret hx hm (by decide +kernel) (he _)
  refine j_lv (lv' := [(0, vR t), (1, vI a1), (2, vI a2)]) ⟨rfl, rfl, rfl, trivial⟩ ?_
  exact wmo_register_20 h
theorem cmo_register (t : Nat) (a1 : Int32) (a2 : Int32) (W : jW) : jM yX8_register cX8_register 4 (Option.some Jvm.ClassFile.FieldType.long) [] 2 27 [vR t, vI a1, vI a2] W ((fmo_register t a1 a2 W).bind (fun q => some (.returned (some (.long q)), W))) := 
  jM.of (Nat.le_of_ble_eq_true rfl) (fun x hx hm hr => wmo_register ⟨hx, hm, hr, fun _ => rfl⟩)
def hmo_kind (x : jCx) (en : (Int32) → Option (Outcome × jW)) (t : Nat) (a1 : Int32) (W : jW) : Prop :=
  jOK x RX8 cX8_kind 3 ∧
  jMt x "kind" (Option.some Jvm.ClassFile.FieldType.int) [] ∧
  jRm x 2 27 ∧
  (∀ q : Int32, en q = some (.returned (some (.int q)), W))
theorem wmo_kind_20 {x : jCx} {en : (Int32) → Option (Outcome × jW)} {W : jW} {t : Nat} {a1 : Int32} (h : hmo_kind x en t a1 W) : jJ x 3 20 [(0, vR t), (1, vI a1)] [] W (fmo_kind_20 t a1 W) en := by
  have h0 := h
  obtain ⟨hx, hm, hr, he⟩ := h0
  unfold fmo_kind_20
  refine j_runA hx 1 (tb := [(20, .iconst (-1))]) (jtb_ok (by decide +kernel)) (pc' := 21) (lv' := [(0, vR t), (1, vI a1)]) (st' := [vI (kI (-1))]) rfl ?_
  refine j_goto hx (off := 9) (by decide +kernel) (tgt := 30) (by decide) ?_
  exact j_iret hx hm (by decide +kernel) rfl (he _)
theorem wmo_kind {x : jCx} {en : (Int32) → Option (Outcome × jW)} {W : jW} {t : Nat} {a1 : Int32} (h : hmo_kind x en t a1 W) : jJ x 3 0 [(0, vR t), (1, vI a1)] [] W (fmo_kind t a1 W) en := by
  have h0 := h
  obtain ⟨hx, hm, hr, he⟩ := h0
  unfold fmo_kind
  refine j_runA hx 2 (tb := [(0, .aload_n 0), (1, .iconst 1)]) (jtb_ok (by decide +kernel)) (pc' := 2) (lv' := [(0, vR t), (1, vI a1)]) (st' := [vI (kI 1), vR t]) rfl ?_
  refine j_gd (fun h1 => ?_)
  refine j_OR (j_callV (av := [vI (kI 1)]) (st := []) hx hr (Or.inl q3563) q3565 qs223 rfl md_fmo_known np_fmo_known (cmo_known t (kI 1) W) (by decide) (Nat.le_of_ble_eq_true rfl) h1 (by decide) (by decide +kernel)) (fun q2 _ => ?_)
  refine j_runA hx 2 (tb := [(5, .astore_n 2), (6, .aload_n 2)]) (jtb_ok (by decide +kernel)) (pc' := 7) (lv' := [(2, vR q2), (0, vR t), (1, vI a1)]) (st' := [vR q2]) rfl ?_
  refine j_ifnull hx (off := 13) (tgt := 20) (by decide +kernel) (by decide) (fun _ => ?_) (fun _ => ?_)
  · refine j_lv (lv' := [(0, vR t), (1, vI a1)]) ⟨rfl, rfl, trivial⟩ ?_
    exact wmo_kind_20 h
  refine j_runA hx 1 (tb := [(10, .iload_n 1)]) (jtb_ok (by decide +kernel)) (pc' := 11) (lv' := [(2, vR q2), (0, vR t), (1, vI a1)]) (st' := [vI a1]) rfl ?_
  refine j_if_lt hx (off := 9) (tgt := 20) (by decide +kernel) (by decide) (fun _ => ?_) (fun _ => ?_)
  · refine j_lv (lv' := [(0, vR t), (1, vI a1)]) ⟨rfl, rfl, trivial⟩ ?_
    exact wmo_kind_20 h
  refine j_runA hx 2 (tb := [(14, .iload_n 1), (15, .bipush 31)]) (jtb_ok (by decide +kernel)) (pc' := 17) (lv' := [(2, vR q2), (0, vR t), (1, vI a1)]) (st' := [vI (kI 31), vI a1]) rfl ?_
  refine j_icmp_le hx (off := 7) (tgt := 24) (by decide +kernel) (by decide) (fun _ => ?_) (fun _ => ?_)
  · refine j_runA hx 1 (tb := [(24, .aload_n 2)]) (jtb_ok (by decide +kernel)) (pc' := 25) (lv' := [(2, vR q2), (0, vR t), (1, vI a1)]) (st' := [vR q2]) rfl ?_
    refine j_gd (fun h3 => ?_)
    refine j_getR hx flX8_626 kl1604 h3 (by decide) (by decide +kernel) ?_
    refine j_runA hx 1 (tb := [(28, .iload_n 1)]) (jtb_ok (by decide +kernel)) (pc' := 29) (lv' := [(2, vR q2), (0, vR t), (1, vI a1)]) (st' := [vI a1, vR (jR W 1604 q2)]) rfl ?_
    refine j_gd (fun h4 => ?_)
    refine j_bald hx (f := 1604) (o := q2) kd1604 rfl (by decide +kernel) h4 ?_
    exact j_iret hx hm (by decide +kernel) rfl (he _)
  refine j_lv (lv' := [(0, vR t), (1, vI a1)]) ⟨rfl, rfl, trivial⟩ ?_
  exact wmo_kind_20 h
theorem cmo_kind (t : Nat) (a1 : Int32) (W : jW) : jM yX8_kind cX8_kind 3 (Option.some Jvm.ClassFile.FieldType.int) [] 2 27 [vR t, vI a1] W ((fmo_kind t a1 W).bind (fun q => some (.returned (some (.int q)), W))) := 
  jM.of (Nat.le_of_ble_eq_true rfl) (fun x hx hm hr => wmo_kind ⟨hx, hm, hr, fun _ => rfl⟩)
def hmo_newOf (x : jCx) (en : (Int64) → Option (Outcome × jW)) (t : Nat) (a1 : Int32) (a2 : Int32) (W : jW) : Prop :=
  jOK x RX8 cX8_newOf 4 ∧
  jMt x "newOf" (Option.some Jvm.ClassFile.FieldType.long) [] ∧
  jRm x 0 0 ∧
  (∀ q : Int64, en q = some (.returned (some (.long q)), W))
theorem wmo_newOf_55 {x : jCx} {en : (Int64) → Option (Outcome × jW)} {W : jW} {t : Nat} {a1 : Int32} {a2 : Int32} (h : hmo_newOf x en t a1 a2 W) (l3 : Int32) (s0 : Int32) (s1 : Int64) (s2 : Int64) : jJ x 4 55 [(0, vR t), (1, vI a1), (2, vI a2), (3, vI l3)] [vI s0, vL s1, vL s2] W (fmo_newOf_55 t a1 a2 l3 s0 s1 s2 W) en := by
  have h0 := h
  obtain ⟨hx, hm, hr, he⟩ := h0
  unfold fmo_newOf_55
  refine j_runA hx 5 (tb := [(55, .iload_n 3), (56, .iadd), (57, .i2l), (58, .lmul), (59, .ladd)]) (jtb_ok (by decide +kernel)) (pc' := 60) (lv' := [(0, vR t), (1, vI a1), (2, vI a2), (3, vI l3)]) (st' := [vL (s2 + (s1 * ((s0 + l3).toInt64)))]) rfl ?_
  exact j_lret hx hm (by decide +kernel) (he _)
theorem wmo_newOf_15 {x : jCx} {en : (Int64) → Option (Outcome × jW)} {W : jW} {t : Nat} {a1 : Int32} {a2 : Int32} (h : hmo_newOf x en t a1 a2 W) (s0 : Int32) : jJ x 4 15 [(0, vR t), (1, vI a1), (2, vI a2)] [vI s0] W (fmo_newOf_15 t a1 a2 s0 W) en := by
  have h0 := h
  obtain ⟨hx, hm, hr, he⟩ := h0
  unfold fmo_newOf_15
  refine j_runA hx 3 (tb := [(15, .istore_n 3), (16, .iload_n 1), (17, .iconst 3)]) (jtb_ok (by decide +kernel)) (pc' := 18) (lv' := [(3, vI s0), (0, vR t), (1, vI a1), (2, vI a2)]) (st' := [vI (kI 3), vI a1]) rfl ?_
  refine j_icmp_ne hx (off := 5) (tgt := 23) (by decide +kernel) (by decide) (fun _ => ?_) (fun _ => ?_)
  · refine j_runA hx 1 (tb := [(23, .aload_n 0)]) (jtb_ok (by decide +kernel)) (pc' := 24) (lv' := [(3, vI s0), (0, vR t), (1, vI a1), (2, vI a2)]) (st' := [vR t]) rfl ?_
    refine j_gd (fun h4 => ?_)
    refine j_getL hx flX8_310 kd1313 h4 (by decide) (by decide +kernel) ?_
    refine j_ldc2 hx (v := (kJ 4)) (jkd2 q2931 (by decide +kernel)) (by decide +kernel) ?_
    refine j_runA hx 1 (tb := [(30, .aload_n 0)]) (jtb_ok (by decide +kernel)) (pc' := 31) (lv' := [(3, vI s0), (0, vR t), (1, vI a1), (2, vI a2)]) (st' := [vR t, vL (kJ 4), vL (jL W 1313 t)]) rfl ?_
    refine j_getI hx flX8_275 kd1352 h4 (by decide) (by decide +kernel) ?_
    refine j_if_eq hx (off := 15) (tgt := 49) (by decide +kernel) (by decide) (fun _ => ?_) (fun _ => ?_)
    · refine j_runA hx 1 (tb := [(49, .aload_n 0)]) (jtb_ok (by decide +kernel)) (pc' := 50) (lv' := [(3, vI s0), (0, vR t), (1, vI a1), (2, vI a2)]) (st' := [vR t, vL (kJ 4), vL (jL W 1313 t)]) rfl ?_
      refine j_getR hx flX8_59 kl1322 h4 (by decide) (by decide +kernel) ?_
      refine j_runA hx 1 (tb := [(53, .iload_n 2)]) (jtb_ok (by decide +kernel)) (pc' := 54) (lv' := [(3, vI s0), (0, vR t), (1, vI a1), (2, vI a2)]) (st' := [vI a2, vR (jR W 1322 t), vL (kJ 4), vL (jL W 1313 t)]) rfl ?_
      refine j_gd (fun h5 => ?_)
      refine j_iald hx (f := 1322) (o := t) kd1322 rfl (by decide +kernel) h5 ?_
      refine j_lv (lv' := [(0, vR t), (1, vI a1), (2, vI a2), (3, vI s0)]) ⟨rfl, rfl, rfl, rfl, trivial⟩ ?_
      exact wmo_newOf_55 h s0 (jA W 1322 t (ix a2)) (kJ 4) (jL W 1313 t)
    refine j_runA hx 1 (tb := [(37, .aload_n 0)]) (jtb_ok (by decide +kernel)) (pc' := 38) (lv' := [(3, vI s0), (0, vR t), (1, vI a1), (2, vI a2)]) (st' := [vR t, vL (kJ 4), vL (jL W 1313 t)]) rfl ?_
    refine j_getR hx flX8_143 kl1350 h4 (by decide) (by decide +kernel) ?_
    refine j_gd (fun h6 => ?_)
    refine j_getR hx flX8_499 kl1503 h6 (by decide) (by decide +kernel) ?_
    refine j_runA hx 1 (tb := [(44, .iload_n 2)]) (jtb_ok (by decide +kernel)) (pc' := 45) (lv' := [(3, vI s0), (0, vR t), (1, vI a1), (2, vI a2)]) (st' := [vI a2, vR (jR W 1503 (jR W 1350 t)), vL (kJ 4), vL (jL W 1313 t)]) rfl ?_
    refine j_gd (fun h7 => ?_)
    refine j_iald hx (f := 1503) (o := (jR W 1350 t)) kd1503 rfl (by decide +kernel) h7 ?_
    refine j_goto hx (off := 9) (by decide +kernel) (tgt := 55) (by decide) ?_
    refine j_lv (lv' := [(0, vR t), (1, vI a1), (2, vI a2), (3, vI s0)]) ⟨rfl, rfl, rfl, rfl, trivial⟩ ?_
    exact wmo_newOf_55 h s0 (jA W 1503 (jR W 1350 t) (ix a2)) (kJ 4) (jL W 1313 t)
  refine j_runA hx 1 (tb := [(21, .lconst 0)]) (jtb_ok (by decide +kernel)) (pc' := 22) (lv' := [(3, vI s0), (0, vR t), (1, vI a1), (2, vI a2)]) (st' := [vL (kJ 0)]) rfl ?_
  exact j_lret hx hm (by decide +kernel) (he _)
theorem wmo_newOf {x : jCx} {en : (Int64) → Option (Outcome × jW)} {W : jW} {t : Nat} {a1 : Int32} {a2 : Int32} (h : hmo_newOf x en t a1 a2 W) : jJ x 4 0 [(0, vR t), (1, vI a1), (2, vI a2)] [] W (fmo_newOf t a1 a2 W) en := by
  have h0 := h
  obtain ⟨hx, hm, hr, he⟩ := h0
  unfold fmo_newOf
  refine j_runA hx 2 (tb := [(0, .iload_n 1), (1, .iconst 1)]) (jtb_ok (by decide +kernel)) (pc' := 2) (lv' := [(0, vR t), (1, vI a1), (2, vI a2)]) (st' := [vI (kI 1), vI a1]) rfl ?_
  refine j_icmp_ne hx (off := 7) (tgt := 9) (by decide +kernel) (by decide) (fun _ => ?_) (fun _ => ?_)
  · refine j_runA hx 1 (tb := [(9, .aload_n 0)]) (jtb_ok (by decide +kernel)) (pc' := 10) (lv' := [(0, vR t), (1, vI a1), (2, vI a2)]) (st' := [vR t]) rfl ?_
    refine j_gd (fun h1 => ?_)
    refine j_getR hx flX8_62 kl1323 h1 (by decide) (by decide +kernel) ?_
    refine j_runA hx 1 (tb := [(13, .iload_n 2)]) (jtb_ok (by decide +kernel)) (pc' := 14) (lv' := [(0, vR t), (1, vI a1), (2, vI a2)]) (st' := [vI a2, vR (jR W 1323 t)]) rfl ?_
    refine j_gd (fun h2 => ?_)
    refine j_iald hx (f := 1323) (o := t) kd1323 rfl (by decide +kernel) h2 ?_
    exact wmo_newOf_15 h (jA W 1323 t (ix a2))
  refine j_runA hx 1 (tb := [(5, .iconst 0)]) (jtb_ok (by decide +kernel)) (pc' := 6) (lv' := [(0, vR t), (1, vI a1), (2, vI a2)]) (st' := [vI (kI 0)]) rfl ?_
  refine j_goto hx (off := 9) (by decide +kernel) (tgt := 15) (by decide) ?_
  exact wmo_newOf_15 h (kI 0)
theorem cmo_newOf (t : Nat) (a1 : Int32) (a2 : Int32) (W : jW) : jM yX8_newOf cX8_newOf 4 (Option.some Jvm.ClassFile.FieldType.long) [] 0 0 [vR t, vI a1, vI a2] W ((fmo_newOf t a1 a2 W).bind (fun q => some (.returned (some (.long q)), W))) := 
  jM.of (Nat.le_of_ble_eq_true rfl) (fun x hx hm hr => wmo_newOf ⟨hx, hm, hr, fun _ => rfl⟩)
def hmo_newer (x : jCx) (en : (Int64) → Option (Outcome × jW)) (t : Nat) (a1 : Int32) (W : jW) : Prop :=
  jOK x RX8 cX8_newer 3 ∧
  jMt x "newer" (Option.some Jvm.ClassFile.FieldType.long) [] ∧
  jRm x 2 27 ∧
  (∀ q : Int64, en q = some (.returned (some (.long q)), W))
theorem wmo_newer_20 {x : jCx} {en : (Int64) → Option (Outcome × jW)} {W : jW} {t : Nat} {a1 : Int32} (h : hmo_newer x en t a1 W) : jJ x 3 20 [(0, vR t), (1, vI a1)] [] W (fmo_newer_20 t a1 W) en := by
  have h0 := h
  obtain ⟨hx, hm, hr, he⟩ := h0
  unfold fmo_newer_20
  refine j_runA hx 1 (tb := [(20, .lconst 0)]) (jtb_ok (by decide +kernel)) (pc' := 21) (lv' := [(0, vR t), (1, vI a1)]) (st' := [vL (kJ 0)]) rfl ?_
  exact j_lret hx hm (by decide +kernel) (he _)
theorem wmo_newer {x : jCx} {en : (Int64) → Option (Outcome × jW)} {W : jW} {t : Nat} {a1 : Int32} (h : hmo_newer x en t a1 W) : jJ x 3 0 [(0, vR t), (1, vI a1)] [] W (fmo_newer t a1 W) en := by
  have h0 := h
  obtain ⟨hx, hm, hr, he⟩ := h0
  unfold fmo_newer
  refine j_runA hx 2 (tb := [(0, .aload_n 0), (1, .iconst 1)]) (jtb_ok (by decide +kernel)) (pc' := 2) (lv' := [(0, vR t), (1, vI a1)]) (st' := [vI (kI 1), vR t]) rfl ?_
  refine j_gd (fun h1 => ?_)
  refine j_OR (j_callV (av := [vI (kI 1)]) (st := []) hx hr (Or.inl q3563) q3565 qs223 rfl md_fmo_known np_fmo_known (cmo_known t (kI 1) W) (by decide) (Nat.le_of_ble_eq_true rfl) h1 (by decide) (by decide +kernel)) (fun q2 _ => ?_)
  refine j_runA hx 2 (tb := [(5, .astore_n 2), (6, .aload_n 2)]) (jtb_ok (by decide +kernel)) (pc' := 7) (lv' := [(2, vR q2), (0, vR t), (1, vI a1)]) (st' := [vR q2]) rfl ?_
  refine j_ifnull hx (off := 13) (tgt := 20) (by decide +kernel) (by decide) (fun _ => ?_) (fun _ => ?_)
  · refine j_lv (lv' := [(0, vR t), (1, vI a1)]) ⟨rfl, rfl, trivial⟩ ?_
    exact wmo_newer_20 h
  refine j_runA hx 1 (tb := [(10, .iload_n 1)]) (jtb_ok (by decide +kernel)) (pc' := 11) (lv' := [(2, vR q2), (0, vR t), (1, vI a1)]) (st' := [vI a1]) rfl ?_
  refine j_if_lt hx (off := 9) (tgt := 20) (by decide +kernel) (by decide) (fun _ => ?_) (fun _ => ?_)
  · refine j_lv (lv' := [(0, vR t), (1, vI a1)]) ⟨rfl, rfl, trivial⟩ ?_
    exact wmo_newer_20 h
  refine j_runA hx 2 (tb := [(14, .iload_n 1), (15, .bipush 31)]) (jtb_ok (by decide +kernel)) (pc' := 17) (lv' := [(2, vR q2), (0, vR t), (1, vI a1)]) (st' := [vI (kI 31), vI a1]) rfl ?_
  refine j_icmp_le hx (off := 5) (tgt := 22) (by decide +kernel) (by decide) (fun _ => ?_) (fun _ => ?_)
  · refine j_runA hx 1 (tb := [(22, .aload_n 2)]) (jtb_ok (by decide +kernel)) (pc' := 23) (lv' := [(2, vR q2), (0, vR t), (1, vI a1)]) (st' := [vR q2]) rfl ?_
    refine j_gd (fun h3 => ?_)
    refine j_getR hx flX8_626 kl1604 h3 (by decide) (by decide +kernel) ?_
    refine j_runA hx 1 (tb := [(26, .iload_n 1)]) (jtb_ok (by decide +kernel)) (pc' := 27) (lv' := [(2, vR q2), (0, vR t), (1, vI a1)]) (st' := [vI a1, vR (jR W 1604 q2)]) rfl ?_
    refine j_gd (fun h4 => ?_)
    refine j_bald hx (f := 1604) (o := q2) kd1604 rfl (by decide +kernel) h4 ?_
    refine j_if_ne hx (off := 12) (tgt := 40) (by decide +kernel) (by decide) (fun _ => ?_) (fun _ => ?_)
    · refine j_runA hx 2 (tb := [(40, .aload_n 0), (41, .aload_n 2)]) (jtb_ok (by decide +kernel)) (pc' := 42) (lv' := [(2, vR q2), (0, vR t), (1, vI a1)]) (st' := [vR q2, vR t]) rfl ?_
      refine j_getR hx flX8_626 kl1604 h3 (by decide) (by decide +kernel) ?_
      refine j_runA hx 1 (tb := [(45, .iload_n 1)]) (jtb_ok (by decide +kernel)) (pc' := 46) (lv' := [(2, vR q2), (0, vR t), (1, vI a1)]) (st' := [vI a1, vR (jR W 1604 q2), vR t]) rfl ?_
      refine j_gd (fun h5 => ?_)
      refine j_bald hx (f := 1604) (o := q2) kd1604 rfl (by decide +kernel) h5 ?_
      refine j_runA hx 1 (tb := [(47, .aload_n 2)]) (jtb_ok (by decide +kernel)) (pc' := 48) (lv' := [(2, vR q2), (0, vR t), (1, vI a1)]) (st' := [vR q2, vI (jA W 1604 q2 (ix a1)), vR t]) rfl ?_
      refine j_getR hx flX8_629 kl1605 h3 (by decide) (by decide +kernel) ?_
      refine j_runA hx 1 (tb := [(51, .iload_n 1)]) (jtb_ok (by decide +kernel)) (pc' := 52) (lv' := [(2, vR q2), (0, vR t), (1, vI a1)]) (st' := [vI a1, vR (jR W 1605 q2), vI (jA W 1604 q2 (ix a1)), vR t]) rfl ?_
      refine j_gd (fun h6 => ?_)
      refine j_iald hx (f := 1605) (o := q2) kd1605 rfl (by decide +kernel) h6 ?_
      refine j_OL (j_callV (av := [vI (jA W 1604 q2 (ix a1)), vI (jA W 1605 q2 (ix a1))]) (st := []) hx hr (Or.inl q3579) q3581 qs224 rfl md_fmo_newOf np_fmo_newOf (cmo_newOf t (jA W 1604 q2 (ix a1)) (jA W 1605 q2 (ix a1)) W) (by decide) (Nat.le_of_ble_eq_true rfl) h1 (by decide) (by decide +kernel)) (fun q7 _ => ?_)
      exact j_lret hx hm (by decide +kernel) (he _)
    refine j_runA hx 1 (tb := [(31, .aload_n 2)]) (jtb_ok (by decide +kernel)) (pc' := 32) (lv' := [(2, vR q2), (0, vR t), (1, vI a1)]) (st' := [vR q2]) rfl ?_
    refine j_getR hx flX8_623 kl1603 h3 (by decide) (by decide +kernel) ?_
    refine j_runA hx 1 (tb := [(35, .iload_n 1)]) (jtb_ok (by decide +kernel)) (pc' := 36) (lv' := [(2, vR q2), (0, vR t), (1, vI a1)]) (st' := [vI a1, vR (jR W 1603 q2)]) rfl ?_
    refine j_gd (fun h8 => ?_)
    refine j_lald hx (f := 1603) (o := q2) kd1603 rfl (by decide +kernel) h8 ?_
    refine j_goto hx (off := 19) (by decide +kernel) (tgt := 56) (by decide) ?_
    exact j_lret hx hm (by decide +kernel) (he _)
  refine j_lv (lv' := [(0, vR t), (1, vI a1)]) ⟨rfl, rfl, trivial⟩ ?_
  exact wmo_newer_20 h
theorem cmo_newer (t : Nat) (a1 : Int32) (W : jW) : jM yX8_newer cX8_newer 3 (Option.some Jvm.ClassFile.FieldType.long) [] 2 27 [vR t, vI a1] W ((fmo_newer t a1 W).bind (fun q => some (.returned (some (.long q)), W))) := 
  jM.of (Nat.le_of_ble_eq_true rfl) (fun x hx hm hr => wmo_newer ⟨hx, hm, hr, fun _ => rfl⟩)
def hmo_visit (x : jCx) (en : (Int32) → Option (Outcome × jW)) (t : Nat) (a1 : Int32) (a2 : Int32) (W : jW) : Prop :=
  jOK x RX8 cX8_visit 4 ∧
  jMt x "visit" (Option.some Jvm.ClassFile.FieldType.int) [] ∧
  jRm x 2 27 ∧
  (∀ q : Int32, en q = some (.returned (some (.int q)), W))
theorem wmo_visit_22 {x : jCx} {en : (Int32) → Option (Outcome × jW)} {W : jW} {t : Nat} {a1 : Int32} {a2 : Int32} (h : hmo_visit x en t a1 a2 W) : jJ x 4 22 [(0, vR t), (1, vI a1), (2, vI a2)] [] W (fmo_visit_22 t a1 a2 W) en := by
  have h0 := h
  obtain ⟨hx, hm, hr, he⟩ := h0
  unfold fmo_visit_22
  refine j_runA hx 1 (tb := [(22, .iconst (-1))]) (jtb_ok (by decide +kernel)) (pc' := 23) (lv' := [(0, vR t), (1, vI a1), (2, vI a2)]) (st' := [vI (kI (-1))]) rfl ?_
  refine j_goto hx (off := 9) (by decide +kernel) (tgt := 32) (by decide) ?_
  exact j_iret hx hm (by decide +kernel) rfl (he _)
theorem wmo_visit {x : jCx} {en : (Int32) → Option (Outcome × jW)} {W : jW} {t : Nat} {a1 : Int32} {a2 : Int32} (h : hmo_visit x en t a1 a2 W) : jJ x 4 0 [(0, vR t), (1, vI a1), (2, vI a2)] [] W (fmo_visit t a1 a2 W) en := by
  have h0 := h
  obtain ⟨hx, hm, hr, he⟩ := h0
  unfold fmo_visit
  refine j_runA hx 2 (tb := [(0, .aload_n 0), (1, .iload_n 1)]) (jtb_ok (by decide +kernel)) (pc' := 2) (lv' := [(0, vR t), (1, vI a1), (2, vI a2)]) (st' := [vI a1, vR t]) rfl ?_
  refine j_gd (fun h1 => ?_)
  refine j_OR (j_callV (av := [vI a1]) (st := []) hx hr (Or.inl q3563) q3565 qs223 rfl md_fmo_known np_fmo_known (cmo_known t a1 W) (by decide) (Nat.le_of_ble_eq_true rfl) h1 (by decide) (by decide +kernel)) (fun q2 _ => ?_)
  refine j_runA hx 2 (tb := [(5, .astore_n 3), (6, .aload_n 3)]) (jtb_ok (by decide +kernel)) (pc' := 7) (lv' := [(3, vR q2), (0, vR t), (1, vI a1), (2, vI a2)]) (st' := [vR q2]) rfl ?_
  refine j_ifnull hx (off := 15) (tgt := 22) (by decide +kernel) (by decide) (fun _ => ?_) (fun _ => ?_)
  · refine j_lv (lv' := [(0, vR t), (1, vI a1), (2, vI a2)]) ⟨rfl, rfl, rfl, trivial⟩ ?_
    exact wmo_visit_22 h
  refine j_runA hx 1 (tb := [(10, .iload_n 2)]) (jtb_ok (by decide +kernel)) (pc' := 11) (lv' := [(3, vR q2), (0, vR t), (1, vI a1), (2, vI a2)]) (st' := [vI a2]) rfl ?_
  refine j_if_lt hx (off := 11) (tgt := 22) (by decide +kernel) (by decide) (fun _ => ?_) (fun _ => ?_)
  · refine j_lv (lv' := [(0, vR t), (1, vI a1), (2, vI a2)]) ⟨rfl, rfl, rfl, trivial⟩ ?_
    exact wmo_visit_22 h
  refine j_runA hx 2 (tb := [(14, .iload_n 2), (15, .aload_n 3)]) (jtb_ok (by decide +kernel)) (pc' := 16) (lv' := [(3, vR q2), (0, vR t), (1, vI a1), (2, vI a2)]) (st' := [vR q2, vI a2]) rfl ?_
  refine j_gd (fun h3 => ?_)
  refine j_getI hx flX8_597 kd1614 h3 (by decide) (by decide +kernel) ?_
  refine j_icmp_lt hx (off := 7) (tgt := 26) (by decide +kernel) (by decide) (fun _ => ?_) (fun _ => ?_)
  · refine j_runA hx 1 (tb := [(26, .aload_n 3)]) (jtb_ok (by decide +kernel)) (pc' := 27) (lv' := [(3, vR q2), (0, vR t), (1, vI a1), (2, vI a2)]) (st' := [vR q2]) rfl ?_
    refine j_getR hx flX8_635 kl1613 h3 (by decide) (by decide +kernel) ?_
    refine j_runA hx 1 (tb := [(30, .iload_n 2)]) (jtb_ok (by decide +kernel)) (pc' := 31) (lv' := [(3, vR q2), (0, vR t), (1, vI a1), (2, vI a2)]) (st' := [vI a2, vR (jR W 1613 q2)]) rfl ?_
    refine j_gd (fun h4 => ?_)
    refine j_iald hx (f := 1613) (o := q2) kd1613 rfl (by decide +kernel) h4 ?_
    exact j_iret hx hm (by decide +kernel) rfl (he _)
  refine j_lv (lv' := [(0, vR t), (1, vI a1), (2, vI a2)]) ⟨rfl, rfl, rfl, trivial⟩ ?_
  exact wmo_visit_22 h
theorem cmo_visit (t : Nat) (a1 : Int32) (a2 : Int32) (W : jW) : jM yX8_visit cX8_visit 4 (Option.some Jvm.ClassFile.FieldType.int) [] 2 27 [vR t, vI a1, vI a2] W ((fmo_visit t a1 a2 W).bind (fun q => some (.returned (some (.int q)), W))) := 
  jM.of (Nat.le_of_ble_eq_true rfl) (fun x hx hm hr => wmo_visit ⟨hx, hm, hr, fun _ => rfl⟩)
def hmo_memory (x : jCx) (en : (Int32) → Option (Outcome × jW)) (t : Nat) (a1 : Int32) (a2 : Int64) (W : jW) : Prop :=
  jOK x RX8 cX8_memory 6 ∧
  jMt x "memory" (Option.some Jvm.ClassFile.FieldType.int) [] ∧
  jRm x 2 27 ∧
  (∀ q : Int32, en q = some (.returned (some (.int q)), W))
theorem wmo_memory_23 {x : jCx} {en : (Int32) → Option (Outcome × jW)} {W : jW} {t : Nat} {a1 : Int32} {a2 : Int64} (h : hmo_memory x en t a1 a2 W) (l4 : Nat) (s0 : Int32) : jJ x 6 23 [(0, vR t), (1, vI a1), (2, vL a2), (4, vR l4)] [vI s0] W (fmo_memory_23 t a1 a2 l4 s0 W) en := by
  have h0 := h
  obtain ⟨hx, hm, hr, he⟩ := h0
  unfold fmo_memory_23
  refine j_runA hx 2 (tb := [(23, .istore 5), (25, .iload 5)]) (jtb_ok (by decide +kernel)) (pc' := 27) (lv' := [(5, vI s0), (0, vR t), (1, vI a1), (2, vL a2), (4, vR l4)]) (st' := [vI s0]) rfl ?_
  refine j_if_ge hx (off := 7) (tgt := 34) (by decide +kernel) (by decide) (fun _ => ?_) (fun _ => ?_)
  · refine j_runA hx 1 (tb := [(34, .aload 4)]) (jtb_ok (by decide +kernel)) (pc' := 36) (lv' := [(5, vI s0), (0, vR t), (1, vI a1), (2, vL a2), (4, vR l4)]) (st' := [vR l4]) rfl ?_
    refine j_gd (fun h6 => ?_)
    refine j_getR hx flX8_641 kl1610 h6 (by decide) (by decide +kernel) ?_
    refine j_runA hx 1 (tb := [(39, .iload 5)]) (jtb_ok (by decide +kernel)) (pc' := 41) (lv' := [(5, vI s0), (0, vR t), (1, vI a1), (2, vL a2), (4, vR l4)]) (st' := [vI s0, vR (jR W 1610 l4)]) rfl ?_
    refine j_gd (fun h7 => ?_)
    refine j_bald hx (f := 1610) (o := l4) kd1610 rfl (by decide +kernel) h7 ?_
    refine j_runA hx 2 (tb := [(42, .sipush 255), (45, .iand)]) (jtb_ok (by decide +kernel)) (pc' := 46) (lv' := [(5, vI s0), (0, vR t), (1, vI a1), (2, vL a2), (4, vR l4)]) (st' := [vI ((jA W 1610 l4 (ix s0)) &&& (kI 255))]) rfl ?_
    exact j_iret hx hm (by decide +kernel) rfl (he _)
  refine j_runA hx 1 (tb := [(30, .iconst (-1))]) (jtb_ok (by decide +kernel)) (pc' := 31) (lv' := [(5, vI s0), (0, vR t), (1, vI a1), (2, vL a2), (4, vR l4)]) (st' := [vI (kI (-1))]) rfl ?_
  refine j_goto hx (off := 15) (by decide +kernel) (tgt := 46) (by decide) ?_
  exact j_iret hx hm (by decide +kernel) rfl (he _)
theorem wmo_memory {x : jCx} {en : (Int32) → Option (Outcome × jW)} {W : jW} {t : Nat} {a1 : Int32} {a2 : Int64} (h : hmo_memory x en t a1 a2 W) : jJ x 6 0 [(0, vR t), (1, vI a1), (2, vL a2)] [] W (fmo_memory t a1 a2 W) en := by
  have h0 := h
  obtain ⟨hx, hm, hr, he⟩ := h0
  unfold fmo_memory
  refine j_runA hx 2 (tb := [(0, .aload_n 0), (1, .iload_n 1)]) (jtb_ok (by decide +kernel)) (pc' := 2) (lv' := [(0, vR t), (1, vI a1), (2, vL a2)]) (st' := [vI a1, vR t]) rfl ?_
  refine j_gd (fun h1 => ?_)
  refine j_OR (j_callV (av := [vI a1]) (st := []) hx hr (Or.inl q3563) q3565 qs223 rfl md_fmo_known np_fmo_known (cmo_known t a1 W) (by decide) (Nat.le_of_ble_eq_true rfl) h1 (by decide) (by decide +kernel)) (fun q2 _ => ?_)
  refine j_runA hx 2 (tb := [(5, .astore 4), (7, .aload 4)]) (jtb_ok (by decide +kernel)) (pc' := 9) (lv' := [(4, vR q2), (0, vR t), (1, vI a1), (2, vL a2)]) (st' := [vR q2]) rfl ?_
  refine j_ifnonnull hx (off := 7) (tgt := 16) (by decide +kernel) (by decide) (fun _ => ?_) (fun _ => ?_)
  · refine j_runA hx 1 (tb := [(12, .iconst (-1))]) (jtb_ok (by decide +kernel)) (pc' := 13) (lv' := [(4, vR q2), (0, vR t), (1, vI a1), (2, vL a2)]) (st' := [vI (kI (-1))]) rfl ?_
    refine j_goto hx (off := 10) (by decide +kernel) (tgt := 23) (by decide) ?_
    refine j_lv (lv' := [(0, vR t), (1, vI a1), (2, vL a2), (4, vR q2)]) ⟨rfl, rfl, rfl, rfl, trivial⟩ ?_
    exact wmo_memory_23 h q2 (kI (-1))
  refine j_runA hx 3 (tb := [(16, .aload 4), (18, .lload_n 2), (19, .iconst 1)]) (jtb_ok (by decide +kernel)) (pc' := 20) (lv' := [(4, vR q2), (0, vR t), (1, vI a1), (2, vL a2)]) (st' := [vI (kI 1), vL a2, vR q2]) rfl ?_
  refine j_gd (fun h3 => ?_)
  refine j_OI (j_callV (av := [vL a2, vI (kI 1)]) (st := []) hx hr (Or.inl q3591) q3492 q3493 rfl md_frn_at np_frn_at (crn_at q2 a2 (kI 1) W) (by decide) (Nat.le_of_ble_eq_true rfl) h3 (by decide) (by decide +kernel)) (fun q4 _ => ?_)
  refine j_lv (lv' := [(0, vR t), (1, vI a1), (2, vL a2), (4, vR q2)]) ⟨rfl, rfl, rfl, rfl, trivial⟩ ?_
  exact wmo_memory_23 h q2 q4
theorem cmo_memory (t : Nat) (a1 : Int32) (a2 : Int64) (W : jW) : jM yX8_memory cX8_memory 6 (Option.some Jvm.ClassFile.FieldType.int) [] 2 27 [vR t, vI a1, vL a2] W ((fmo_memory t a1 a2 W).bind (fun q => some (.returned (some (.int q)), W))) := 
  jM.of (Nat.le_of_ble_eq_true rfl) (fun x hx hm hr => wmo_memory ⟨hx, hm, hr, fun _ => rfl⟩)
def hmo_keeps (x : jCx) (en : (Int32) → Option (Outcome × jW)) (t : Nat) (a1 : Int64) (W : jW) : Prop :=
  jOK x RX8 cX8_keeps 5 ∧
  jMt x "keeps" (Option.some Jvm.ClassFile.FieldType.int) [] ∧
  jRm x 2 27 ∧
  (∀ q : Int32, en q = some (.returned (some (.int q)), W))
theorem wmo_keeps_31 {x : jCx} {en : (Int32) → Option (Outcome × jW)} {W : jW} {t : Nat} {a1 : Int64} (h : hmo_keeps x en t a1 W) (l3 : Nat) (s0 : Int32) : jJ x 5 31 [(0, vR t), (1, vL a1), (3, vR l3)] [vI s0] W (fmo_keeps_31 t a1 l3 s0 W) en := by
  have h0 := h
  obtain ⟨hx, hm, hr, he⟩ := h0
  unfold fmo_keeps_31
  refine j_runA hx 2 (tb := [(31, .istore 4), (33, .iload 4)]) (jtb_ok (by decide +kernel)) (pc' := 35) (lv' := [(4, vI s0), (0, vR t), (1, vL a1), (3, vR l3)]) (st' := [vI s0]) rfl ?_
  refine j_if_ge hx (off := 7) (tgt := 42) (by decide +kernel) (by decide) (fun _ => ?_) (fun _ => ?_)
  · refine j_runA hx 1 (tb := [(42, .aload_n 3)]) (jtb_ok (by decide +kernel)) (pc' := 43) (lv' := [(4, vI s0), (0, vR t), (1, vL a1), (3, vR l3)]) (st' := [vR l3]) rfl ?_
    refine j_gd (fun h6 => ?_)
    refine j_getR hx flX8_645 kl1611 h6 (by decide) (by decide +kernel) ?_
    refine j_runA hx 2 (tb := [(46, .iload 4), (48, .bipush 8)]) (jtb_ok (by decide +kernel)) (pc' := 50) (lv' := [(4, vI s0), (0, vR t), (1, vL a1), (3, vR l3)]) (st' := [vI (kI 8), vI s0, vR (jR W 1611 l3)]) rfl ?_
    refine j_idiv hx (by decide +kernel) (by decide +kernel) ?_
    refine j_gd (fun h7 => ?_)
    refine j_bald hx (f := 1611) (o := l3) kd1611 rfl (by decide +kernel) h7 ?_
    exact j_iret hx hm (by decide +kernel) rfl (he _)
  refine j_runA hx 1 (tb := [(38, .iconst (-1))]) (jtb_ok (by decide +kernel)) (pc' := 39) (lv' := [(4, vI s0), (0, vR t), (1, vL a1), (3, vR l3)]) (st' := [vI (kI (-1))]) rfl ?_
  refine j_goto hx (off := 13) (by decide +kernel) (tgt := 52) (by decide) ?_
  exact j_iret hx hm (by decide +kernel) rfl (he _)
theorem wmo_keeps_20 {x : jCx} {en : (Int32) → Option (Outcome × jW)} {W : jW} {t : Nat} {a1 : Int64} (h : hmo_keeps x en t a1 W) (l3 : Nat) : jJ x 5 20 [(0, vR t), (1, vL a1), (3, vR l3)] [] W (fmo_keeps_20 t a1 l3 W) en := by
  have h0 := h
  obtain ⟨hx, hm, hr, he⟩ := h0
  unfold fmo_keeps_20
  refine j_runA hx 1 (tb := [(20, .iconst (-1))]) (jtb_ok (by decide +kernel)) (pc' := 21) (lv' := [(0, vR t), (1, vL a1), (3, vR l3)]) (st' := [vI (kI (-1))]) rfl ?_
  refine j_goto hx (off := 10) (by decide +kernel) (tgt := 31) (by decide) ?_
  exact wmo_keeps_31 h l3 (kI (-1))
theorem wmo_keeps {x : jCx} {en : (Int32) → Option (Outcome × jW)} {W : jW} {t : Nat} {a1 : Int64} (h : hmo_keeps x en t a1 W) : jJ x 5 0 [(0, vR t), (1, vL a1)] [] W (fmo_keeps t a1 W) en := by
  have h0 := h
  obtain ⟨hx, hm, hr, he⟩ := h0
  unfold fmo_keeps
  refine j_runA hx 2 (tb := [(0, .aload_n 0), (1, .iconst 1)]) (jtb_ok (by decide +kernel)) (pc' := 2) (lv' := [(0, vR t), (1, vL a1)]) (st' := [vI (kI 1), vR t]) rfl ?_
  refine j_gd (fun h1 => ?_)
  refine j_OR (j_callV (av := [vI (kI 1)]) (st := []) hx hr (Or.inl q3563) q3565 qs223 rfl md_fmo_known np_fmo_known (cmo_known t (kI 1) W) (by decide) (Nat.le_of_ble_eq_true rfl) h1 (by decide) (by decide +kernel)) (fun q2 _ => ?_)
  refine j_runA hx 2 (tb := [(5, .astore_n 3), (6, .aload_n 3)]) (jtb_ok (by decide +kernel)) (pc' := 7) (lv' := [(3, vR q2), (0, vR t), (1, vL a1)]) (st' := [vR q2]) rfl ?_
  refine j_ifnull hx (off := 13) (tgt := 20) (by decide +kernel) (by decide) (fun _ => ?_) (fun _ => ?_)
  · refine j_lv (lv' := [(0, vR t), (1, vL a1), (3, vR q2)]) ⟨rfl, rfl, rfl, trivial⟩ ?_
    exact wmo_keeps_20 h q2
  refine j_runA hx 1 (tb := [(10, .lload_n 1)]) (jtb_ok (by decide +kernel)) (pc' := 11) (lv' := [(3, vR q2), (0, vR t), (1, vL a1)]) (st' := [vL a1]) rfl ?_
  refine j_ldc2 hx (v := (kJ 7)) (jkd2 q3596 (by decide +kernel)) (by decide +kernel) ?_
  refine j_runA hx 2 (tb := [(14, .land), (15, .lconst 0)]) (jtb_ok (by decide +kernel)) (pc' := 16) (lv' := [(3, vR q2), (0, vR t), (1, vL a1)]) (st' := [vL (kJ 0), vL (a1 &&& (kJ 7))]) rfl ?_
  refine j_lcmp_eq hx (off := 7) (tgt := 24) (by decide +kernel) (by decide +kernel) (by decide) (fun _ => ?_) (fun _ => ?_)
  · refine j_runA hx 3 (tb := [(24, .aload_n 3), (25, .lload_n 1), (26, .bipush 8)]) (jtb_ok (by decide +kernel)) (pc' := 28) (lv' := [(3, vR q2), (0, vR t), (1, vL a1)]) (st' := [vI (kI 8), vL a1, vR q2]) rfl ?_
    refine j_gd (fun h3 => ?_)
    refine j_OI (j_callV (av := [vL a1, vI (kI 8)]) (st := []) hx hr (Or.inl q3591) q3492 q3493 rfl md_frn_at np_frn_at (crn_at q2 a1 (kI 8) W) (by decide) (Nat.le_of_ble_eq_true rfl) h3 (by decide) (by decide +kernel)) (fun q4 _ => ?_)
    refine j_lv (lv' := [(0, vR t), (1, vL a1), (3, vR q2)]) ⟨rfl, rfl, rfl, trivial⟩ ?_
    exact wmo_keeps_31 h q2 q4
  refine j_lv (lv' := [(0, vR t), (1, vL a1), (3, vR q2)]) ⟨rfl, rfl, rfl, trivial⟩ ?_
  exact wmo_keeps_20 h q2
theorem cmo_keeps (t : Nat) (a1 : Int64) (W : jW) : jM yX8_keeps cX8_keeps 5 (Option.some Jvm.ClassFile.FieldType.int) [] 2 27 [vR t, vL a1] W ((fmo_keeps t a1 W).bind (fun q => some (.returned (some (.int q)), W))) := 
  jM.of (Nat.le_of_ble_eq_true rfl) (fun x hx hm hr => wmo_keeps ⟨hx, hm, hr, fun _ => rfl⟩)
def hmo_newest (x : jCx) (en : (Int64) → Option (Outcome × jW)) (t : Nat) (a1 : Int64) (W : jW) : Prop :=
  jOK x RX8 cX8_newest 4 ∧
  jMt x "newest" (Option.some Jvm.ClassFile.FieldType.long) [] ∧
  jRm x 3 43 ∧
  (∀ q : Int64, en q = some (.returned (some (.long q)), W))
theorem wmo_newest {x : jCx} {en : (Int64) → Option (Outcome × jW)} {W : jW} {t : Nat} {a1 : Int64} (h : hmo_newest x en t a1 W) : jJ x 4 0 [(0, vR t), (1, vL a1)] [] W (fmo_newest t a1 W) en := by
  have h0 := h
  obtain ⟨hx, hm, hr, he⟩ := h0
  unfold fmo_newest
  refine j_runA hx 2 (tb := [(0, .aload_n 0), (1, .lload_n 1)]) (jtb_ok (by decide +kernel)) (pc' := 2) (lv' := [(0, vR t), (1, vL a1)]) (st' := [vL a1, vR t]) rfl ?_
  refine j_gd (fun h1 => ?_)
  refine j_OI (j_callV (av := [vL a1]) (st := []) hx hr (Or.inl q3601) q3593 q3594 rfl md_fmo_keeps np_fmo_keeps (cmo_keeps t a1 W) (by decide) (Nat.le_of_ble_eq_true rfl) h1 (by decide) (by decide +kernel)) (fun q2 _ => ?_)
  refine j_runA hx 3 (tb := [(5, .istore_n 3), (6, .iload_n 3), (7, .iconst 1)]) (jtb_ok (by decide +kernel)) (pc' := 8) (lv' := [(3, vI q2), (0, vR t), (1, vL a1)]) (st' := [vI (kI 1), vI q2]) rfl ?_
  refine j_icmp_ge hx (off := 5) (tgt := 13) (by decide +kernel) (by decide) (fun _ => ?_) (fun _ => ?_)
  · refine j_runA hx 3 (tb := [(13, .aload_n 0), (14, .iload_n 3), (15, .aload_n 0)]) (jtb_ok (by decide +kernel)) (pc' := 16) (lv' := [(3, vI q2), (0, vR t), (1, vL a1)]) (st' := [vR t, vI q2, vR t]) rfl ?_
    refine j_getR hx flX8_172 kl1362 h1 (by decide) (by decide +kernel) ?_
    refine j_gd (fun h3 => ?_)
    refine j_getR hx flX8_651 kl1612 h3 (by decide) (by decide +kernel) ?_
    refine j_runA hx 1 (tb := [(22, .aload_n 0)]) (jtb_ok (by decide +kernel)) (pc' := 23) (lv' := [(3, vI q2), (0, vR t), (1, vL a1)]) (st' := [vR t, vR (jR W 1612 (jR W 1362 t)), vI q2, vR t]) rfl ?_
    refine j_getR hx flX8_172 kl1362 h1 (by decide) (by decide +kernel) ?_
    refine j_runA hx 2 (tb := [(26, .lload_n 1), (27, .bipush 8)]) (jtb_ok (by decide +kernel)) (pc' := 29) (lv' := [(3, vI q2), (0, vR t), (1, vL a1)]) (st' := [vI (kI 8), vL a1, vR (jR W 1362 t), vR (jR W 1612 (jR W 1362 t)), vI q2, vR t]) rfl ?_
    refine j_OI (j_callV (av := [vL a1, vI (kI 8)]) (st := [vR (jR W 1612 (jR W 1362 t)), vI q2, vR t]) hx hr (Or.inl q3591) q3492 q3493 rfl md_frn_at np_frn_at (crn_at (jR W 1362 t) a1 (kI 8) W) (by decide) (Nat.le_of_ble_eq_true rfl) h3 (by decide) (by decide +kernel)) (fun q4 _ => ?_)
    refine j_runA hx 1 (tb := [(32, .bipush 8)]) (jtb_ok (by decide +kernel)) (pc' := 34) (lv' := [(3, vI q2), (0, vR t), (1, vL a1)]) (st' := [vI (kI 8), vI q4, vR (jR W 1612 (jR W 1362 t)), vI q2, vR t]) rfl ?_
    refine j_idiv hx (by decide +kernel) (by decide +kernel) ?_
    refine j_gd (fun h5 => ?_)
    refine j_iald hx (f := 1612) (o := (jR W 1362 t)) kd1612 rfl (by decide +kernel) h5 ?_
    refine j_OL (j_callV (av := [vI q2, vI (jA W 1612 (jR W 1362 t) (ix (q4 / (kI 8))))]) (st := []) hx hr (Or.inl q3579) q3581 qs224 rfl md_fmo_newOf np_fmo_newOf (cmo_newOf t q2 (jA W 1612 (jR W 1362 t) (ix (q4 / (kI 8)))) W) (by decide) (Nat.le_of_ble_eq_true rfl) h1 (by decide) (by decide +kernel)) (fun q6 _ => ?_)
    exact j_lret hx hm (by decide +kernel) (he _)
  refine j_runA hx 1 (tb := [(11, .lconst 0)]) (jtb_ok (by decide +kernel)) (pc' := 12) (lv' := [(3, vI q2), (0, vR t), (1, vL a1)]) (st' := [vL (kJ 0)]) rfl ?_
  exact j_lret hx hm (by decide +kernel) (he _)
theorem cmo_newest (t : Nat) (a1 : Int64) (W : jW) : jM yX8_newest cX8_newest 4 (Option.some Jvm.ClassFile.FieldType.long) [] 3 43 [vR t, vL a1] W ((fmo_newest t a1 W).bind (fun q => some (.returned (some (.long q)), W))) := 
  jM.of (Nat.le_of_ble_eq_true rfl) (fun x hx hm hr => wmo_newest ⟨hx, hm, hr, fun _ => rfl⟩)
def hmo_trace (x : jCx) (en : (Int64) → Option (Outcome × jW)) (t : Nat) (a1 : Int32) (a2 : Int32) (a3 : Int32) (W : jW) : Prop :=
  jOK x RX8 cX8_trace 5 ∧
  jMt x "trace" (Option.some Jvm.ClassFile.FieldType.long) [] ∧
  jRm x 2 27 ∧
  (∀ q : Int64, en q = some (.returned (some (.long q)), W))
theorem wmo_trace_41 {x : jCx} {en : (Int64) → Option (Outcome × jW)} {W : jW} {t : Nat} {a1 : Int32} {a2 : Int32} {a3 : Int32} (h : hmo_trace x en t a1 a2 a3 W) : jJ x 5 41 [(0, vR t), (1, vI a1), (2, vI a2), (3, vI a3)] [] W (fmo_trace_41 t a1 a2 a3 W) en := by
  have h0 := h
  obtain ⟨hx, hm, hr, he⟩ := h0
  unfold fmo_trace_41
  refine j_runA hx 1 (tb := [(41, .lconst 0)]) (jtb_ok (by decide +kernel)) (pc' := 42) (lv' := [(0, vR t), (1, vI a1), (2, vI a2), (3, vI a3)]) (st' := [vL (kJ 0)]) rfl ?_
  refine j_goto hx (off := 14) (by decide +kernel) (tgt := 56) (by decide) ?_
  exact j_lret hx hm (by decide +kernel) (he _)
theorem wmo_trace {x : jCx} {en : (Int64) → Option (Outcome × jW)} {W : jW} {t : Nat} {a1 : Int32} {a2 : Int32} {a3 : Int32} (h : hmo_trace x en t a1 a2 a3 W) : jJ x 5 0 [(0, vR t), (1, vI a1), (2, vI a2), (3, vI a3)] [] W (fmo_trace t a1 a2 a3 W) en := by
  have h0 := h
  obtain ⟨hx, hm, hr, he⟩ := h0
  unfold fmo_trace
  refine j_runA hx 2 (tb := [(0, .aload_n 0), (1, .iload_n 1)]) (jtb_ok (by decide +kernel)) (pc' := 2) (lv' := [(0, vR t), (1, vI a1), (2, vI a2), (3, vI a3)]) (st' := [vI a1, vR t]) rfl ?_
  refine j_gd (fun h1 => ?_)
  refine j_OR (j_callV (av := [vI a1]) (st := []) hx hr (Or.inl q3563) q3565 qs223 rfl md_fmo_known np_fmo_known (cmo_known t a1 W) (by decide) (Nat.le_of_ble_eq_true rfl) h1 (by decide) (by decide +kernel)) (fun q2 _ => ?_)
  refine j_runA hx 2 (tb := [(5, .astore 4), (7, .aload 4)]) (jtb_ok (by decide +kernel)) (pc' := 9) (lv' := [(4, vR q2), (0, vR t), (1, vI a1), (2, vI a2), (3, vI a3)]) (st' := [vR q2]) rfl ?_
  refine j_ifnull hx (off := 32) (tgt := 41) (by decide +kernel) (by decide) (fun _ => ?_) (fun _ => ?_)
  · refine j_lv (lv' := [(0, vR t), (1, vI a1), (2, vI a2), (3, vI a3)]) ⟨rfl, rfl, rfl, rfl, trivial⟩ ?_
    exact wmo_trace_41 h
  refine j_runA hx 1 (tb := [(12, .iload_n 2)]) (jtb_ok (by decide +kernel)) (pc' := 13) (lv' := [(4, vR q2), (0, vR t), (1, vI a1), (2, vI a2), (3, vI a3)]) (st' := [vI a2]) rfl ?_
  refine j_if_lt hx (off := 28) (tgt := 41) (by decide +kernel) (by decide) (fun _ => ?_) (fun _ => ?_)
  · refine j_lv (lv' := [(0, vR t), (1, vI a1), (2, vI a2), (3, vI a3)]) ⟨rfl, rfl, rfl, rfl, trivial⟩ ?_
    exact wmo_trace_41 h
  refine j_runA hx 2 (tb := [(16, .iload_n 2), (17, .aload 4)]) (jtb_ok (by decide +kernel)) (pc' := 19) (lv' := [(4, vR q2), (0, vR t), (1, vI a1), (2, vI a2), (3, vI a3)]) (st' := [vR q2, vI a2]) rfl ?_
  refine j_gd (fun h3 => ?_)
  refine j_getI hx flX8_614 kd1619 h3 (by decide) (by decide +kernel) ?_
  refine j_icmp_ge hx (off := 19) (tgt := 41) (by decide +kernel) (by decide) (fun _ => ?_) (fun _ => ?_)
  · refine j_lv (lv' := [(0, vR t), (1, vI a1), (2, vI a2), (3, vI a3)]) ⟨rfl, rfl, rfl, rfl, trivial⟩ ?_
    exact wmo_trace_41 h
  refine j_runA hx 2 (tb := [(25, .iload_n 2), (26, .sipush 200)]) (jtb_ok (by decide +kernel)) (pc' := 29) (lv' := [(4, vR q2), (0, vR t), (1, vI a1), (2, vI a2), (3, vI a3)]) (st' := [vI (kI 200), vI a2]) rfl ?_
  refine j_icmp_ge hx (off := 12) (tgt := 41) (by decide +kernel) (by decide) (fun _ => ?_) (fun _ => ?_)
  · refine j_lv (lv' := [(0, vR t), (1, vI a1), (2, vI a2), (3, vI a3)]) ⟨rfl, rfl, rfl, rfl, trivial⟩ ?_
    exact wmo_trace_41 h
  refine j_runA hx 1 (tb := [(32, .iload_n 3)]) (jtb_ok (by decide +kernel)) (pc' := 33) (lv' := [(4, vR q2), (0, vR t), (1, vI a1), (2, vI a2), (3, vI a3)]) (st' := [vI a3]) rfl ?_
  refine j_if_lt hx (off := 8) (tgt := 41) (by decide +kernel) (by decide) (fun _ => ?_) (fun _ => ?_)
  · refine j_lv (lv' := [(0, vR t), (1, vI a1), (2, vI a2), (3, vI a3)]) ⟨rfl, rfl, rfl, rfl, trivial⟩ ?_
    exact wmo_trace_41 h
  refine j_runA hx 2 (tb := [(36, .iload_n 3), (37, .iconst 3)]) (jtb_ok (by decide +kernel)) (pc' := 38) (lv' := [(4, vR q2), (0, vR t), (1, vI a1), (2, vI a2), (3, vI a3)]) (st' := [vI (kI 3), vI a3]) rfl ?_
  refine j_icmp_le hx (off := 7) (tgt := 45) (by decide +kernel) (by decide) (fun _ => ?_) (fun _ => ?_)
  · refine j_runA hx 1 (tb := [(45, .aload 4)]) (jtb_ok (by decide +kernel)) (pc' := 47) (lv' := [(4, vR q2), (0, vR t), (1, vI a1), (2, vI a2), (3, vI a3)]) (st' := [vR q2]) rfl ?_
    refine j_getR hx flX8_654 kl1621 h3 (by decide) (by decide +kernel) ?_
    refine j_runA hx 5 (tb := [(50, .iconst 4), (51, .iload_n 2), (52, .imul), (53, .iload_n 3), (54, .iadd)]) (jtb_ok (by decide +kernel)) (pc' := 55) (lv' := [(4, vR q2), (0, vR t), (1, vI a1), (2, vI a2), (3, vI a3)]) (st' := [vI (((kI 4) * a2) + a3), vR (jR W 1621 q2)]) rfl ?_
    refine j_gd (fun h4 => ?_)
    refine j_lald hx (f := 1621) (o := q2) kd1621 rfl (by decide +kernel) h4 ?_
    exact j_lret hx hm (by decide +kernel) (he _)
  refine j_lv (lv' := [(0, vR t), (1, vI a1), (2, vI a2), (3, vI a3)]) ⟨rfl, rfl, rfl, rfl, trivial⟩ ?_
  exact wmo_trace_41 h
theorem cmo_trace (t : Nat) (a1 : Int32) (a2 : Int32) (a3 : Int32) (W : jW) : jM yX8_trace cX8_trace 5 (Option.some Jvm.ClassFile.FieldType.long) [] 2 27 [vR t, vI a1, vI a2, vI a3] W ((fmo_trace t a1 a2 a3 W).bind (fun q => some (.returned (some (.long q)), W))) := 
  jM.of (Nat.le_of_ble_eq_true rfl) (fun x hx hm hr => wmo_trace ⟨hx, hm, hr, fun _ => rfl⟩)
def hmo_text (x : jCx) (en : (Int32) → Option (Outcome × jW)) (t : Nat) (a1 : Int32) (a2 : Int32) (W : jW) : Prop :=
  jOK x RX8 cX8_text 4 ∧
  jMt x "text" (Option.some Jvm.ClassFile.FieldType.int) [] ∧
  jRm x 2 27 ∧
  (∀ q : Int32, en q = some (.returned (some (.int q)), W))
theorem wmo_text_29 {x : jCx} {en : (Int32) → Option (Outcome × jW)} {W : jW} {t : Nat} {a1 : Int32} {a2 : Int32} (h : hmo_text x en t a1 a2 W) : jJ x 4 29 [(0, vR t), (1, vI a1), (2, vI a2)] [] W (fmo_text_29 t a1 a2 W) en := by
  have h0 := h
  obtain ⟨hx, hm, hr, he⟩ := h0
  unfold fmo_text_29
  refine j_runA hx 1 (tb := [(29, .iconst (-1))]) (jtb_ok (by decide +kernel)) (pc' := 30) (lv' := [(0, vR t), (1, vI a1), (2, vI a2)]) (st' := [vI (kI (-1))]) rfl ?_
  refine j_goto hx (off := 13) (by decide +kernel) (tgt := 43) (by decide) ?_
  exact j_iret hx hm (by decide +kernel) rfl (he _)
theorem wmo_text {x : jCx} {en : (Int32) → Option (Outcome × jW)} {W : jW} {t : Nat} {a1 : Int32} {a2 : Int32} (h : hmo_text x en t a1 a2 W) : jJ x 4 0 [(0, vR t), (1, vI a1), (2, vI a2)] [] W (fmo_text t a1 a2 W) en := by
  have h0 := h
  obtain ⟨hx, hm, hr, he⟩ := h0
  unfold fmo_text
  refine j_runA hx 2 (tb := [(0, .aload_n 0), (1, .iload_n 1)]) (jtb_ok (by decide +kernel)) (pc' := 2) (lv' := [(0, vR t), (1, vI a1), (2, vI a2)]) (st' := [vI a1, vR t]) rfl ?_
  refine j_gd (fun h1 => ?_)
  refine j_OR (j_callV (av := [vI a1]) (st := []) hx hr (Or.inl q3563) q3565 qs223 rfl md_fmo_known np_fmo_known (cmo_known t a1 W) (by decide) (Nat.le_of_ble_eq_true rfl) h1 (by decide) (by decide +kernel)) (fun q2 _ => ?_)
  refine j_runA hx 2 (tb := [(5, .astore_n 3), (6, .aload_n 3)]) (jtb_ok (by decide +kernel)) (pc' := 7) (lv' := [(3, vR q2), (0, vR t), (1, vI a1), (2, vI a2)]) (st' := [vR q2]) rfl ?_
  refine j_ifnull hx (off := 22) (tgt := 29) (by decide +kernel) (by decide) (fun _ => ?_) (fun _ => ?_)
  · refine j_lv (lv' := [(0, vR t), (1, vI a1), (2, vI a2)]) ⟨rfl, rfl, rfl, trivial⟩ ?_
    exact wmo_text_29 h
  refine j_runA hx 1 (tb := [(10, .iload_n 2)]) (jtb_ok (by decide +kernel)) (pc' := 11) (lv' := [(3, vR q2), (0, vR t), (1, vI a1), (2, vI a2)]) (st' := [vI a2]) rfl ?_
  refine j_if_lt hx (off := 18) (tgt := 29) (by decide +kernel) (by decide) (fun _ => ?_) (fun _ => ?_)
  · refine j_lv (lv' := [(0, vR t), (1, vI a1), (2, vI a2)]) ⟨rfl, rfl, rfl, trivial⟩ ?_
    exact wmo_text_29 h
  refine j_runA hx 2 (tb := [(14, .iload_n 2), (15, .aload_n 3)]) (jtb_ok (by decide +kernel)) (pc' := 16) (lv' := [(3, vR q2), (0, vR t), (1, vI a1), (2, vI a2)]) (st' := [vR q2, vI a2]) rfl ?_
  refine j_gd (fun h3 => ?_)
  refine j_getI hx flX8_617 kd1620 h3 (by decide) (by decide +kernel) ?_
  refine j_icmp_ge hx (off := 10) (tgt := 29) (by decide +kernel) (by decide) (fun _ => ?_) (fun _ => ?_)
  · refine j_lv (lv' := [(0, vR t), (1, vI a1), (2, vI a2)]) ⟨rfl, rfl, rfl, trivial⟩ ?_
    exact wmo_text_29 h
  refine j_runA hx 2 (tb := [(22, .iload_n 2), (23, .sipush 16384)]) (jtb_ok (by decide +kernel)) (pc' := 26) (lv' := [(3, vR q2), (0, vR t), (1, vI a1), (2, vI a2)]) (st' := [vI (kI 16384), vI a2]) rfl ?_
  refine j_icmp_lt hx (off := 7) (tgt := 33) (by decide +kernel) (by decide) (fun _ => ?_) (fun _ => ?_)
  · refine j_runA hx 1 (tb := [(33, .aload_n 3)]) (jtb_ok (by decide +kernel)) (pc' := 34) (lv' := [(3, vR q2), (0, vR t), (1, vI a1), (2, vI a2)]) (st' := [vR q2]) rfl ?_
    refine j_getR hx flX8_657 kl1622 h3 (by decide) (by decide +kernel) ?_
    refine j_runA hx 1 (tb := [(37, .iload_n 2)]) (jtb_ok (by decide +kernel)) (pc' := 38) (lv' := [(3, vR q2), (0, vR t), (1, vI a1), (2, vI a2)]) (st' := [vI a2, vR (jR W 1622 q2)]) rfl ?_
    refine j_gd (fun h4 => ?_)
    refine j_bald hx (f := 1622) (o := q2) kd1622 rfl (by decide +kernel) h4 ?_
    refine j_runA hx 2 (tb := [(39, .sipush 255), (42, .iand)]) (jtb_ok (by decide +kernel)) (pc' := 43) (lv' := [(3, vR q2), (0, vR t), (1, vI a1), (2, vI a2)]) (st' := [vI ((jA W 1622 q2 (ix a2)) &&& (kI 255))]) rfl ?_
    exact j_iret hx hm (by decide +kernel) rfl (he _)
  refine j_lv (lv' := [(0, vR t), (1, vI a1), (2, vI a2)]) ⟨rfl, rfl, rfl, trivial⟩ ?_
  exact wmo_text_29 h
theorem cmo_text (t : Nat) (a1 : Int32) (a2 : Int32) (W : jW) : jM yX8_text cX8_text 4 (Option.some Jvm.ClassFile.FieldType.int) [] 2 27 [vR t, vI a1, vI a2] W ((fmo_text t a1 a2 W).bind (fun q => some (.returned (some (.int q)), W))) := 
  jM.of (Nat.le_of_ble_eq_true rfl) (fun x hx hm hr => wmo_text ⟨hx, hm, hr, fun _ => rfl⟩)
