/-! ===== walks: fwn_putAll fwn_goal fmo_last fmo_fits fmo_bits fmo_isMoved fmo_isLoad fmo_isPair fmo_sort fwn_settle fwn_turned fwn_aimed fwn_jump fmo_signed fmo_far ===== -/
set_option maxRecDepth 100000
def hwn_putAll (x : jCx) (en : (fwn_putAll_S ⊕ (jW)) → Option (Outcome × jW)) (t : Nat) (a1 : Int64) : Prop :=
  jOK x RX10 cX10_putAll 7 ∧
  jMt x "putAll" (Option.none : Option Jvm.ClassFile.FieldType) [] ∧
  jRm x 1 14 ∧
  (∀ q : jW, en (.inr q) = some (.returned none, q)) ∧
  (∀ (l3 : Int32) (l4 : Int32) (W : jW), jJ x 7 5 [(0, vR t), (1, vL a1), (3, vI l3), (4, vI l4)] [] W (some (.inl (l3, l4, W))) en)
theorem wwn_putAll_61 {x : jCx} {en : (fwn_putAll_S ⊕ (jW)) → Option (Outcome × jW)} {t : Nat} {a1 : Int64} (h : hwn_putAll x en t a1) (l3 : Int32) (l4 : Int32) (W : jW) : jJ x 7 61 [(0, vR t), (1, vL a1), (3, vI l3), (4, vI l4)] [] W (fwn_putAll_61 t a1 l3 l4 W) en := by
  have h0 := h
  obtain ⟨hx, hm, hr, he, k5⟩ := h0
  unfold fwn_putAll_61
  refine j_runA hx 1 (tb := [(61, .aload_n 0)]) (jtb_ok (by decide +kernel)) (pc' := 62) (lv' := [(0, vR t), (1, vL a1), (3, vI l3), (4, vI l4)]) (st' := [vR t]) rfl ?_
  refine j_gd (fun h13 => ?_)
  refine j_getR hx flX10_15 kl1503 h13 (by decide) (by decide +kernel) ?_
  refine j_runA hx 1 (tb := [(65, .aload_n 0)]) (jtb_ok (by decide +kernel)) (pc' := 66) (lv' := [(0, vR t), (1, vL a1), (3, vI l3), (4, vI l4)]) (st' := [vR t, vR (jR W 1503 t)]) rfl ?_
  refine j_getR hx flX10_9 kl1501 h13 (by decide) (by decide +kernel) ?_
  refine j_runA hx 1 (tb := [(69, .iload 4)]) (jtb_ok (by decide +kernel)) (pc' := 71) (lv' := [(0, vR t), (1, vL a1), (3, vI l3), (4, vI l4)]) (st' := [vI l4, vR (jR W 1501 t), vR (jR W 1503 t)]) rfl ?_
  refine j_gd (fun h14 => ?_)
  refine j_iald hx (f := 1501) (o := t) kd1501 rfl (by decide +kernel) h14 ?_
  refine j_runA hx 1 (tb := [(72, .iload_n 3)]) (jtb_ok (by decide +kernel)) (pc' := 73) (lv' := [(0, vR t), (1, vL a1), (3, vI l3), (4, vI l4)]) (st' := [vI l3, vI (jA W 1501 t (ix l4)), vR (jR W 1503 t)]) rfl ?_
  refine j_gd (fun h15 => ?_)
  refine j_iast hx (f := 1503) (o := t) kd1503 rfl (by decide +kernel) h15 ?_
  refine j_ltw rfl (fun W16 hc17 => ?_)
  have h18 : jC W16 t = 15 := (congrFun hc17 _).trans h13
  refine j_runA hx 3 (tb := [(74, .iload_n 3), (75, .aload_n 0), (76, .aload_n 0)]) (jtb_ok (by decide +kernel)) (pc' := 77) (lv' := [(0, vR t), (1, vL a1), (3, vI l3), (4, vI l4)]) (st' := [vR t, vR t, vI l3]) rfl ?_
  refine j_getR hx flX10_9 kl1501 h18 (by decide) (by decide +kernel) ?_
  refine j_runA hx 1 (tb := [(80, .iload 4)]) (jtb_ok (by decide +kernel)) (pc' := 82) (lv' := [(0, vR t), (1, vL a1), (3, vI l3), (4, vI l4)]) (st' := [vI l4, vR (jR W16 1501 t), vR t, vI l3]) rfl ?_
  refine j_gd (fun h20 => ?_)
  refine j_iald hx (f := 1501) (o := t) kd1501 rfl (by decide +kernel) h20 ?_
  refine j_OI (j_callV (av := [vI (jA W16 1501 t (ix l4))]) (st := [vI l3]) hx hr (Or.inl q3152) q3153 q3154 rfl md_fwn_length np_fwn_length (cwn_length t (jA W16 1501 t (ix l4)) W16) (by decide) (Nat.le_of_ble_eq_true rfl) h18 (by decide) (by decide +kernel)) (fun q21 _ => ?_)
  refine j_runA hx 2 (tb := [(86, .iadd), (87, .istore_n 3)]) (jtb_ok (by decide +kernel)) (pc' := 88) (lv' := [(3, vI (l3 + q21)), (0, vR t), (1, vL a1), (4, vI l4)]) (st' := []) rfl ?_
  refine j_let (v := (l3 + q21)) (lv := fun v22 => [(3, vI v22), (0, vR t), (1, vL a1), (4, vI l4)]) (st := fun _ => []) (fun v22 => ?_)
  refine j_runA hx 1 (tb := [(88, .iinc 4 1)]) (jtb_ok (by decide +kernel)) (pc' := 91) (lv' := [(4, vI (l4 + (kI 1))), (3, vI v22), (0, vR t), (1, vL a1)]) (st' := []) rfl ?_
  refine j_let (v := (l4 + (kI 1))) (lv := fun v23 => [(4, vI v23), (3, vI v22), (0, vR t), (1, vL a1)]) (st := fun _ => []) (fun v23 => ?_)
  refine j_goto hx (off := -86) (by decide +kernel) (tgt := 5) (by decide) ?_
  refine j_lv (lv' := [(0, vR t), (1, vL a1), (3, vI v22), (4, vI v23)]) ⟨rfl, rfl, rfl, rfl, trivial⟩ ?_
  exact k5 v22 v23 W16
theorem wwn_putAll_5 {x : jCx} {en : (fwn_putAll_S ⊕ (jW)) → Option (Outcome × jW)} {t : Nat} {a1 : Int64} (h : hwn_putAll x en t a1) (l3 : Int32) (l4 : Int32) (W : jW) : jJ x 7 5 [(0, vR t), (1, vL a1), (3, vI l3), (4, vI l4)] [] W (fwn_putAll_5 t a1 l3 l4 W) en := by
  have h0 := h
  obtain ⟨hx, hm, hr, he, k5⟩ := h0
  unfold fwn_putAll_5
  refine j_runA hx 2 (tb := [(5, .iload 4), (7, .aload_n 0)]) (jtb_ok (by decide +kernel)) (pc' := 8) (lv' := [(0, vR t), (1, vL a1), (3, vI l3), (4, vI l4)]) (st' := [vR t, vI l4]) rfl ?_
  refine j_gd (fun h2 => ?_)
  refine j_getR hx flX10_32 kl1500 h2 (by decide) (by decide +kernel) ?_
  refine j_gd (fun h3 => ?_)
  refine j_getI hx flX10_49 kd1312 h3 (by decide) (by decide +kernel) ?_
  refine j_icmp_ge hx (off := 80) (tgt := 94) (by decide +kernel) (by decide) (fun _ => ?_) (fun _ => ?_)
  · refine j_runA hx 2 (tb := [(94, .aload_n 0), (95, .iload_n 3)]) (jtb_ok (by decide +kernel)) (pc' := 96) (lv' := [(0, vR t), (1, vL a1), (3, vI l3), (4, vI l4)]) (st' := [vI l3, vR t]) rfl ?_
    refine j_putI hx fwX10_76 wf1508 kd1508 h2 (by decide) (by decide +kernel) (ni1508 _) (fi1508 _) ?_
    refine j_ltw rfl (fun W4 hc5 => ?_)
    have h6 : jC W4 t = 15 := (congrFun hc5 _).trans h2
    have h7 : jC W4 (jR W 1500 t) = 13 := (congrFun hc5 _).trans h3
    exact j_vret hx hm (by decide +kernel) (he _)
  refine j_runA hx 2 (tb := [(17, .iload 4), (19, .aload_n 0)]) (jtb_ok (by decide +kernel)) (pc' := 20) (lv' := [(0, vR t), (1, vL a1), (3, vI l3), (4, vI l4)]) (st' := [vR t, vI l4]) rfl ?_
  refine j_getI hx flX10_52 kd1502 h2 (by decide) (by decide +kernel) ?_
  refine j_icmp_ne hx (off := 38) (tgt := 61) (by decide +kernel) (by decide) (fun _ => ?_) (fun _ => ?_)
  · exact wwn_putAll_61 h l3 l4 W
  refine j_runA hx 1 (tb := [(26, .aload_n 0)]) (jtb_ok (by decide +kernel)) (pc' := 27) (lv' := [(0, vR t), (1, vL a1), (3, vI l3), (4, vI l4)]) (st' := [vR t]) rfl ?_
  refine j_getR hx flX10_32 kl1500 h2 (by decide) (by decide +kernel) ?_
  refine j_getL hx flX10_67 kd1313 h3 (by decide) (by decide +kernel) ?_
  refine j_ldc2 hx (v := (kJ 4)) (jkd2 q3151 (by decide +kernel)) (by decide +kernel) ?_
  refine j_runA hx 5 (tb := [(36, .iload_n 3), (37, .i2l), (38, .lmul), (39, .ladd), (40, .lstore 5)]) (jtb_ok (by decide +kernel)) (pc' := 42) (lv' := [(5, vL ((jL W 1313 (jR W 1500 t)) + ((kJ 4) * l3.toInt64))), (0, vR t), (1, vL a1), (3, vI l3), (4, vI l4)]) (st' := []) rfl ?_
  refine j_let (v := ((jL W 1313 (jR W 1500 t)) + ((kJ 4) * l3.toInt64))) (lv := fun v9 => [(5, vL v9), (0, vR t), (1, vL a1), (3, vI l3), (4, vI l4)]) (st := fun _ => []) (fun v9 => ?_)
  refine j_runA hx 7 (tb := [(42, .iload_n 3), (43, .lload 5), (45, .lload_n 1), (46, .ladd), (47, .lconst 1), (48, .lsub), (49, .lload_n 1)]) (jtb_ok (by decide +kernel)) (pc' := 50) (lv' := [(5, vL v9), (0, vR t), (1, vL a1), (3, vI l3), (4, vI l4)]) (st' := [vL a1, vL ((v9 + a1) - (kJ 1)), vI l3]) rfl ?_
  refine j_gd (fun h10 => ?_)
  refine j_ldiv hx (by decide +kernel) h10 ?_
  refine j_runA hx 6 (tb := [(51, .lload_n 1), (52, .lmul), (53, .lload 5), (55, .lsub), (56, .l2i), (57, .iconst 4)]) (jtb_ok (by decide +kernel)) (pc' := 58) (lv' := [(5, vL v9), (0, vR t), (1, vL a1), (3, vI l3), (4, vI l4)]) (st' := [vI (kI 4), vI ((((((v9 + a1) - (kJ 1)) / a1) * a1) - v9).toInt32), vI l3]) rfl ?_
  refine j_idiv hx (by decide +kernel) (by decide +kernel) ?_
  refine j_runA hx 2 (tb := [(59, .iadd), (60, .istore_n 3)]) (jtb_ok (by decide +kernel)) (pc' := 61) (lv' := [(3, vI (l3 + (((((((v9 + a1) - (kJ 1)) / a1) * a1) - v9).toInt32) / (kI 4)))), (5, vL v9), (0, vR t), (1, vL a1), (4, vI l4)]) (st' := []) rfl ?_
  refine j_let (v := (l3 + (((((((v9 + a1) - (kJ 1)) / a1) * a1) - v9).toInt32) / (kI 4)))) (lv := fun v11 => [(3, vI v11), (5, vL v9), (0, vR t), (1, vL a1), (4, vI l4)]) (st := fun _ => []) (fun v11 => ?_)
  refine j_lv (lv' := [(0, vR t), (1, vL a1), (3, vI v11), (4, vI l4)]) ⟨rfl, rfl, rfl, rfl, trivial⟩ ?_
  exact wwn_putAll_61 h v11 l4 W
theorem wwn_putAll {x : jCx} {en : (fwn_putAll_S ⊕ (jW)) → Option (Outcome × jW)} {t : Nat} {a1 : Int64} (h : hwn_putAll x en t a1) (W : jW) : jJ x 7 0 [(0, vR t), (1, vL a1)] [] W (fwn_putAll_0 t a1 W) en := by
  have h0 := h
  obtain ⟨hx, hm, hr, he, k5⟩ := h0
  unfold fwn_putAll_0
  refine j_runA hx 4 (tb := [(0, .iconst 0), (1, .istore_n 3), (2, .iconst 0), (3, .istore 4)]) (jtb_ok (by decide +kernel)) (pc' := 5) (lv' := [(4, vI (kI 0)), (3, vI (kI 0)), (0, vR t), (1, vL a1)]) (st' := []) rfl ?_
  refine j_lv (lv' := [(0, vR t), (1, vL a1), (3, vI (kI 0)), (4, vI (kI 0))]) ⟨rfl, rfl, rfl, rfl, trivial⟩ ?_
  exact k5 (kI 0) (kI 0) W
theorem cwn_putAll (t : Nat) (a1 : Int64) (W : jW) : jM yX10_putAll cX10_putAll 7 (Option.none : Option Jvm.ClassFile.FieldType) [] 1 14 [vR t, vL a1] W ((fwn_putAll t a1 W).bind (fun q => some (.returned none, q))) := by
  refine jM.of (Nat.le_of_ble_eq_true rfl) (fun x hx hm hr => ?_)
  refine j_begin (P := (fun s => (5, [(0, vR t), (1, vL a1), (3, vI s.1), (4, vI s.2.1)], s.2.2))) (fun en he hk => ?_)
  have h : hwn_putAll x en t a1 := ⟨hx, hm, hr, fun q => he _, fun l3 l4 W => hk (l3, l4, W)⟩
  exact ⟨fun s => wwn_putAll_5 h s.1 s.2.1 s.2.2, wwn_putAll h W⟩
def hwn_goal (x : jCx) (en : (Int32) → Option (Outcome × jW)) (t : Nat) (a1 : Int32) (W : jW) : Prop :=
  jOK x RX10 cX10_goal 2 ∧
  jMt x "goal" (Option.some Jvm.ClassFile.FieldType.int) [] ∧
  jRm x 0 0 ∧
  (∀ q : Int32, en q = some (.returned (some (.int q)), W))
theorem wwn_goal {x : jCx} {en : (Int32) → Option (Outcome × jW)} {W : jW} {t : Nat} {a1 : Int32} (h : hwn_goal x en t a1 W) : jJ x 2 0 [(0, vR t), (1, vI a1)] [] W (fwn_goal t a1 W) en := by
  have h0 := h
  obtain ⟨hx, hm, hr, he⟩ := h0
  unfold fwn_goal
  refine j_runA hx 1 (tb := [(0, .aload_n 0)]) (jtb_ok (by decide +kernel)) (pc' := 1) (lv' := [(0, vR t), (1, vI a1)]) (st' := [vR t]) rfl ?_
  refine j_gd (fun h1 => ?_)
  refine j_getR hx flX10_18 kl1504 h1 (by decide) (by decide +kernel) ?_
  refine j_runA hx 1 (tb := [(4, .iload_n 1)]) (jtb_ok (by decide +kernel)) (pc' := 5) (lv' := [(0, vR t), (1, vI a1)]) (st' := [vI a1, vR (jR W 1504 t)]) rfl ?_
  refine j_gd (fun h2 => ?_)
  refine j_bald hx (f := 1504) (o := t) kd1504 rfl (by decide +kernel) h2 ?_
  refine j_runA hx 1 (tb := [(6, .iconst 2)]) (jtb_ok (by decide +kernel)) (pc' := 7) (lv' := [(0, vR t), (1, vI a1)]) (st' := [vI (kI 2), vI (jA W 1504 t (ix a1))]) rfl ?_
  refine j_icmp_ne hx (off := 9) (tgt := 16) (by decide +kernel) (by decide) (fun _ => ?_) (fun _ => ?_)
  · refine j_runA hx 1 (tb := [(16, .aload_n 0)]) (jtb_ok (by decide +kernel)) (pc' := 17) (lv' := [(0, vR t), (1, vI a1)]) (st' := [vR t]) rfl ?_
    refine j_getR hx flX10_32 kl1500 h1 (by decide) (by decide +kernel) ?_
    refine j_gd (fun h3 => ?_)
    refine j_getR hx flX10_61 kl1326 h3 (by decide) (by decide +kernel) ?_
    refine j_runA hx 1 (tb := [(23, .iload_n 1)]) (jtb_ok (by decide +kernel)) (pc' := 24) (lv' := [(0, vR t), (1, vI a1)]) (st' := [vI a1, vR (jR W 1326 (jR W 1500 t))]) rfl ?_
    refine j_gd (fun h4 => ?_)
    refine j_iald hx (f := 1326) (o := (jR W 1500 t)) kd1326 rfl (by decide +kernel) h4 ?_
    exact j_iret hx hm (by decide +kernel) rfl (he _)
  refine j_runA hx 3 (tb := [(10, .iload_n 1), (11, .iconst 1), (12, .iadd)]) (jtb_ok (by decide +kernel)) (pc' := 13) (lv' := [(0, vR t), (1, vI a1)]) (st' := [vI (a1 + (kI 1))]) rfl ?_
  refine j_goto hx (off := 12) (by decide +kernel) (tgt := 25) (by decide) ?_
  exact j_iret hx hm (by decide +kernel) rfl (he _)
theorem cwn_goal (t : Nat) (a1 : Int32) (W : jW) : jM yX10_goal cX10_goal 2 (Option.some Jvm.ClassFile.FieldType.int) [] 0 0 [vR t, vI a1] W ((fwn_goal t a1 W).bind (fun q => some (.returned (some (.int q)), W))) := 
  jM.of (Nat.le_of_ble_eq_true rfl) (fun x hx hm hr => wwn_goal ⟨hx, hm, hr, fun _ => rfl⟩)
def hmo_last (x : jCx) (en : (Int32) → Option (Outcome × jW)) (t : Nat) (a1 : Int32) (W : jW) : Prop :=
  jOK x RX8 cX8_last 2 ∧
  jMt x "last" (Option.some Jvm.ClassFile.FieldType.int) [] ∧
  jRm x 0 0 ∧
  (∀ q : Int32, en q = some (.returned (some (.int q)), W))
theorem wmo_last {x : jCx} {en : (Int32) → Option (Outcome × jW)} {W : jW} {t : Nat} {a1 : Int32} (h : hmo_last x en t a1 W) : jJ x 2 0 [(0, vR t), (1, vI a1)] [] W (fmo_last t a1 W) en := by
  have h0 := h
  obtain ⟨hx, hm, hr, he⟩ := h0
  unfold fmo_last
  refine j_runA hx 1 (tb := [(0, .aload_n 0)]) (jtb_ok (by decide +kernel)) (pc' := 1) (lv' := [(0, vR t), (1, vI a1)]) (st' := [vR t]) rfl ?_
  refine j_gd (fun h1 => ?_)
  refine j_getR hx flX8_59 kl1322 h1 (by decide) (by decide +kernel) ?_
  refine j_runA hx 1 (tb := [(4, .iload_n 1)]) (jtb_ok (by decide +kernel)) (pc' := 5) (lv' := [(0, vR t), (1, vI a1)]) (st' := [vI a1, vR (jR W 1322 t)]) rfl ?_
  refine j_gd (fun h2 => ?_)
  refine j_iald hx (f := 1322) (o := t) kd1322 rfl (by decide +kernel) h2 ?_
  refine j_runA hx 1 (tb := [(6, .aload_n 0)]) (jtb_ok (by decide +kernel)) (pc' := 7) (lv' := [(0, vR t), (1, vI a1)]) (st' := [vR t, vI (jA W 1322 t (ix a1))]) rfl ?_
  refine j_getR hx flX8_62 kl1323 h1 (by decide) (by decide +kernel) ?_
  refine j_runA hx 1 (tb := [(10, .iload_n 1)]) (jtb_ok (by decide +kernel)) (pc' := 11) (lv' := [(0, vR t), (1, vI a1)]) (st' := [vI a1, vR (jR W 1323 t), vI (jA W 1322 t (ix a1))]) rfl ?_
  refine j_gd (fun h3 => ?_)
  refine j_iald hx (f := 1323) (o := t) kd1323 rfl (by decide +kernel) h3 ?_
  refine j_runA hx 3 (tb := [(12, .iadd), (13, .iconst 1), (14, .isub)]) (jtb_ok (by decide +kernel)) (pc' := 15) (lv' := [(0, vR t), (1, vI a1)]) (st' := [vI (((jA W 1322 t (ix a1)) + (jA W 1323 t (ix a1))) - (kI 1))]) rfl ?_
  exact j_iret hx hm (by decide +kernel) rfl (he _)
theorem cmo_last (t : Nat) (a1 : Int32) (W : jW) : jM yX8_last cX8_last 2 (Option.some Jvm.ClassFile.FieldType.int) [] 0 0 [vR t, vI a1] W ((fmo_last t a1 W).bind (fun q => some (.returned (some (.int q)), W))) := 
  jM.of (Nat.le_of_ble_eq_true rfl) (fun x hx hm hr => wmo_last ⟨hx, hm, hr, fun _ => rfl⟩)
def hmo_fits (x : jCx) (en : (Int32) → Option (Outcome × jW)) (a0 : Int32) (a1 : Int32) (a2 : Int32) (W : jW) : Prop :=
  jOK x RX8 cX8_fits 3 ∧
  jMt x "fits" (Option.some Jvm.ClassFile.FieldType.boolean) [] ∧
  jRm x 0 0 ∧
  (∀ q : Int32, en q = some (.returned (some (.int q)), W))
theorem wmo_fits {x : jCx} {en : (Int32) → Option (Outcome × jW)} {W : jW} {a0 : Int32} {a1 : Int32} {a2 : Int32} (h : hmo_fits x en a0 a1 a2 W) : jJ x 3 0 [(0, vI a0), (1, vI a1), (2, vI a2)] [] W (some (fmo_fits a0 a1 a2)) en := by
  have h0 := h
  obtain ⟨hx, hm, hr, he⟩ := h0
  unfold fmo_fits
  refine j_runA hx 4 (tb := [(0, .iload_n 0), (1, .iload_n 1), (2, .iand), (3, .iload_n 2)]) (jtb_ok (by decide +kernel)) (pc' := 4) (lv' := [(0, vI a0), (1, vI a1), (2, vI a2)]) (st' := [vI a2, vI (a0 &&& a1)]) rfl ?_
  refine j_tot (j_icmp_ne hx (off := 7) (tgt := 11) (by decide +kernel) (by decide) (fun _ => ?_) (fun _ => ?_))
  · refine j_runA hx 1 (tb := [(11, .iconst 0)]) (jtb_ok (by decide +kernel)) (pc' := 12) (lv' := [(0, vI a0), (1, vI a1), (2, vI a2)]) (st' := [vI (kI 0)]) rfl ?_
    exact j_iret hx hm (by decide +kernel) jz0n (he _)
  refine j_runA hx 1 (tb := [(7, .iconst 1)]) (jtb_ok (by decide +kernel)) (pc' := 8) (lv' := [(0, vI a0), (1, vI a1), (2, vI a2)]) (st' := [vI (kI 1)]) rfl ?_
  refine j_goto hx (off := 4) (by decide +kernel) (tgt := 12) (by decide) ?_
  exact j_iret hx hm (by decide +kernel) jz1n (he _)
theorem cmo_fits (a0 : Int32) (a1 : Int32) (a2 : Int32) (W : jW) : jM yX8_fits cX8_fits 3 (Option.some Jvm.ClassFile.FieldType.boolean) [] 0 0 [vI a0, vI a1, vI a2] W (some (.returned (some (.int (fmo_fits a0 a1 a2))), W)) := 
  jM.of (mm := some (fmo_fits a0 a1 a2)) (en := fun q => some (.returned (some (.int q)), W)) (Nat.le_of_ble_eq_true rfl) (fun x hx hm hr => wmo_fits ⟨hx, hm, hr, fun _ => rfl⟩)
def hmo_bits (x : jCx) (en : (Int32) → Option (Outcome × jW)) (a0 : Int32) (a1 : Int32) (a2 : Int32) (W : jW) : Prop :=
  jOK x RX8 cX8_bits 3 ∧
  jMt x "bits" (Option.some Jvm.ClassFile.FieldType.int) [] ∧
  jRm x 0 0 ∧
  (∀ q : Int32, en q = some (.returned (some (.int q)), W))
theorem wmo_bits {x : jCx} {en : (Int32) → Option (Outcome × jW)} {W : jW} {a0 : Int32} {a1 : Int32} {a2 : Int32} (h : hmo_bits x en a0 a1 a2 W) : jJ x 3 0 [(0, vI a0), (1, vI a1), (2, vI a2)] [] W (some (fmo_bits a0 a1 a2)) en := by
  have h0 := h
  obtain ⟨hx, hm, hr, he⟩ := h0
  unfold fmo_bits
  refine j_runA hx 9 (tb := [(0, .iload_n 0), (1, .iload_n 1), (2, .iushr), (3, .iconst 1), (4, .iload_n 2), (5, .ishl), (6, .iconst 1), (7, .isub), (8, .iand)]) (jtb_ok (by decide +kernel)) (pc' := 9) (lv' := [(0, vI a0), (1, vI a1), (2, vI a2)]) (st' := [vI ((ixu a0 a1) &&& ((ixl (kI 1) a2) - (kI 1)))]) rfl ?_
  exact j_iret hx hm (by decide +kernel) rfl (he _)
theorem cmo_bits (a0 : Int32) (a1 : Int32) (a2 : Int32) (W : jW) : jM yX8_bits cX8_bits 3 (Option.some Jvm.ClassFile.FieldType.int) [] 0 0 [vI a0, vI a1, vI a2] W (some (.returned (some (.int (fmo_bits a0 a1 a2))), W)) := 
  jM.of (mm := some (fmo_bits a0 a1 a2)) (en := fun q => some (.returned (some (.int q)), W)) (Nat.le_of_ble_eq_true rfl) (fun x hx hm hr => wmo_bits ⟨hx, hm, hr, fun _ => rfl⟩)
def hmo_isMoved (x : jCx) (en : (Int32) → Option (Outcome × jW)) (a0 : Int32) (W : jW) : Prop :=
  jOK x RX8 cX8_isMoved 1 ∧
  jMt x "isMoved" (Option.some Jvm.ClassFile.FieldType.boolean) [] ∧
  jRm x 1 14 ∧
  (∀ q : Int32, en q = some (.returned (some (.int q)), W))
theorem wmo_isMoved_17 {x : jCx} {en : (Int32) → Option (Outcome × jW)} {W : jW} {a0 : Int32} (h : hmo_isMoved x en a0 W) : jJ x 1 17 [(0, vI a0)] [] W (some (fmo_isMoved_17 a0)) en := by
  have h0 := h
  obtain ⟨hx, hm, hr, he⟩ := h0
  unfold fmo_isMoved_17
  refine j_runA hx 1 (tb := [(17, .iconst 1)]) (jtb_ok (by decide +kernel)) (pc' := 18) (lv' := [(0, vI a0)]) (st' := [vI (kI 1)]) rfl ?_
  refine j_goto hx (off := 4) (by decide +kernel) (tgt := 22) (by decide) ?_
  exact j_iret hx hm (by decide +kernel) jz1n (he _)
theorem wmo_isMoved {x : jCx} {en : (Int32) → Option (Outcome × jW)} {W : jW} {a0 : Int32} (h : hmo_isMoved x en a0 W) : jJ x 1 0 [(0, vI a0)] [] W (some (fmo_isMoved a0)) en := by
  have h0 := h
  obtain ⟨hx, hm, hr, he⟩ := h0
  unfold fmo_isMoved
  refine j_runA hx 1 (tb := [(0, .iload_n 0)]) (jtb_ok (by decide +kernel)) (pc' := 1) (lv' := [(0, vI a0)]) (st' := [vI a0]) rfl ?_
  refine j_tot (j_if_lt hx (off := 16) (tgt := 17) (by decide +kernel) (by decide) (fun _ => ?_) (fun _ => ?_))
  · exact wmo_isMoved_17 h
  refine j_runA hx 3 (tb := [(4, .iload_n 0), (5, .bipush 10), (7, .bipush 6)]) (jtb_ok (by decide +kernel)) (pc' := 9) (lv' := [(0, vI a0)]) (st' := [vI (kI 6), vI (kI 10), vI a0]) rfl ?_
  refine j_TI (j_callS (av := [vI a0, vI (kI 10), vI (kI 6)]) (st := []) hx hr (Or.inl q2963) q2964 q241 md_fmo_bits np_fmo_bits (cmo_bits a0 (kI 10) (kI 6) W) (by decide) (Nat.le_of_ble_eq_true rfl) (by decide +kernel)) ?_
  refine j_runA hx 1 (tb := [(12, .bipush 32)]) (jtb_ok (by decide +kernel)) (pc' := 14) (lv' := [(0, vI a0)]) (st' := [vI (kI 32), vI (fmo_bits a0 (kI 10) (kI 6))]) rfl ?_
  refine j_tot (j_icmp_ge hx (off := 7) (tgt := 21) (by decide +kernel) (by decide) (fun _ => ?_) (fun _ => ?_))
  · refine j_runA hx 1 (tb := [(21, .iconst 0)]) (jtb_ok (by decide +kernel)) (pc' := 22) (lv' := [(0, vI a0)]) (st' := [vI (kI 0)]) rfl ?_
    exact j_iret hx hm (by decide +kernel) jz0n (he _)
  exact wmo_isMoved_17 h
theorem cmo_isMoved (a0 : Int32) (W : jW) : jM yX8_isMoved cX8_isMoved 1 (Option.some Jvm.ClassFile.FieldType.boolean) [] 1 14 [vI a0] W (some (.returned (some (.int (fmo_isMoved a0))), W)) := 
  jM.of (mm := some (fmo_isMoved a0)) (en := fun q => some (.returned (some (.int q)), W)) (Nat.le_of_ble_eq_true rfl) (fun x hx hm hr => wmo_isMoved ⟨hx, hm, hr, fun _ => rfl⟩)
def hmo_isLoad (x : jCx) (en : (Int32) → Option (Outcome × jW)) (a0 : Int32) (W : jW) : Prop :=
  jOK x RX8 cX8_isLoad 3 ∧
  jMt x "isLoad" (Option.some Jvm.ClassFile.FieldType.boolean) [] ∧
  jRm x 1 14 ∧
  (∀ q : Int32, en q = some (.returned (some (.int q)), W))
theorem wmo_isLoad_36 {x : jCx} {en : (Int32) → Option (Outcome × jW)} {W : jW} {a0 : Int32} (h : hmo_isLoad x en a0 W) : jJ x 3 36 [(0, vI a0)] [] W (some (fmo_isLoad_36 a0)) en := by
  have h0 := h
  obtain ⟨hx, hm, hr, he⟩ := h0
  unfold fmo_isLoad_36
  refine j_runA hx 1 (tb := [(36, .iconst 1)]) (jtb_ok (by decide +kernel)) (pc' := 37) (lv' := [(0, vI a0)]) (st' := [vI (kI 1)]) rfl ?_
  refine j_goto hx (off := 4) (by decide +kernel) (tgt := 41) (by decide) ?_
  exact j_iret hx hm (by decide +kernel) jz1n (he _)
theorem wmo_isLoad_40 {x : jCx} {en : (Int32) → Option (Outcome × jW)} {W : jW} {a0 : Int32} (h : hmo_isLoad x en a0 W) : jJ x 3 40 [(0, vI a0)] [] W (some (fmo_isLoad_40 a0)) en := by
  have h0 := h
  obtain ⟨hx, hm, hr, he⟩ := h0
  unfold fmo_isLoad_40
  refine j_runA hx 1 (tb := [(40, .iconst 0)]) (jtb_ok (by decide +kernel)) (pc' := 41) (lv' := [(0, vI a0)]) (st' := [vI (kI 0)]) rfl ?_
  exact j_iret hx hm (by decide +kernel) jz0n (he _)
theorem wmo_isLoad {x : jCx} {en : (Int32) → Option (Outcome × jW)} {W : jW} {a0 : Int32} (h : hmo_isLoad x en a0 W) : jJ x 3 0 [(0, vI a0)] [] W (some (fmo_isLoad a0)) en := by
  have h0 := h
  obtain ⟨hx, hm, hr, he⟩ := h0
  unfold fmo_isLoad
  refine j_runA hx 3 (tb := [(0, .iload_n 0), (1, .bipush 30), (3, .iconst 2)]) (jtb_ok (by decide +kernel)) (pc' := 4) (lv' := [(0, vI a0)]) (st' := [vI (kI 2), vI (kI 30), vI a0]) rfl ?_
  refine j_TI (j_callS (av := [vI a0, vI (kI 30), vI (kI 2)]) (st := []) hx hr (Or.inl q2963) q2964 q241 md_fmo_bits np_fmo_bits (cmo_bits a0 (kI 30) (kI 2) W) (by decide) (Nat.le_of_ble_eq_true rfl) (by decide +kernel)) ?_
  refine j_runA hx 1 (tb := [(7, .istore_n 1)]) (jtb_ok (by decide +kernel)) (pc' := 8) (lv' := [(1, vI (fmo_bits a0 (kI 30) (kI 2))), (0, vI a0)]) (st' := []) rfl ?_
  refine j_letT (v := (fmo_bits a0 (kI 30) (kI 2))) (lv := fun v1 => [(1, vI v1), (0, vI a0)]) (st := fun _ => []) (fun v1 => ?_)
  refine j_runA hx 3 (tb := [(8, .iload_n 0), (9, .bipush 22), (11, .iconst 2)]) (jtb_ok (by decide +kernel)) (pc' := 12) (lv' := [(1, vI v1), (0, vI a0)]) (st' := [vI (kI 2), vI (kI 22), vI a0]) rfl ?_
  refine j_TI (j_callS (av := [vI a0, vI (kI 22), vI (kI 2)]) (st := []) hx hr (Or.inl q2963) q2964 q241 md_fmo_bits np_fmo_bits (cmo_bits a0 (kI 22) (kI 2) W) (by decide) (Nat.le_of_ble_eq_true rfl) (by decide +kernel)) ?_
  refine j_runA hx 1 (tb := [(15, .istore_n 2)]) (jtb_ok (by decide +kernel)) (pc' := 16) (lv' := [(2, vI (fmo_bits a0 (kI 22) (kI 2))), (1, vI v1), (0, vI a0)]) (st' := []) rfl ?_
  refine j_letT (v := (fmo_bits a0 (kI 22) (kI 2))) (lv := fun v2 => [(2, vI v2), (1, vI v1), (0, vI a0)]) (st := fun _ => []) (fun v2 => ?_)
  refine j_runA hx 2 (tb := [(16, .iload_n 1), (17, .iconst 1)]) (jtb_ok (by decide +kernel)) (pc' := 18) (lv' := [(2, vI v2), (1, vI v1), (0, vI a0)]) (st' := [vI (kI 1), vI v1]) rfl ?_
  refine j_tot (j_icmp_eq hx (off := 22) (tgt := 40) (by decide +kernel) (by decide) (fun _ => ?_) (fun _ => ?_))
  · refine j_lv (lv' := [(0, vI a0)]) ⟨rfl, trivial⟩ ?_
    exact wmo_isLoad_40 h
  refine j_runA hx 2 (tb := [(21, .iload_n 2), (22, .iconst 2)]) (jtb_ok (by decide +kernel)) (pc' := 23) (lv' := [(2, vI v2), (1, vI v1), (0, vI a0)]) (st' := [vI (kI 2), vI v2]) rfl ?_
  refine j_tot (j_icmp_lt hx (off := 13) (tgt := 36) (by decide +kernel) (by decide) (fun _ => ?_) (fun _ => ?_))
  · refine j_lv (lv' := [(0, vI a0)]) ⟨rfl, trivial⟩ ?_
    exact wmo_isLoad_36 h
  refine j_runA hx 2 (tb := [(26, .iload_n 2), (27, .iconst 2)]) (jtb_ok (by decide +kernel)) (pc' := 28) (lv' := [(2, vI v2), (1, vI v1), (0, vI a0)]) (st' := [vI (kI 2), vI v2]) rfl ?_
  refine j_tot (j_icmp_ne hx (off := 12) (tgt := 40) (by decide +kernel) (by decide) (fun _ => ?_) (fun _ => ?_))
  · refine j_lv (lv' := [(0, vI a0)]) ⟨rfl, trivial⟩ ?_
    exact wmo_isLoad_40 h
  refine j_runA hx 2 (tb := [(31, .iload_n 1), (32, .iconst 2)]) (jtb_ok (by decide +kernel)) (pc' := 33) (lv' := [(2, vI v2), (1, vI v1), (0, vI a0)]) (st' := [vI (kI 2), vI v1]) rfl ?_
  refine j_tot (j_icmp_ne hx (off := 7) (tgt := 40) (by decide +kernel) (by decide) (fun _ => ?_) (fun _ => ?_))
  · refine j_lv (lv' := [(0, vI a0)]) ⟨rfl, trivial⟩ ?_
    exact wmo_isLoad_40 h
  refine j_lv (lv' := [(0, vI a0)]) ⟨rfl, trivial⟩ ?_
  exact wmo_isLoad_36 h
theorem cmo_isLoad (a0 : Int32) (W : jW) : jM yX8_isLoad cX8_isLoad 3 (Option.some Jvm.ClassFile.FieldType.boolean) [] 1 14 [vI a0] W (some (.returned (some (.int (fmo_isLoad a0))), W)) := 
  jM.of (mm := some (fmo_isLoad a0)) (en := fun q => some (.returned (some (.int q)), W)) (Nat.le_of_ble_eq_true rfl) (fun x hx hm hr => wmo_isLoad ⟨hx, hm, hr, fun _ => rfl⟩)
def hmo_isPair (x : jCx) (en : (Int32) → Option (Outcome × jW)) (a0 : Int32) (W : jW) : Prop :=
  jOK x RX8 cX8_isPair 5 ∧
  jMt x "isPair" (Option.some Jvm.ClassFile.FieldType.boolean) [] ∧
  jRm x 1 14 ∧
  (∀ q : Int32, en q = some (.returned (some (.int q)), W))
theorem wmo_isPair_52 {x : jCx} {en : (Int32) → Option (Outcome × jW)} {W : jW} {a0 : Int32} (h : hmo_isPair x en a0 W) : jJ x 5 52 [(0, vI a0)] [] W (some (fmo_isPair_52 a0)) en := by
  have h0 := h
  obtain ⟨hx, hm, hr, he⟩ := h0
  unfold fmo_isPair_52
  refine j_runA hx 1 (tb := [(52, .iconst 0)]) (jtb_ok (by decide +kernel)) (pc' := 53) (lv' := [(0, vI a0)]) (st' := [vI (kI 0)]) rfl ?_
  exact j_iret hx hm (by decide +kernel) jz0n (he _)
theorem wmo_isPair_76 {x : jCx} {en : (Int32) → Option (Outcome × jW)} {W : jW} {a0 : Int32} (h : hmo_isPair x en a0 W) : jJ x 5 76 [(0, vI a0)] [] W (some (fmo_isPair_76 a0)) en := by
  have h0 := h
  obtain ⟨hx, hm, hr, he⟩ := h0
  unfold fmo_isPair_76
  refine j_runA hx 1 (tb := [(76, .iconst 1)]) (jtb_ok (by decide +kernel)) (pc' := 77) (lv' := [(0, vI a0)]) (st' := [vI (kI 1)]) rfl ?_
  refine j_goto hx (off := 4) (by decide +kernel) (tgt := 81) (by decide) ?_
  exact j_iret hx hm (by decide +kernel) jz1n (he _)
theorem wmo_isPair_80 {x : jCx} {en : (Int32) → Option (Outcome × jW)} {W : jW} {a0 : Int32} (h : hmo_isPair x en a0 W) : jJ x 5 80 [(0, vI a0)] [] W (some (fmo_isPair_80 a0)) en := by
  have h0 := h
  obtain ⟨hx, hm, hr, he⟩ := h0
  unfold fmo_isPair_80
  refine j_runA hx 1 (tb := [(80, .iconst 0)]) (jtb_ok (by decide +kernel)) (pc' := 81) (lv' := [(0, vI a0)]) (st' := [vI (kI 0)]) rfl ?_
  exact j_iret hx hm (by decide +kernel) jz0n (he _)
theorem wmo_isPair_54 {x : jCx} {en : (Int32) → Option (Outcome × jW)} {W : jW} {a0 : Int32} (h : hmo_isPair x en a0 W) (l1 : Int32) (l2 : Int32) (l3 : Int32) (l4 : Int32) : jJ x 5 54 [(0, vI a0), (1, vI l1), (2, vI l2), (3, vI l3), (4, vI l4)] [] W (some (fmo_isPair_54 a0 l1 l2 l3 l4)) en := by
  have h0 := h
  obtain ⟨hx, hm, hr, he⟩ := h0
  unfold fmo_isPair_54
  refine j_runA hx 2 (tb := [(54, .iload_n 1), (55, .iconst 2)]) (jtb_ok (by decide +kernel)) (pc' := 56) (lv' := [(0, vI a0), (1, vI l1), (2, vI l2), (3, vI l3), (4, vI l4)]) (st' := [vI (kI 2), vI l1]) rfl ?_
  refine j_tot (j_icmp_eq hx (off := 20) (tgt := 76) (by decide +kernel) (by decide) (fun _ => ?_) (fun _ => ?_))
  · refine j_lv (lv' := [(0, vI a0)]) ⟨rfl, trivial⟩ ?_
    exact wmo_isPair_76 h
  refine j_runA hx 2 (tb := [(59, .iload_n 3), (60, .bipush 31)]) (jtb_ok (by decide +kernel)) (pc' := 62) (lv' := [(0, vI a0), (1, vI l1), (2, vI l2), (3, vI l3), (4, vI l4)]) (st' := [vI (kI 31), vI l3]) rfl ?_
  refine j_tot (j_icmp_eq hx (off := 14) (tgt := 76) (by decide +kernel) (by decide) (fun _ => ?_) (fun _ => ?_))
  · refine j_lv (lv' := [(0, vI a0)]) ⟨rfl, trivial⟩ ?_
    exact wmo_isPair_76 h
  refine j_runA hx 2 (tb := [(65, .iload_n 3), (66, .iload_n 2)]) (jtb_ok (by decide +kernel)) (pc' := 67) (lv' := [(0, vI a0), (1, vI l1), (2, vI l2), (3, vI l3), (4, vI l4)]) (st' := [vI l2, vI l3]) rfl ?_
  refine j_tot (j_icmp_eq hx (off := 13) (tgt := 80) (by decide +kernel) (by decide) (fun _ => ?_) (fun _ => ?_))
  · refine j_lv (lv' := [(0, vI a0)]) ⟨rfl, trivial⟩ ?_
    exact wmo_isPair_80 h
  refine j_runA hx 2 (tb := [(70, .iload_n 3), (71, .iload 4)]) (jtb_ok (by decide +kernel)) (pc' := 73) (lv' := [(0, vI a0), (1, vI l1), (2, vI l2), (3, vI l3), (4, vI l4)]) (st' := [vI l4, vI l3]) rfl ?_
  refine j_tot (j_icmp_eq hx (off := 7) (tgt := 80) (by decide +kernel) (by decide) (fun _ => ?_) (fun _ => ?_))
  · refine j_lv (lv' := [(0, vI a0)]) ⟨rfl, trivial⟩ ?_
    exact wmo_isPair_80 h
  refine j_lv (lv' := [(0, vI a0)]) ⟨rfl, trivial⟩ ?_
  exact wmo_isPair_76 h
theorem wmo_isPair {x : jCx} {en : (Int32) → Option (Outcome × jW)} {W : jW} {a0 : Int32} (h : hmo_isPair x en a0 W) : jJ x 5 0 [(0, vI a0)] [] W (some (fmo_isPair a0)) en := by
  have h0 := h
  obtain ⟨hx, hm, hr, he⟩ := h0
  unfold fmo_isPair
  refine j_runA hx 3 (tb := [(0, .iload_n 0), (1, .bipush 23), (3, .iconst 2)]) (jtb_ok (by decide +kernel)) (pc' := 4) (lv' := [(0, vI a0)]) (st' := [vI (kI 2), vI (kI 23), vI a0]) rfl ?_
  refine j_TI (j_callS (av := [vI a0, vI (kI 23), vI (kI 2)]) (st := []) hx hr (Or.inl q2963) q2964 q241 md_fmo_bits np_fmo_bits (cmo_bits a0 (kI 23) (kI 2) W) (by decide) (Nat.le_of_ble_eq_true rfl) (by decide +kernel)) ?_
  refine j_runA hx 1 (tb := [(7, .istore_n 1)]) (jtb_ok (by decide +kernel)) (pc' := 8) (lv' := [(1, vI (fmo_bits a0 (kI 23) (kI 2))), (0, vI a0)]) (st' := []) rfl ?_
  refine j_letT (v := (fmo_bits a0 (kI 23) (kI 2))) (lv := fun v1 => [(1, vI v1), (0, vI a0)]) (st := fun _ => []) (fun v1 => ?_)
  refine j_runA hx 3 (tb := [(8, .iload_n 0), (9, .iconst 0), (10, .iconst 5)]) (jtb_ok (by decide +kernel)) (pc' := 11) (lv' := [(1, vI v1), (0, vI a0)]) (st' := [vI (kI 5), vI (kI 0), vI a0]) rfl ?_
  refine j_TI (j_callS (av := [vI a0, vI (kI 0), vI (kI 5)]) (st := []) hx hr (Or.inl q2963) q2964 q241 md_fmo_bits np_fmo_bits (cmo_bits a0 (kI 0) (kI 5) W) (by decide) (Nat.le_of_ble_eq_true rfl) (by decide +kernel)) ?_
  refine j_runA hx 1 (tb := [(14, .istore_n 2)]) (jtb_ok (by decide +kernel)) (pc' := 15) (lv' := [(2, vI (fmo_bits a0 (kI 0) (kI 5))), (1, vI v1), (0, vI a0)]) (st' := []) rfl ?_
  refine j_letT (v := (fmo_bits a0 (kI 0) (kI 5))) (lv := fun v2 => [(2, vI v2), (1, vI v1), (0, vI a0)]) (st := fun _ => []) (fun v2 => ?_)
  refine j_runA hx 3 (tb := [(15, .iload_n 0), (16, .iconst 5), (17, .iconst 5)]) (jtb_ok (by decide +kernel)) (pc' := 18) (lv' := [(2, vI v2), (1, vI v1), (0, vI a0)]) (st' := [vI (kI 5), vI (kI 5), vI a0]) rfl ?_
  refine j_TI (j_callS (av := [vI a0, vI (kI 5), vI (kI 5)]) (st := []) hx hr (Or.inl q2963) q2964 q241 md_fmo_bits np_fmo_bits (cmo_bits a0 (kI 5) (kI 5) W) (by decide) (Nat.le_of_ble_eq_true rfl) (by decide +kernel)) ?_
  refine j_runA hx 1 (tb := [(21, .istore_n 3)]) (jtb_ok (by decide +kernel)) (pc' := 22) (lv' := [(3, vI (fmo_bits a0 (kI 5) (kI 5))), (2, vI v2), (1, vI v1), (0, vI a0)]) (st' := []) rfl ?_
  refine j_letT (v := (fmo_bits a0 (kI 5) (kI 5))) (lv := fun v3 => [(3, vI v3), (2, vI v2), (1, vI v1), (0, vI a0)]) (st := fun _ => []) (fun v3 => ?_)
  refine j_runA hx 3 (tb := [(22, .iload_n 0), (23, .bipush 10), (25, .iconst 5)]) (jtb_ok (by decide +kernel)) (pc' := 26) (lv' := [(3, vI v3), (2, vI v2), (1, vI v1), (0, vI a0)]) (st' := [vI (kI 5), vI (kI 10), vI a0]) rfl ?_
  refine j_TI (j_callS (av := [vI a0, vI (kI 10), vI (kI 5)]) (st := []) hx hr (Or.inl q2963) q2964 q241 md_fmo_bits np_fmo_bits (cmo_bits a0 (kI 10) (kI 5) W) (by decide) (Nat.le_of_ble_eq_true rfl) (by decide +kernel)) ?_
  refine j_runA hx 1 (tb := [(29, .istore 4)]) (jtb_ok (by decide +kernel)) (pc' := 31) (lv' := [(4, vI (fmo_bits a0 (kI 10) (kI 5))), (3, vI v3), (2, vI v2), (1, vI v1), (0, vI a0)]) (st' := []) rfl ?_
  refine j_letT (v := (fmo_bits a0 (kI 10) (kI 5))) (lv := fun v4 => [(4, vI v4), (3, vI v3), (2, vI v2), (1, vI v1), (0, vI a0)]) (st := fun _ => []) (fun v4 => ?_)
  refine j_runA hx 1 (tb := [(31, .iload_n 1)]) (jtb_ok (by decide +kernel)) (pc' := 32) (lv' := [(4, vI v4), (3, vI v3), (2, vI v2), (1, vI v1), (0, vI a0)]) (st' := [vI v1]) rfl ?_
  refine j_tot (j_if_eq hx (off := 20) (tgt := 52) (by decide +kernel) (by decide) (fun _ => ?_) (fun _ => ?_))
  · refine j_lv (lv' := [(0, vI a0)]) ⟨rfl, trivial⟩ ?_
    exact wmo_isPair_52 h
  refine j_runA hx 3 (tb := [(35, .iload_n 0), (36, .bipush 22), (38, .iconst 1)]) (jtb_ok (by decide +kernel)) (pc' := 39) (lv' := [(4, vI v4), (3, vI v3), (2, vI v2), (1, vI v1), (0, vI a0)]) (st' := [vI (kI 1), vI (kI 22), vI a0]) rfl ?_
  refine j_TI (j_callS (av := [vI a0, vI (kI 22), vI (kI 1)]) (st := []) hx hr (Or.inl q2963) q2964 q241 md_fmo_bits np_fmo_bits (cmo_bits a0 (kI 22) (kI 1) W) (by decide) (Nat.le_of_ble_eq_true rfl) (by decide +kernel)) ?_
  refine j_runA hx 1 (tb := [(42, .iconst 1)]) (jtb_ok (by decide +kernel)) (pc' := 43) (lv' := [(4, vI v4), (3, vI v3), (2, vI v2), (1, vI v1), (0, vI a0)]) (st' := [vI (kI 1), vI (fmo_bits a0 (kI 22) (kI 1))]) rfl ?_
  refine j_tot (j_icmp_ne hx (off := 11) (tgt := 54) (by decide +kernel) (by decide) (fun _ => ?_) (fun _ => ?_))
  · refine j_lv (lv' := [(0, vI a0), (1, vI v1), (2, vI v2), (3, vI v3), (4, vI v4)]) ⟨rfl, rfl, rfl, rfl, rfl, trivial⟩ ?_
    exact wmo_isPair_54 h v1 v2 v3 v4
  refine j_runA hx 2 (tb := [(46, .iload_n 2), (47, .iload 4)]) (jtb_ok (by decide +kernel)) (pc' := 49) (lv' := [(4, vI v4), (3, vI v3), (2, vI v2), (1, vI v1), (0, vI a0)]) (st' := [vI v4, vI v2]) rfl ?_
  refine j_tot (j_icmp_ne hx (off := 5) (tgt := 54) (by decide +kernel) (by decide) (fun _ => ?_) (fun _ => ?_))
  · refine j_lv (lv' := [(0, vI a0), (1, vI v1), (2, vI v2), (3, vI v3), (4, vI v4)]) ⟨rfl, rfl, rfl, rfl, rfl, trivial⟩ ?_
    exact wmo_isPair_54 h v1 v2 v3 v4
  refine j_lv (lv' := [(0, vI a0)]) ⟨rfl, trivial⟩ ?_
  exact wmo_isPair_52 h
theorem cmo_isPair (a0 : Int32) (W : jW) : jM yX8_isPair cX8_isPair 5 (Option.some Jvm.ClassFile.FieldType.boolean) [] 1 14 [vI a0] W (some (.returned (some (.int (fmo_isPair a0))), W)) := 
  jM.of (mm := some (fmo_isPair a0)) (en := fun q => some (.returned (some (.int q)), W)) (Nat.le_of_ble_eq_true rfl) (fun x hx hm hr => wmo_isPair ⟨hx, hm, hr, fun _ => rfl⟩)
def hmo_sort (x : jCx) (en : (Int32) → Option (Outcome × jW)) (a0 : Int32) (W : jW) : Prop :=
  jOK x RX8 cX8_sort 2 ∧
  jMt x "sort" (Option.some Jvm.ClassFile.FieldType.int) [] ∧
  jRm x 2 30 ∧
  (∀ q : Int32, en q = some (.returned (some (.int q)), W))
theorem wmo_sort_46 {x : jCx} {en : (Int32) → Option (Outcome × jW)} {W : jW} {a0 : Int32} (h : hmo_sort x en a0 W) : jJ x 2 46 [(0, vI a0)] [] W (some (fmo_sort_46 a0)) en := by
  have h0 := h
  obtain ⟨hx, hm, hr, he⟩ := h0
  unfold fmo_sort_46
  refine j_runA hx 1 (tb := [(46, .iconst 0)]) (jtb_ok (by decide +kernel)) (pc' := 47) (lv' := [(0, vI a0)]) (st' := [vI (kI 0)]) rfl ?_
  exact j_iret hx hm (by decide +kernel) rfl (he _)
theorem wmo_sort_109 {x : jCx} {en : (Int32) → Option (Outcome × jW)} {W : jW} {a0 : Int32} (h : hmo_sort x en a0 W) : jJ x 2 109 [(0, vI a0)] [] W (some (fmo_sort_109 a0)) en := by
  have h0 := h
  obtain ⟨hx, hm, hr, he⟩ := h0
  unfold fmo_sort_109
  refine j_runA hx 1 (tb := [(109, .iconst 4)]) (jtb_ok (by decide +kernel)) (pc' := 110) (lv' := [(0, vI a0)]) (st' := [vI (kI 4)]) rfl ?_
  refine j_goto hx (off := 4) (by decide +kernel) (tgt := 114) (by decide) ?_
  exact j_iret hx hm (by decide +kernel) rfl (he _)
theorem wmo_sort_113 {x : jCx} {en : (Int32) → Option (Outcome × jW)} {W : jW} {a0 : Int32} (h : hmo_sort x en a0 W) : jJ x 2 113 [(0, vI a0)] [] W (some (fmo_sort_113 a0)) en := by
  have h0 := h
  obtain ⟨hx, hm, hr, he⟩ := h0
  unfold fmo_sort_113
  refine j_runA hx 1 (tb := [(113, .iconst 0)]) (jtb_ok (by decide +kernel)) (pc' := 114) (lv' := [(0, vI a0)]) (st' := [vI (kI 0)]) rfl ?_
  exact j_iret hx hm (by decide +kernel) rfl (he _)
theorem wmo_sort_184 {x : jCx} {en : (Int32) → Option (Outcome × jW)} {W : jW} {a0 : Int32} (h : hmo_sort x en a0 W) : jJ x 2 184 [(0, vI a0)] [] W (some (fmo_sort_184 a0)) en := by
  have h0 := h
  obtain ⟨hx, hm, hr, he⟩ := h0
  unfold fmo_sort_184
  refine j_runA hx 1 (tb := [(184, .bipush 7)]) (jtb_ok (by decide +kernel)) (pc' := 186) (lv' := [(0, vI a0)]) (st' := [vI (kI 7)]) rfl ?_
  refine j_goto hx (off := 4) (by decide +kernel) (tgt := 190) (by decide) ?_
  exact j_iret hx hm (by decide +kernel) rfl (he _)
theorem wmo_sort_189 {x : jCx} {en : (Int32) → Option (Outcome × jW)} {W : jW} {a0 : Int32} (h : hmo_sort x en a0 W) : jJ x 2 189 [(0, vI a0)] [] W (some (fmo_sort_189 a0)) en := by
  have h0 := h
  obtain ⟨hx, hm, hr, he⟩ := h0
  unfold fmo_sort_189
  refine j_runA hx 1 (tb := [(189, .iconst 0)]) (jtb_ok (by decide +kernel)) (pc' := 190) (lv' := [(0, vI a0)]) (st' := [vI (kI 0)]) rfl ?_
  exact j_iret hx hm (by decide +kernel) rfl (he _)
theorem wmo_sort {x : jCx} {en : (Int32) → Option (Outcome × jW)} {W : jW} {a0 : Int32} (h : hmo_sort x en a0 W) : jJ x 2 0 [(0, vI a0)] [] W (some (fmo_sort a0)) en := by
  have h0 := h
  obtain ⟨hx, hm, hr, he⟩ := h0
  unfold fmo_sort
  refine j_runA hx 1 (tb := [(0, .iload_n 0)]) (jtb_ok (by decide +kernel)) (pc' := 1) (lv' := [(0, vI a0)]) (st' := [vI a0]) rfl ?_
  refine j_ldc hx (v := (kI 528482304)) (jkc q2956 (by decide +kernel)) (by decide +kernel) ?_
  refine j_ldc hx (v := (kI 285212672)) (jkc q2957 (by decide +kernel)) (by decide +kernel) ?_
  refine j_TI (j_callS (av := [vI a0, vI (kI 528482304), vI (kI 285212672)]) (st := []) hx hr (Or.inl q2958) q2959 q241 md_fmo_fits np_fmo_fits (cmo_fits a0 (kI 528482304) (kI 285212672) W) (by decide) (Nat.le_of_ble_eq_true rfl) (by decide +kernel)) ?_
  refine j_tot (j_if_eq hx (off := 5) (tgt := 13) (by decide +kernel) (by decide) (fun _ => ?_) (fun _ => ?_))
  · refine j_runA hx 1 (tb := [(13, .iload_n 0)]) (jtb_ok (by decide +kernel)) (pc' := 14) (lv' := [(0, vI a0)]) (st' := [vI a0]) rfl ?_
    refine j_ldc hx (v := (kI 522190848)) (jkc q2961 (by decide +kernel)) (by decide +kernel) ?_
    refine j_ldc hx (v := (kI 184549376)) (jkc q2962 (by decide +kernel)) (by decide +kernel) ?_
    refine j_TI (j_callS (av := [vI a0, vI (kI 522190848), vI (kI 184549376)]) (st := []) hx hr (Or.inl q2958) q2959 q241 md_fmo_fits np_fmo_fits (cmo_fits a0 (kI 522190848) (kI 184549376) W) (by decide) (Nat.le_of_ble_eq_true rfl) (by decide +kernel)) ?_
    refine j_tot (j_if_eq hx (off := 27) (tgt := 48) (by decide +kernel) (by decide) (fun _ => ?_) (fun _ => ?_))
    · refine j_runA hx 1 (tb := [(48, .iload_n 0)]) (jtb_ok (by decide +kernel)) (pc' := 49) (lv' := [(0, vI a0)]) (st' := [vI a0]) rfl ?_
      refine j_ldc hx (v := (kI 520093696)) (jkc q2969 (by decide +kernel)) (by decide +kernel) ?_
      refine j_ldc hx (v := (kI 167772160)) (jkc q2970 (by decide +kernel)) (by decide +kernel) ?_
      refine j_TI (j_callS (av := [vI a0, vI (kI 520093696), vI (kI 167772160)]) (st := []) hx hr (Or.inl q2958) q2959 q241 md_fmo_fits np_fmo_fits (cmo_fits a0 (kI 520093696) (kI 167772160) W) (by decide) (Nat.le_of_ble_eq_true rfl) (by decide +kernel)) ?_
      refine j_tot (j_if_eq hx (off := 16) (tgt := 72) (by decide +kernel) (by decide) (fun _ => ?_) (fun _ => ?_))
      · refine j_runA hx 1 (tb := [(72, .iload_n 0)]) (jtb_ok (by decide +kernel)) (pc' := 73) (lv' := [(0, vI a0)]) (st' := [vI a0]) rfl ?_
        refine j_ldc hx (v := (kI 528482304)) (jkc q2956 (by decide +kernel)) (by decide +kernel) ?_
        refine j_ldc hx (v := (kI 310378496)) (jkc q2971 (by decide +kernel)) (by decide +kernel) ?_
        refine j_TI (j_callS (av := [vI a0, vI (kI 528482304), vI (kI 310378496)]) (st := []) hx hr (Or.inl q2958) q2959 q241 md_fmo_fits np_fmo_fits (cmo_fits a0 (kI 528482304) (kI 310378496) W) (by decide) (Nat.le_of_ble_eq_true rfl) (by decide +kernel)) ?_
        refine j_tot (j_if_eq hx (off := 35) (tgt := 115) (by decide +kernel) (by decide) (fun _ => ?_) (fun _ => ?_))
        · refine j_runA hx 1 (tb := [(115, .iload_n 0)]) (jtb_ok (by decide +kernel)) (pc' := 116) (lv' := [(0, vI a0)]) (st' := [vI a0]) rfl ?_
          refine j_ldc hx (v := (kI (-1627389952))) (jkc q2972 (by decide +kernel)) (by decide +kernel) ?_
          refine j_ldc hx (v := (kI (-1879048192))) (jkc q2973 (by decide +kernel)) (by decide +kernel) ?_
          refine j_TI (j_callS (av := [vI a0, vI (kI (-1627389952)), vI (kI (-1879048192))]) (st := []) hx hr (Or.inl q2958) q2959 q241 md_fmo_fits np_fmo_fits (cmo_fits a0 (kI (-1627389952)) (kI (-1879048192)) W) (by decide) (Nat.le_of_ble_eq_true rfl) (by decide +kernel)) ?_
          refine j_tot (j_if_eq hx (off := 5) (tgt := 128) (by decide +kernel) (by decide) (fun _ => ?_) (fun _ => ?_))
          · refine j_runA hx 1 (tb := [(128, .iload_n 0)]) (jtb_ok (by decide +kernel)) (pc' := 129) (lv' := [(0, vI a0)]) (st' := [vI a0]) rfl ?_
            refine j_ldc hx (v := (kI 2145386496)) (jkc q2974 (by decide +kernel)) (by decide +kernel) ?_
            refine j_ldc hx (v := (kI 452984832)) (jkc q2975 (by decide +kernel)) (by decide +kernel) ?_
            refine j_TI (j_callS (av := [vI a0, vI (kI 2145386496), vI (kI 452984832)]) (st := []) hx hr (Or.inl q2958) q2959 q241 md_fmo_fits np_fmo_fits (cmo_fits a0 (kI 2145386496) (kI 452984832) W) (by decide) (Nat.le_of_ble_eq_true rfl) (by decide +kernel)) ?_
            refine j_tot (j_if_eq hx (off := 6) (tgt := 142) (by decide +kernel) (by decide) (fun _ => ?_) (fun _ => ?_))
            · refine j_runA hx 1 (tb := [(142, .iload_n 0)]) (jtb_ok (by decide +kernel)) (pc' := 143) (lv' := [(0, vI a0)]) (st' := [vI a0]) rfl ?_
              refine j_ldc hx (v := (kI 2145386496)) (jkc q2974 (by decide +kernel)) (by decide +kernel) ?_
              refine j_ldc hx (v := (kI 448790528)) (jkc q2976 (by decide +kernel)) (by decide +kernel) ?_
              refine j_TI (j_callS (av := [vI a0, vI (kI 2145386496), vI (kI 448790528)]) (st := []) hx hr (Or.inl q2958) q2959 q241 md_fmo_fits np_fmo_fits (cmo_fits a0 (kI 2145386496) (kI 448790528) W) (by decide) (Nat.le_of_ble_eq_true rfl) (by decide +kernel)) ?_
              refine j_tot (j_if_eq hx (off := 41) (tgt := 191) (by decide +kernel) (by decide) (fun _ => ?_) (fun _ => ?_))
              · refine j_runA hx 1 (tb := [(191, .iload_n 0)]) (jtb_ok (by decide +kernel)) (pc' := 192) (lv' := [(0, vI a0)]) (st' := [vI a0]) rfl ?_
                refine j_ldc hx (v := (kI 2145388544)) (jkc q2977 (by decide +kernel)) (by decide +kernel) ?_
                refine j_ldc hx (v := (kI 444596224)) (jkc q2978 (by decide +kernel)) (by decide +kernel) ?_
                refine j_TI (j_callS (av := [vI a0, vI (kI 2145388544), vI (kI 444596224)]) (st := []) hx hr (Or.inl q2958) q2959 q241 md_fmo_fits np_fmo_fits (cmo_fits a0 (kI 2145388544) (kI 444596224) W) (by decide) (Nat.le_of_ble_eq_true rfl) (by decide +kernel)) ?_
                refine j_tot (j_if_eq hx (off := 22) (tgt := 221) (by decide +kernel) (by decide) (fun _ => ?_) (fun _ => ?_))
                · refine j_runA hx 1 (tb := [(221, .iload_n 0)]) (jtb_ok (by decide +kernel)) (pc' := 222) (lv' := [(0, vI a0)]) (st' := [vI a0]) rfl ?_
                  refine j_ldc hx (v := (kI 1056964608)) (jkc q2979 (by decide +kernel)) (by decide +kernel) ?_
                  refine j_ldc hx (v := (kI 956301312)) (jkc q2980 (by decide +kernel)) (by decide +kernel) ?_
                  refine j_TI (j_callS (av := [vI a0, vI (kI 1056964608), vI (kI 956301312)]) (st := []) hx hr (Or.inl q2958) q2959 q241 md_fmo_fits np_fmo_fits (cmo_fits a0 (kI 1056964608) (kI 956301312) W) (by decide) (Nat.le_of_ble_eq_true rfl) (by decide +kernel)) ?_
                  refine j_tot (j_if_eq hx (off := 17) (tgt := 246) (by decide +kernel) (by decide) (fun _ => ?_) (fun _ => ?_))
                  · refine j_runA hx 1 (tb := [(246, .iload_n 0)]) (jtb_ok (by decide +kernel)) (pc' := 247) (lv' := [(0, vI a0)]) (st' := [vI a0]) rfl ?_
                    refine j_ldc hx (v := (kI 1059122176)) (jkc q2984 (by decide +kernel)) (by decide +kernel) ?_
                    refine j_ldc hx (v := (kI 941647872)) (jkc q2985 (by decide +kernel)) (by decide +kernel) ?_
                    refine j_TI (j_callS (av := [vI a0, vI (kI 1059122176), vI (kI 941647872)]) (st := []) hx hr (Or.inl q2958) q2959 q241 md_fmo_fits np_fmo_fits (cmo_fits a0 (kI 1059122176) (kI 941647872) W) (by decide) (Nat.le_of_ble_eq_true rfl) (by decide +kernel)) ?_
                    refine j_tot (j_if_eq hx (off := 17) (tgt := 271) (by decide +kernel) (by decide) (fun _ => ?_) (fun _ => ?_))
                    · refine j_runA hx 1 (tb := [(271, .iload_n 0)]) (jtb_ok (by decide +kernel)) (pc' := 272) (lv' := [(0, vI a0)]) (st' := [vI a0]) rfl ?_
                      refine j_ldc hx (v := (kI (-33554432))) (jkc q2986 (by decide +kernel)) (by decide +kernel) ?_
                      refine j_ldc hx (v := (kI (-1476395008))) (jkc q2987 (by decide +kernel)) (by decide +kernel) ?_
                      refine j_TI (j_callS (av := [vI a0, vI (kI (-33554432)), vI (kI (-1476395008))]) (st := []) hx hr (Or.inl q2958) q2959 q241 md_fmo_fits np_fmo_fits (cmo_fits a0 (kI (-33554432)) (kI (-1476395008)) W) (by decide) (Nat.le_of_ble_eq_true rfl) (by decide +kernel)) ?_
                      refine j_tot (j_if_eq hx (off := 17) (tgt := 296) (by decide +kernel) (by decide) (fun _ => ?_) (fun _ => ?_))
                      · refine j_runA hx 1 (tb := [(296, .iload_n 0)]) (jtb_ok (by decide +kernel)) (pc' := 297) (lv' := [(0, vI a0)]) (st' := [vI a0]) rfl ?_
                        refine j_ldc hx (v := (kI (-67108864))) (jkc q2991 (by decide +kernel)) (by decide +kernel) ?_
                        refine j_ldc hx (v := (kI 335544320)) (jkc q2992 (by decide +kernel)) (by decide +kernel) ?_
                        refine j_TI (j_callS (av := [vI a0, vI (kI (-67108864)), vI (kI 335544320)]) (st := []) hx hr (Or.inl q2958) q2959 q241 md_fmo_fits np_fmo_fits (cmo_fits a0 (kI (-67108864)) (kI 335544320) W) (by decide) (Nat.le_of_ble_eq_true rfl) (by decide +kernel)) ?_
                        refine j_tot (j_if_eq hx (off := 6) (tgt := 310) (by decide +kernel) (by decide) (fun _ => ?_) (fun _ => ?_))
                        · refine j_runA hx 1 (tb := [(310, .iload_n 0)]) (jtb_ok (by decide +kernel)) (pc' := 311) (lv' := [(0, vI a0)]) (st' := [vI a0]) rfl ?_
                          refine j_ldc hx (v := (kI (-67108864))) (jkc q2991 (by decide +kernel)) (by decide +kernel) ?_
                          refine j_ldc hx (v := (kI (-1811939328))) (jkc q2993 (by decide +kernel)) (by decide +kernel) ?_
                          refine j_TI (j_callS (av := [vI a0, vI (kI (-67108864)), vI (kI (-1811939328))]) (st := []) hx hr (Or.inl q2958) q2959 q241 md_fmo_fits np_fmo_fits (cmo_fits a0 (kI (-67108864)) (kI (-1811939328)) W) (by decide) (Nat.le_of_ble_eq_true rfl) (by decide +kernel)) ?_
                          refine j_tot (j_if_eq hx (off := 6) (tgt := 324) (by decide +kernel) (by decide) (fun _ => ?_) (fun _ => ?_))
                          · refine j_runA hx 1 (tb := [(324, .iload_n 0)]) (jtb_ok (by decide +kernel)) (pc' := 325) (lv' := [(0, vI a0)]) (st' := [vI a0]) rfl ?_
                            refine j_ldc hx (v := (kI (-16777200))) (jkc q2994 (by decide +kernel)) (by decide +kernel) ?_
                            refine j_ldc hx (v := (kI 1409286144)) (jkc q2995 (by decide +kernel)) (by decide +kernel) ?_
                            refine j_TI (j_callS (av := [vI a0, vI (kI (-16777200)), vI (kI 1409286144)]) (st := []) hx hr (Or.inl q2958) q2959 q241 md_fmo_fits np_fmo_fits (cmo_fits a0 (kI (-16777200)) (kI 1409286144) W) (by decide) (Nat.le_of_ble_eq_true rfl) (by decide +kernel)) ?_
                            refine j_tot (j_if_eq hx (off := 21) (tgt := 353) (by decide +kernel) (by decide) (fun _ => ?_) (fun _ => ?_))
                            · refine j_runA hx 1 (tb := [(353, .iload_n 0)]) (jtb_ok (by decide +kernel)) (pc' := 354) (lv' := [(0, vI a0)]) (st' := [vI a0]) rfl ?_
                              refine j_ldc hx (v := (kI 2113929216)) (jkc q2996 (by decide +kernel)) (by decide +kernel) ?_
                              refine j_ldc hx (v := (kI 872415232)) (jkc q2997 (by decide +kernel)) (by decide +kernel) ?_
                              refine j_TI (j_callS (av := [vI a0, vI (kI 2113929216), vI (kI 872415232)]) (st := []) hx hr (Or.inl q2958) q2959 q241 md_fmo_fits np_fmo_fits (cmo_fits a0 (kI 2113929216) (kI 872415232) W) (by decide) (Nat.le_of_ble_eq_true rfl) (by decide +kernel)) ?_
                              refine j_tot (j_if_eq hx (off := 6) (tgt := 367) (by decide +kernel) (by decide) (fun _ => ?_) (fun _ => ?_))
                              · refine j_runA hx 1 (tb := [(367, .iload_n 0)]) (jtb_ok (by decide +kernel)) (pc' := 368) (lv' := [(0, vI a0)]) (st' := [vI a0]) rfl ?_
                                refine j_ldc hx (v := (kI 2113929216)) (jkc q2996 (by decide +kernel)) (by decide +kernel) ?_
                                refine j_ldc hx (v := (kI 905969664)) (jkc q2998 (by decide +kernel)) (by decide +kernel) ?_
                                refine j_TI (j_callS (av := [vI a0, vI (kI 2113929216), vI (kI 905969664)]) (st := []) hx hr (Or.inl q2958) q2959 q241 md_fmo_fits np_fmo_fits (cmo_fits a0 (kI 2113929216) (kI 905969664) W) (by decide) (Nat.le_of_ble_eq_true rfl) (by decide +kernel)) ?_
                                refine j_tot (j_if_eq hx (off := 6) (tgt := 381) (by decide +kernel) (by decide) (fun _ => ?_) (fun _ => ?_))
                                · refine j_runA hx 2 (tb := [(381, .iload_n 0), (382, .sipush (-993))]) (jtb_ok (by decide +kernel)) (pc' := 385) (lv' := [(0, vI a0)]) (st' := [vI (kI (-993)), vI a0]) rfl ?_
                                  refine j_ldc hx (v := (kI (-702611456))) (jkc q2999 (by decide +kernel)) (by decide +kernel) ?_
                                  refine j_TI (j_callS (av := [vI a0, vI (kI (-993)), vI (kI (-702611456))]) (st := []) hx hr (Or.inl q2958) q2959 q241 md_fmo_fits np_fmo_fits (cmo_fits a0 (kI (-993)) (kI (-702611456)) W) (by decide) (Nat.le_of_ble_eq_true rfl) (by decide +kernel)) ?_
                                  refine j_tot (j_if_eq hx (off := 6) (tgt := 396) (by decide +kernel) (by decide) (fun _ => ?_) (fun _ => ?_))
                                  · refine j_runA hx 2 (tb := [(396, .iload_n 0), (397, .sipush (-993))]) (jtb_ok (by decide +kernel)) (pc' := 400) (lv' := [(0, vI a0)]) (st' := [vI (kI (-993)), vI a0]) rfl ?_
                                    refine j_ldc hx (v := (kI (-700514304))) (jkc q3000 (by decide +kernel)) (by decide +kernel) ?_
                                    refine j_TI (j_callS (av := [vI a0, vI (kI (-993)), vI (kI (-700514304))]) (st := []) hx hr (Or.inl q2958) q2959 q241 md_fmo_fits np_fmo_fits (cmo_fits a0 (kI (-993)) (kI (-700514304)) W) (by decide) (Nat.le_of_ble_eq_true rfl) (by decide +kernel)) ?_
                                    refine j_tot (j_if_eq hx (off := 6) (tgt := 411) (by decide +kernel) (by decide) (fun _ => ?_) (fun _ => ?_))
                                    · refine j_runA hx 2 (tb := [(411, .iload_n 0), (412, .sipush (-993))]) (jtb_ok (by decide +kernel)) (pc' := 415) (lv' := [(0, vI a0)]) (st' := [vI (kI (-993)), vI a0]) rfl ?_
                                      refine j_ldc hx (v := (kI (-698417152))) (jkc q3001 (by decide +kernel)) (by decide +kernel) ?_
                                      refine j_TI (j_callS (av := [vI a0, vI (kI (-993)), vI (kI (-698417152))]) (st := []) hx hr (Or.inl q2958) q2959 q241 md_fmo_fits np_fmo_fits (cmo_fits a0 (kI (-993)) (kI (-698417152)) W) (by decide) (Nat.le_of_ble_eq_true rfl) (by decide +kernel)) ?_
                                      refine j_tot (j_if_eq hx (off := 6) (tgt := 426) (by decide +kernel) (by decide) (fun _ => ?_) (fun _ => ?_))
                                      · refine j_runA hx 1 (tb := [(426, .iload_n 0)]) (jtb_ok (by decide +kernel)) (pc' := 427) (lv' := [(0, vI a0)]) (st' := [vI a0]) rfl ?_
                                        refine j_ldc hx (v := (kI (-2097121))) (jkc q3002 (by decide +kernel)) (by decide +kernel) ?_
                                        refine j_ldc hx (v := (kI (-738197503))) (jkc q3003 (by decide +kernel)) (by decide +kernel) ?_
                                        refine j_TI (j_callS (av := [vI a0, vI (kI (-2097121)), vI (kI (-738197503))]) (st := []) hx hr (Or.inl q2958) q2959 q241 md_fmo_fits np_fmo_fits (cmo_fits a0 (kI (-2097121)) (kI (-738197503)) W) (by decide) (Nat.le_of_ble_eq_true rfl) (by decide +kernel)) ?_
                                        refine j_tot (j_if_eq hx (off := 6) (tgt := 440) (by decide +kernel) (by decide) (fun _ => ?_) (fun _ => ?_))
                                        · refine j_runA hx 1 (tb := [(440, .iload_n 0)]) (jtb_ok (by decide +kernel)) (pc' := 441) (lv' := [(0, vI a0)]) (st' := [vI a0]) rfl ?_
                                          refine j_ldc hx (v := (kI (-721215457))) (jkc q3004 (by decide +kernel)) (by decide +kernel) ?_
                                          refine j_tot (j_icmp_ne hx (off := 8) (tgt := 451) (by decide +kernel) (by decide) (fun _ => ?_) (fun _ => ?_))
                                          · refine j_runA hx 1 (tb := [(451, .iconst 0)]) (jtb_ok (by decide +kernel)) (pc' := 452) (lv' := [(0, vI a0)]) (st' := [vI (kI 0)]) rfl ?_
                                            exact j_iret hx hm (by decide +kernel) rfl (he _)
                                          refine j_runA hx 1 (tb := [(446, .bipush 21)]) (jtb_ok (by decide +kernel)) (pc' := 448) (lv' := [(0, vI a0)]) (st' := [vI (kI 21)]) rfl ?_
                                          refine j_goto hx (off := 4) (by decide +kernel) (tgt := 452) (by decide) ?_
                                          exact j_iret hx hm (by decide +kernel) rfl (he _)
                                        refine j_runA hx 1 (tb := [(437, .bipush 20)]) (jtb_ok (by decide +kernel)) (pc' := 439) (lv' := [(0, vI a0)]) (st' := [vI (kI 20)]) rfl ?_
                                        exact j_iret hx hm (by decide +kernel) rfl (he _)
                                      refine j_runA hx 1 (tb := [(423, .bipush 19)]) (jtb_ok (by decide +kernel)) (pc' := 425) (lv' := [(0, vI a0)]) (st' := [vI (kI 19)]) rfl ?_
                                      exact j_iret hx hm (by decide +kernel) rfl (he _)
                                    refine j_runA hx 1 (tb := [(408, .bipush 18)]) (jtb_ok (by decide +kernel)) (pc' := 410) (lv' := [(0, vI a0)]) (st' := [vI (kI 18)]) rfl ?_
                                    exact j_iret hx hm (by decide +kernel) rfl (he _)
                                  refine j_runA hx 1 (tb := [(393, .bipush 17)]) (jtb_ok (by decide +kernel)) (pc' := 395) (lv' := [(0, vI a0)]) (st' := [vI (kI 17)]) rfl ?_
                                  exact j_iret hx hm (by decide +kernel) rfl (he _)
                                refine j_runA hx 1 (tb := [(378, .bipush 16)]) (jtb_ok (by decide +kernel)) (pc' := 380) (lv' := [(0, vI a0)]) (st' := [vI (kI 16)]) rfl ?_
                                exact j_iret hx hm (by decide +kernel) rfl (he _)
                              refine j_runA hx 1 (tb := [(364, .bipush 15)]) (jtb_ok (by decide +kernel)) (pc' := 366) (lv' := [(0, vI a0)]) (st' := [vI (kI 15)]) rfl ?_
                              exact j_iret hx hm (by decide +kernel) rfl (he _)
                            refine j_runA hx 3 (tb := [(335, .iload_n 0), (336, .iconst 0), (337, .iconst 4)]) (jtb_ok (by decide +kernel)) (pc' := 338) (lv' := [(0, vI a0)]) (st' := [vI (kI 4), vI (kI 0), vI a0]) rfl ?_
                            refine j_TI (j_callS (av := [vI a0, vI (kI 0), vI (kI 4)]) (st := []) hx hr (Or.inl q2963) q2964 q241 md_fmo_bits np_fmo_bits (cmo_bits a0 (kI 0) (kI 4) W) (by decide) (Nat.le_of_ble_eq_true rfl) (by decide +kernel)) ?_
                            refine j_runA hx 1 (tb := [(341, .bipush 14)]) (jtb_ok (by decide +kernel)) (pc' := 343) (lv' := [(0, vI a0)]) (st' := [vI (kI 14), vI (fmo_bits a0 (kI 0) (kI 4))]) rfl ?_
                            refine j_tot (j_icmp_ge hx (off := 8) (tgt := 351) (by decide +kernel) (by decide) (fun _ => ?_) (fun _ => ?_))
                            · refine j_runA hx 1 (tb := [(351, .iconst 0)]) (jtb_ok (by decide +kernel)) (pc' := 352) (lv' := [(0, vI a0)]) (st' := [vI (kI 0)]) rfl ?_
                              exact j_iret hx hm (by decide +kernel) rfl (he _)
                            refine j_runA hx 1 (tb := [(346, .bipush 14)]) (jtb_ok (by decide +kernel)) (pc' := 348) (lv' := [(0, vI a0)]) (st' := [vI (kI 14)]) rfl ?_
                            refine j_goto hx (off := 4) (by decide +kernel) (tgt := 352) (by decide) ?_
                            exact j_iret hx hm (by decide +kernel) rfl (he _)
                          refine j_runA hx 1 (tb := [(321, .bipush 13)]) (jtb_ok (by decide +kernel)) (pc' := 323) (lv' := [(0, vI a0)]) (st' := [vI (kI 13)]) rfl ?_
                          exact j_iret hx hm (by decide +kernel) rfl (he _)
                        refine j_runA hx 1 (tb := [(307, .bipush 12)]) (jtb_ok (by decide +kernel)) (pc' := 309) (lv' := [(0, vI a0)]) (st' := [vI (kI 12)]) rfl ?_
                        exact j_iret hx hm (by decide +kernel) rfl (he _)
                      refine j_runA hx 1 (tb := [(282, .iload_n 0)]) (jtb_ok (by decide +kernel)) (pc' := 283) (lv' := [(0, vI a0)]) (st' := [vI a0]) rfl ?_
                      refine j_TI (j_callS (av := [vI a0]) (st := []) hx hr (Or.inl q2988) q2989 q241 md_fmo_isPair np_fmo_isPair (cmo_isPair a0 W) (by decide) (Nat.le_of_ble_eq_true rfl) (by decide +kernel)) ?_
                      refine j_tot (j_if_eq hx (off := 8) (tgt := 294) (by decide +kernel) (by decide) (fun _ => ?_) (fun _ => ?_))
                      · refine j_runA hx 1 (tb := [(294, .iconst 0)]) (jtb_ok (by decide +kernel)) (pc' := 295) (lv' := [(0, vI a0)]) (st' := [vI (kI 0)]) rfl ?_
                        exact j_iret hx hm (by decide +kernel) rfl (he _)
                      refine j_runA hx 1 (tb := [(289, .bipush 11)]) (jtb_ok (by decide +kernel)) (pc' := 291) (lv' := [(0, vI a0)]) (st' := [vI (kI 11)]) rfl ?_
                      refine j_goto hx (off := 4) (by decide +kernel) (tgt := 295) (by decide) ?_
                      exact j_iret hx hm (by decide +kernel) rfl (he _)
                    refine j_runA hx 1 (tb := [(257, .iload_n 0)]) (jtb_ok (by decide +kernel)) (pc' := 258) (lv' := [(0, vI a0)]) (st' := [vI a0]) rfl ?_
                    refine j_TI (j_callS (av := [vI a0]) (st := []) hx hr (Or.inl q2981) q2982 q241 md_fmo_isLoad np_fmo_isLoad (cmo_isLoad a0 W) (by decide) (Nat.le_of_ble_eq_true rfl) (by decide +kernel)) ?_
                    refine j_tot (j_if_eq hx (off := 8) (tgt := 269) (by decide +kernel) (by decide) (fun _ => ?_) (fun _ => ?_))
                    · refine j_runA hx 1 (tb := [(269, .iconst 0)]) (jtb_ok (by decide +kernel)) (pc' := 270) (lv' := [(0, vI a0)]) (st' := [vI (kI 0)]) rfl ?_
                      exact j_iret hx hm (by decide +kernel) rfl (he _)
                    refine j_runA hx 1 (tb := [(264, .bipush 10)]) (jtb_ok (by decide +kernel)) (pc' := 266) (lv' := [(0, vI a0)]) (st' := [vI (kI 10)]) rfl ?_
                    refine j_goto hx (off := 4) (by decide +kernel) (tgt := 270) (by decide) ?_
                    exact j_iret hx hm (by decide +kernel) rfl (he _)
                  refine j_runA hx 1 (tb := [(232, .iload_n 0)]) (jtb_ok (by decide +kernel)) (pc' := 233) (lv' := [(0, vI a0)]) (st' := [vI a0]) rfl ?_
                  refine j_TI (j_callS (av := [vI a0]) (st := []) hx hr (Or.inl q2981) q2982 q241 md_fmo_isLoad np_fmo_isLoad (cmo_isLoad a0 W) (by decide) (Nat.le_of_ble_eq_true rfl) (by decide +kernel)) ?_
                  refine j_tot (j_if_eq hx (off := 8) (tgt := 244) (by decide +kernel) (by decide) (fun _ => ?_) (fun _ => ?_))
                  · refine j_runA hx 1 (tb := [(244, .iconst 0)]) (jtb_ok (by decide +kernel)) (pc' := 245) (lv' := [(0, vI a0)]) (st' := [vI (kI 0)]) rfl ?_
                    exact j_iret hx hm (by decide +kernel) rfl (he _)
                  refine j_runA hx 1 (tb := [(239, .bipush 9)]) (jtb_ok (by decide +kernel)) (pc' := 241) (lv' := [(0, vI a0)]) (st' := [vI (kI 9)]) rfl ?_
                  refine j_goto hx (off := 4) (by decide +kernel) (tgt := 245) (by decide) ?_
                  exact j_iret hx hm (by decide +kernel) rfl (he _)
                refine j_runA hx 3 (tb := [(202, .iload_n 0), (203, .bipush 12), (205, .iconst 4)]) (jtb_ok (by decide +kernel)) (pc' := 206) (lv' := [(0, vI a0)]) (st' := [vI (kI 4), vI (kI 12), vI a0]) rfl ?_
                refine j_TI (j_callS (av := [vI a0, vI (kI 12), vI (kI 4)]) (st := []) hx hr (Or.inl q2963) q2964 q241 md_fmo_bits np_fmo_bits (cmo_bits a0 (kI 12) (kI 4) W) (by decide) (Nat.le_of_ble_eq_true rfl) (by decide +kernel)) ?_
                refine j_runA hx 1 (tb := [(209, .bipush 14)]) (jtb_ok (by decide +kernel)) (pc' := 211) (lv' := [(0, vI a0)]) (st' := [vI (kI 14), vI (fmo_bits a0 (kI 12) (kI 4))]) rfl ?_
                refine j_tot (j_icmp_ge hx (off := 8) (tgt := 219) (by decide +kernel) (by decide) (fun _ => ?_) (fun _ => ?_))
                · refine j_runA hx 1 (tb := [(219, .iconst 0)]) (jtb_ok (by decide +kernel)) (pc' := 220) (lv' := [(0, vI a0)]) (st' := [vI (kI 0)]) rfl ?_
                  exact j_iret hx hm (by decide +kernel) rfl (he _)
                refine j_runA hx 1 (tb := [(214, .bipush 8)]) (jtb_ok (by decide +kernel)) (pc' := 216) (lv' := [(0, vI a0)]) (st' := [vI (kI 8)]) rfl ?_
                refine j_goto hx (off := 4) (by decide +kernel) (tgt := 220) (by decide) ?_
                exact j_iret hx hm (by decide +kernel) rfl (he _)
              refine j_runA hx 3 (tb := [(153, .iload_n 0), (154, .bipush 10), (156, .bipush 6)]) (jtb_ok (by decide +kernel)) (pc' := 158) (lv' := [(0, vI a0)]) (st' := [vI (kI 6), vI (kI 10), vI a0]) rfl ?_
              refine j_TI (j_callS (av := [vI a0, vI (kI 10), vI (kI 6)]) (st := []) hx hr (Or.inl q2963) q2964 q241 md_fmo_bits np_fmo_bits (cmo_bits a0 (kI 10) (kI 6) W) (by decide) (Nat.le_of_ble_eq_true rfl) (by decide +kernel)) ?_
              refine j_runA hx 1 (tb := [(161, .istore_n 1)]) (jtb_ok (by decide +kernel)) (pc' := 162) (lv' := [(1, vI (fmo_bits a0 (kI 10) (kI 6))), (0, vI a0)]) (st' := []) rfl ?_
              refine j_letT (v := (fmo_bits a0 (kI 10) (kI 6))) (lv := fun v1 => [(1, vI v1), (0, vI a0)]) (st := fun _ => []) (fun v1 => ?_)
              refine j_runA hx 2 (tb := [(162, .iload_n 1), (163, .iconst 2)]) (jtb_ok (by decide +kernel)) (pc' := 164) (lv' := [(1, vI v1), (0, vI a0)]) (st' := [vI (kI 2), vI v1]) rfl ?_
              refine j_tot (j_icmp_eq hx (off := 20) (tgt := 184) (by decide +kernel) (by decide) (fun _ => ?_) (fun _ => ?_))
              · refine j_lv (lv' := [(0, vI a0)]) ⟨rfl, trivial⟩ ?_
                exact wmo_sort_184 h
              refine j_runA hx 2 (tb := [(167, .iload_n 1), (168, .iconst 3)]) (jtb_ok (by decide +kernel)) (pc' := 169) (lv' := [(1, vI v1), (0, vI a0)]) (st' := [vI (kI 3), vI v1]) rfl ?_
              refine j_tot (j_icmp_eq hx (off := 15) (tgt := 184) (by decide +kernel) (by decide) (fun _ => ?_) (fun _ => ?_))
              · refine j_lv (lv' := [(0, vI a0)]) ⟨rfl, trivial⟩ ?_
                exact wmo_sort_184 h
              refine j_runA hx 2 (tb := [(172, .iload_n 1), (173, .bipush 8)]) (jtb_ok (by decide +kernel)) (pc' := 175) (lv' := [(1, vI v1), (0, vI a0)]) (st' := [vI (kI 8), vI v1]) rfl ?_
              refine j_tot (j_icmp_lt hx (off := 14) (tgt := 189) (by decide +kernel) (by decide) (fun _ => ?_) (fun _ => ?_))
              · refine j_lv (lv' := [(0, vI a0)]) ⟨rfl, trivial⟩ ?_
                exact wmo_sort_189 h
              refine j_runA hx 2 (tb := [(178, .iload_n 1), (179, .bipush 10)]) (jtb_ok (by decide +kernel)) (pc' := 181) (lv' := [(1, vI v1), (0, vI a0)]) (st' := [vI (kI 10), vI v1]) rfl ?_
              refine j_tot (j_icmp_gt hx (off := 8) (tgt := 189) (by decide +kernel) (by decide) (fun _ => ?_) (fun _ => ?_))
              · refine j_lv (lv' := [(0, vI a0)]) ⟨rfl, trivial⟩ ?_
                exact wmo_sort_189 h
              refine j_lv (lv' := [(0, vI a0)]) ⟨rfl, trivial⟩ ?_
              exact wmo_sort_184 h
            refine j_runA hx 1 (tb := [(139, .bipush 6)]) (jtb_ok (by decide +kernel)) (pc' := 141) (lv' := [(0, vI a0)]) (st' := [vI (kI 6)]) rfl ?_
            exact j_iret hx hm (by decide +kernel) rfl (he _)
          refine j_runA hx 1 (tb := [(126, .iconst 5)]) (jtb_ok (by decide +kernel)) (pc' := 127) (lv' := [(0, vI a0)]) (st' := [vI (kI 5)]) rfl ?_
          exact j_iret hx hm (by decide +kernel) rfl (he _)
        refine j_runA hx 3 (tb := [(83, .iload_n 0), (84, .bipush 29), (86, .iconst 2)]) (jtb_ok (by decide +kernel)) (pc' := 87) (lv' := [(0, vI a0)]) (st' := [vI (kI 2), vI (kI 29), vI a0]) rfl ?_
        refine j_TI (j_callS (av := [vI a0, vI (kI 29), vI (kI 2)]) (st := []) hx hr (Or.inl q2963) q2964 q241 md_fmo_bits np_fmo_bits (cmo_bits a0 (kI 29) (kI 2) W) (by decide) (Nat.le_of_ble_eq_true rfl) (by decide +kernel)) ?_
        refine j_runA hx 1 (tb := [(90, .iconst 1)]) (jtb_ok (by decide +kernel)) (pc' := 91) (lv' := [(0, vI a0)]) (st' := [vI (kI 1), vI (fmo_bits a0 (kI 29) (kI 2))]) rfl ?_
        refine j_tot (j_icmp_eq hx (off := 22) (tgt := 113) (by decide +kernel) (by decide) (fun _ => ?_) (fun _ => ?_))
        · exact wmo_sort_113 h
        refine j_runA hx 1 (tb := [(94, .iload_n 0)]) (jtb_ok (by decide +kernel)) (pc' := 95) (lv' := [(0, vI a0)]) (st' := [vI a0]) rfl ?_
        refine j_tot (j_if_lt hx (off := 14) (tgt := 109) (by decide +kernel) (by decide) (fun _ => ?_) (fun _ => ?_))
        · exact wmo_sort_109 h
        refine j_runA hx 3 (tb := [(98, .iload_n 0), (99, .bipush 21), (101, .iconst 2)]) (jtb_ok (by decide +kernel)) (pc' := 102) (lv' := [(0, vI a0)]) (st' := [vI (kI 2), vI (kI 21), vI a0]) rfl ?_
        refine j_TI (j_callS (av := [vI a0, vI (kI 21), vI (kI 2)]) (st := []) hx hr (Or.inl q2963) q2964 q241 md_fmo_bits np_fmo_bits (cmo_bits a0 (kI 21) (kI 2) W) (by decide) (Nat.le_of_ble_eq_true rfl) (by decide +kernel)) ?_
        refine j_runA hx 1 (tb := [(105, .iconst 2)]) (jtb_ok (by decide +kernel)) (pc' := 106) (lv' := [(0, vI a0)]) (st' := [vI (kI 2), vI (fmo_bits a0 (kI 21) (kI 2))]) rfl ?_
        refine j_tot (j_icmp_ge hx (off := 7) (tgt := 113) (by decide +kernel) (by decide) (fun _ => ?_) (fun _ => ?_))
        · exact wmo_sort_113 h
        exact wmo_sort_109 h
      refine j_runA hx 1 (tb := [(59, .iload_n 0)]) (jtb_ok (by decide +kernel)) (pc' := 60) (lv' := [(0, vI a0)]) (st' := [vI a0]) rfl ?_
      refine j_TI (j_callS (av := [vI a0]) (st := []) hx hr (Or.inl q2966) q2967 q241 md_fmo_isMoved np_fmo_isMoved (cmo_isMoved a0 W) (by decide) (Nat.le_of_ble_eq_true rfl) (by decide +kernel)) ?_
      refine j_tot (j_if_eq hx (off := 7) (tgt := 70) (by decide +kernel) (by decide) (fun _ => ?_) (fun _ => ?_))
      · refine j_runA hx 1 (tb := [(70, .iconst 0)]) (jtb_ok (by decide +kernel)) (pc' := 71) (lv' := [(0, vI a0)]) (st' := [vI (kI 0)]) rfl ?_
        exact j_iret hx hm (by decide +kernel) rfl (he _)
      refine j_runA hx 1 (tb := [(66, .iconst 3)]) (jtb_ok (by decide +kernel)) (pc' := 67) (lv' := [(0, vI a0)]) (st' := [vI (kI 3)]) rfl ?_
      refine j_goto hx (off := 4) (by decide +kernel) (tgt := 71) (by decide) ?_
      exact j_iret hx hm (by decide +kernel) rfl (he _)
    refine j_runA hx 3 (tb := [(24, .iload_n 0), (25, .bipush 22), (27, .iconst 2)]) (jtb_ok (by decide +kernel)) (pc' := 28) (lv' := [(0, vI a0)]) (st' := [vI (kI 2), vI (kI 22), vI a0]) rfl ?_
    refine j_TI (j_callS (av := [vI a0, vI (kI 22), vI (kI 2)]) (st := []) hx hr (Or.inl q2963) q2964 q241 md_fmo_bits np_fmo_bits (cmo_bits a0 (kI 22) (kI 2) W) (by decide) (Nat.le_of_ble_eq_true rfl) (by decide +kernel)) ?_
    refine j_runA hx 1 (tb := [(31, .iconst 3)]) (jtb_ok (by decide +kernel)) (pc' := 32) (lv' := [(0, vI a0)]) (st' := [vI (kI 3), vI (fmo_bits a0 (kI 22) (kI 2))]) rfl ?_
    refine j_tot (j_icmp_ge hx (off := 14) (tgt := 46) (by decide +kernel) (by decide) (fun _ => ?_) (fun _ => ?_))
    · exact wmo_sort_46 h
    refine j_runA hx 1 (tb := [(35, .iload_n 0)]) (jtb_ok (by decide +kernel)) (pc' := 36) (lv' := [(0, vI a0)]) (st' := [vI a0]) rfl ?_
    refine j_TI (j_callS (av := [vI a0]) (st := []) hx hr (Or.inl q2966) q2967 q241 md_fmo_isMoved np_fmo_isMoved (cmo_isMoved a0 W) (by decide) (Nat.le_of_ble_eq_true rfl) (by decide +kernel)) ?_
    refine j_tot (j_if_eq hx (off := 7) (tgt := 46) (by decide +kernel) (by decide) (fun _ => ?_) (fun _ => ?_))
    · exact wmo_sort_46 h
    refine j_runA hx 1 (tb := [(42, .iconst 2)]) (jtb_ok (by decide +kernel)) (pc' := 43) (lv' := [(0, vI a0)]) (st' := [vI (kI 2)]) rfl ?_
    refine j_goto hx (off := 4) (by decide +kernel) (tgt := 47) (by decide) ?_
    exact j_iret hx hm (by decide +kernel) rfl (he _)
  refine j_runA hx 1 (tb := [(11, .iconst 1)]) (jtb_ok (by decide +kernel)) (pc' := 12) (lv' := [(0, vI a0)]) (st' := [vI (kI 1)]) rfl ?_
  exact j_iret hx hm (by decide +kernel) rfl (he _)
theorem cmo_sort (a0 : Int32) (W : jW) : jM yX8_sort cX8_sort 2 (Option.some Jvm.ClassFile.FieldType.int) [] 2 30 [vI a0] W (some (.returned (some (.int (fmo_sort a0))), W)) := 
  jM.of (mm := some (fmo_sort a0)) (en := fun q => some (.returned (some (.int q)), W)) (Nat.le_of_ble_eq_true rfl) (fun x hx hm hr => wmo_sort ⟨hx, hm, hr, fun _ => rfl⟩)
def hwn_settle (x : jCx) (en : (fwn_settle_S ⊕ (jW)) → Option (Outcome × jW)) (t : Nat) (a1 : Int64) : Prop :=
  jOK x RX10 cX10_settle 7 ∧
  jMt x "settle" (Option.none : Option Jvm.ClassFile.FieldType) [] ∧
  jRm x 3 43 ∧
  (∀ q : jW, en (.inr q) = some (.returned none, q)) ∧
  (∀ (l3 : Int32) (W : jW), jJ x 7 2 [(0, vR t), (1, vL a1), (3, vI l3)] [] W (some (.inl (.inl (l3, W)))) en) ∧
  (∀ (l3 : Int32) (l4 : Int32) (W : jW), jJ x 7 16 [(0, vR t), (1, vL a1), (3, vI l3), (4, vI l4)] [] W (some (.inl (.inr (l3, l4, W)))) en)
theorem wwn_settle_162 {x : jCx} {en : (fwn_settle_S ⊕ (jW)) → Option (Outcome × jW)} {t : Nat} {a1 : Int64} (h : hwn_settle x en t a1) (l3 : Int32) (l4 : Int32) (W : jW) : jJ x 7 162 [(0, vR t), (1, vL a1), (3, vI l3), (4, vI l4)] [] W (fwn_settle_162 t a1 l3 l4 W) en := by
  have h0 := h
  obtain ⟨hx, hm, hr, he, k2, k16⟩ := h0
  unfold fwn_settle_162
  refine j_runA hx 1 (tb := [(162, .iinc 4 1)]) (jtb_ok (by decide +kernel)) (pc' := 165) (lv' := [(4, vI (l4 + (kI 1))), (0, vR t), (1, vL a1), (3, vI l3)]) (st' := []) rfl ?_
  refine j_let (v := (l4 + (kI 1))) (lv := fun v30 => [(4, vI v30), (0, vR t), (1, vL a1), (3, vI l3)]) (st := fun _ => []) (fun v30 => ?_)
  refine j_goto hx (off := -149) (by decide +kernel) (tgt := 16) (by decide) ?_
  refine j_lv (lv' := [(0, vR t), (1, vL a1), (3, vI l3), (4, vI v30)]) ⟨rfl, rfl, rfl, rfl, trivial⟩ ?_
  exact k16 l3 v30 W
theorem wwn_settle_142 {x : jCx} {en : (fwn_settle_S ⊕ (jW)) → Option (Outcome × jW)} {t : Nat} {a1 : Int64} (h : hwn_settle x en t a1) (l4 : Int32) (W : jW) : jJ x 7 142 [(0, vR t), (1, vL a1), (4, vI l4)] [] W (fwn_settle_142 t a1 l4 W) en := by
  have h0 := h
  obtain ⟨hx, hm, hr, he, k2, k16⟩ := h0
  unfold fwn_settle_142
  refine j_runA hx 1 (tb := [(142, .aload_n 0)]) (jtb_ok (by decide +kernel)) (pc' := 143) (lv' := [(0, vR t), (1, vL a1), (4, vI l4)]) (st' := [vR t]) rfl ?_
  refine j_gd (fun h19 => ?_)
  refine j_getR hx flX10_22 kl1505 h19 (by decide) (by decide +kernel) ?_
  refine j_runA hx 2 (tb := [(146, .iload 4), (148, .iconst 1)]) (jtb_ok (by decide +kernel)) (pc' := 149) (lv' := [(0, vR t), (1, vL a1), (4, vI l4)]) (st' := [vI (kI 1), vI l4, vR (jR W 1505 t)]) rfl ?_
  refine j_gd (fun h20 => ?_)
  refine j_zast hx (f := 1505) (o := t) kd1505 rfl (by decide +kernel) h20 ?_
  refine j_ltw rfl (fun W21 hc22 => ?_)
  have h23 : jC W21 t = 15 := (congrFun hc22 _).trans h19
  refine j_runA hx 2 (tb := [(150, .aload_n 0), (151, .dup)]) (jtb_ok (by decide +kernel)) (pc' := 152) (lv' := [(0, vR t), (1, vL a1), (4, vI l4)]) (st' := [vR t, vR t]) rfl ?_
  refine j_getI hx flX10_36 kd1510 h23 (by decide) (by decide +kernel) ?_
  refine j_runA hx 2 (tb := [(155, .iconst 1), (156, .iadd)]) (jtb_ok (by decide +kernel)) (pc' := 157) (lv' := [(0, vR t), (1, vL a1), (4, vI l4)]) (st' := [vI ((jI W21 1510 t) + (kI 1)), vR t]) rfl ?_
  refine j_putI hx fwX10_36 wf1510 kd1510 h23 (by decide) (by decide +kernel) (ni1510 _) (fi1510 _) ?_
  refine j_ltw rfl (fun W25 hc26 => ?_)
  have h27 : jC W25 t = 15 := (congrFun hc26 _).trans h23
  refine j_runA hx 2 (tb := [(160, .iconst 1), (161, .istore_n 3)]) (jtb_ok (by decide +kernel)) (pc' := 162) (lv' := [(3, vI (kI 1)), (0, vR t), (1, vL a1), (4, vI l4)]) (st' := []) rfl ?_
  refine j_lv (lv' := [(0, vR t), (1, vL a1), (3, vI (kI 1)), (4, vI l4)]) ⟨rfl, rfl, rfl, rfl, trivial⟩ ?_
  exact wwn_settle_162 h (kI 1) l4 W25
theorem wwn_settle_122 {x : jCx} {en : (fwn_settle_S ⊕ (jW)) → Option (Outcome × jW)} {t : Nat} {a1 : Int64} (h : hwn_settle x en t a1) (l3 : Int32) (l4 : Int32) (l5 : Int32) (s0 : Int32) (W : jW) : jJ x 7 122 [(0, vR t), (1, vL a1), (3, vI l3), (4, vI l4), (5, vI l5)] [vI s0] W (fwn_settle_122 t a1 l3 l4 l5 s0 W) en := by
  have h0 := h
  obtain ⟨hx, hm, hr, he, k2, k16⟩ := h0
  unfold fwn_settle_122
  refine j_runA hx 4 (tb := [(122, .istore 6), (124, .iload 5), (126, .iload 6), (128, .ineg)]) (jtb_ok (by decide +kernel)) (pc' := 129) (lv' := [(6, vI s0), (0, vR t), (1, vL a1), (3, vI l3), (4, vI l4), (5, vI l5)]) (st' := [vI (-s0), vI l5]) rfl ?_
  refine j_icmp_lt hx (off := 13) (tgt := 142) (by decide +kernel) (by decide) (fun _ => ?_) (fun _ => ?_)
  · refine j_lv (lv' := [(0, vR t), (1, vL a1), (4, vI l4)]) ⟨rfl, rfl, rfl, trivial⟩ ?_
    exact wwn_settle_142 h l4 W
  refine j_runA hx 2 (tb := [(132, .iload 5), (134, .iload 6)]) (jtb_ok (by decide +kernel)) (pc' := 136) (lv' := [(6, vI s0), (0, vR t), (1, vL a1), (3, vI l3), (4, vI l4), (5, vI l5)]) (st' := [vI s0, vI l5]) rfl ?_
  refine j_icmp_ge hx (off := 6) (tgt := 142) (by decide +kernel) (by decide) (fun _ => ?_) (fun _ => ?_)
  · refine j_lv (lv' := [(0, vR t), (1, vL a1), (4, vI l4)]) ⟨rfl, rfl, rfl, trivial⟩ ?_
    exact wwn_settle_142 h l4 W
  refine j_goto hx (off := 23) (by decide +kernel) (tgt := 162) (by decide) ?_
  refine j_lv (lv' := [(0, vR t), (1, vL a1), (3, vI l3), (4, vI l4)]) ⟨rfl, rfl, rfl, rfl, trivial⟩ ?_
  exact wwn_settle_162 h l3 l4 W
theorem wwn_settle_16 {x : jCx} {en : (fwn_settle_S ⊕ (jW)) → Option (Outcome × jW)} {t : Nat} {a1 : Int64} (h : hwn_settle x en t a1) (l3 : Int32) (l4 : Int32) (W : jW) : jJ x 7 16 [(0, vR t), (1, vL a1), (3, vI l3), (4, vI l4)] [] W (fwn_settle_16 t a1 l3 l4 W) en := by
  have h0 := h
  obtain ⟨hx, hm, hr, he, k2, k16⟩ := h0
  unfold fwn_settle_16
  refine j_runA hx 2 (tb := [(16, .iload 4), (18, .aload_n 0)]) (jtb_ok (by decide +kernel)) (pc' := 19) (lv' := [(0, vR t), (1, vL a1), (3, vI l3), (4, vI l4)]) (st' := [vR t, vI l4]) rfl ?_
  refine j_gd (fun h6 => ?_)
  refine j_getR hx flX10_32 kl1500 h6 (by decide) (by decide +kernel) ?_
  refine j_gd (fun h7 => ?_)
  refine j_getI hx flX10_49 kd1312 h7 (by decide) (by decide +kernel) ?_
  refine j_icmp_ge hx (off := 143) (tgt := 168) (by decide +kernel) (by decide) (fun _ => ?_) (fun _ => ?_)
  · refine j_goto hx (off := -166) (by decide +kernel) (tgt := 2) (by decide) ?_
    refine j_lv (lv' := [(0, vR t), (1, vL a1), (3, vI l3)]) ⟨rfl, rfl, rfl, trivial⟩ ?_
    exact k2 l3 W
  refine j_runA hx 1 (tb := [(28, .aload_n 0)]) (jtb_ok (by decide +kernel)) (pc' := 29) (lv' := [(0, vR t), (1, vL a1), (3, vI l3), (4, vI l4)]) (st' := [vR t]) rfl ?_
  refine j_getR hx flX10_32 kl1500 h6 (by decide) (by decide +kernel) ?_
  refine j_getR hx flX10_58 kl1325 h7 (by decide) (by decide +kernel) ?_
  refine j_runA hx 1 (tb := [(35, .iload 4)]) (jtb_ok (by decide +kernel)) (pc' := 37) (lv' := [(0, vR t), (1, vL a1), (3, vI l3), (4, vI l4)]) (st' := [vI l4, vR (jR W 1325 (jR W 1500 t))]) rfl ?_
  refine j_gd (fun h8 => ?_)
  refine j_iald hx (f := 1325) (o := (jR W 1500 t)) kd1325 rfl (by decide +kernel) h8 ?_
  refine j_runA hx 1 (tb := [(38, .iconst 3)]) (jtb_ok (by decide +kernel)) (pc' := 39) (lv' := [(0, vR t), (1, vL a1), (3, vI l3), (4, vI l4)]) (st' := [vI (kI 3), vI (jA W 1325 (jR W 1500 t) (ix l4))]) rfl ?_
  refine j_icmp_ne hx (off := 123) (tgt := 162) (by decide +kernel) (by decide) (fun _ => ?_) (fun _ => ?_)
  · exact wwn_settle_162 h l3 l4 W
  refine j_runA hx 1 (tb := [(42, .aload_n 0)]) (jtb_ok (by decide +kernel)) (pc' := 43) (lv' := [(0, vR t), (1, vL a1), (3, vI l3), (4, vI l4)]) (st' := [vR t]) rfl ?_
  refine j_getR hx flX10_22 kl1505 h6 (by decide) (by decide +kernel) ?_
  refine j_runA hx 1 (tb := [(46, .iload 4)]) (jtb_ok (by decide +kernel)) (pc' := 48) (lv' := [(0, vR t), (1, vL a1), (3, vI l3), (4, vI l4)]) (st' := [vI l4, vR (jR W 1505 t)]) rfl ?_
  refine j_gd (fun h9 => ?_)
  refine j_zald hx (f := 1505) (o := t) kd1505 rfl (by decide +kernel) h9 ?_
  refine j_if_eq hx (off := 6) (tgt := 55) (by decide +kernel) (by decide) (fun _ => ?_) (fun _ => ?_)
  · refine j_runA hx 1 (tb := [(55, .aload_n 0)]) (jtb_ok (by decide +kernel)) (pc' := 56) (lv' := [(0, vR t), (1, vL a1), (3, vI l3), (4, vI l4)]) (st' := [vR t]) rfl ?_
    refine j_getR hx flX10_15 kl1503 h6 (by decide) (by decide +kernel) ?_
    refine j_runA hx 2 (tb := [(59, .aload_n 0), (60, .iload 4)]) (jtb_ok (by decide +kernel)) (pc' := 62) (lv' := [(0, vR t), (1, vL a1), (3, vI l3), (4, vI l4)]) (st' := [vI l4, vR t, vR (jR W 1503 t)]) rfl ?_
    refine j_OI (j_callV (av := [vI l4]) (st := [vR (jR W 1503 t)]) hx hr (Or.inl q3156) q3157 q3158 rfl md_fwn_goal np_fwn_goal (cwn_goal t l4 W) (by decide) (Nat.le_of_ble_eq_true rfl) h6 (by decide) (by decide +kernel)) (fun q10 _ => ?_)
    refine j_gd (fun h11 => ?_)
    refine j_iald hx (f := 1503) (o := t) kd1503 rfl (by decide +kernel) h11 ?_
    refine j_runA hx 1 (tb := [(66, .aload_n 0)]) (jtb_ok (by decide +kernel)) (pc' := 67) (lv' := [(0, vR t), (1, vL a1), (3, vI l3), (4, vI l4)]) (st' := [vR t, vI (jA W 1503 t (ix q10))]) rfl ?_
    refine j_getR hx flX10_15 kl1503 h6 (by decide) (by decide +kernel) ?_
    refine j_runA hx 1 (tb := [(70, .iload 4)]) (jtb_ok (by decide +kernel)) (pc' := 72) (lv' := [(0, vR t), (1, vL a1), (3, vI l3), (4, vI l4)]) (st' := [vI l4, vR (jR W 1503 t), vI (jA W 1503 t (ix q10))]) rfl ?_
    refine j_gd (fun h12 => ?_)
    refine j_iald hx (f := 1503) (o := t) kd1503 rfl (by decide +kernel) h12 ?_
    refine j_runA hx 1 (tb := [(73, .aload_n 0)]) (jtb_ok (by decide +kernel)) (pc' := 74) (lv' := [(0, vR t), (1, vL a1), (3, vI l3), (4, vI l4)]) (st' := [vR t, vI (jA W 1503 t (ix l4)), vI (jA W 1503 t (ix q10))]) rfl ?_
    refine j_getR hx flX10_32 kl1500 h6 (by decide) (by decide +kernel) ?_
    refine j_getR hx flX10_64 kl1323 h7 (by decide) (by decide +kernel) ?_
    refine j_runA hx 1 (tb := [(80, .iload 4)]) (jtb_ok (by decide +kernel)) (pc' := 82) (lv' := [(0, vR t), (1, vL a1), (3, vI l3), (4, vI l4)]) (st' := [vI l4, vR (jR W 1323 (jR W 1500 t)), vI (jA W 1503 t (ix l4)), vI (jA W 1503 t (ix q10))]) rfl ?_
    refine j_gd (fun h13 => ?_)
    refine j_iald hx (f := 1323) (o := (jR W 1500 t)) kd1323 rfl (by decide +kernel) h13 ?_
    refine j_runA hx 5 (tb := [(83, .iadd), (84, .iconst 1), (85, .isub), (86, .isub), (87, .istore 5)]) (jtb_ok (by decide +kernel)) (pc' := 89) (lv' := [(5, vI ((jA W 1503 t (ix q10)) - (((jA W 1503 t (ix l4)) + (jA W 1323 (jR W 1500 t) (ix l4))) - (kI 1)))), (0, vR t), (1, vL a1), (3, vI l3), (4, vI l4)]) (st' := []) rfl ?_
    refine j_let (v := ((jA W 1503 t (ix q10)) - (((jA W 1503 t (ix l4)) + (jA W 1323 (jR W 1500 t) (ix l4))) - (kI 1)))) (lv := fun v14 => [(5, vI v14), (0, vR t), (1, vL a1), (3, vI l3), (4, vI l4)]) (st := fun _ => []) (fun v14 => ?_)
    refine j_runA hx 1 (tb := [(89, .aload_n 0)]) (jtb_ok (by decide +kernel)) (pc' := 90) (lv' := [(5, vI v14), (0, vR t), (1, vL a1), (3, vI l3), (4, vI l4)]) (st' := [vR t]) rfl ?_
    refine j_getR hx flX10_32 kl1500 h6 (by decide) (by decide +kernel) ?_
    refine j_getR hx flX10_86 kl1315 h7 (by decide) (by decide +kernel) ?_
    refine j_runA hx 1 (tb := [(96, .aload_n 0)]) (jtb_ok (by decide +kernel)) (pc' := 97) (lv' := [(5, vI v14), (0, vR t), (1, vL a1), (3, vI l3), (4, vI l4)]) (st' := [vR t, vR (jR W 1315 (jR W 1500 t))]) rfl ?_
    refine j_getR hx flX10_32 kl1500 h6 (by decide) (by decide +kernel) ?_
    refine j_runA hx 1 (tb := [(100, .iload 4)]) (jtb_ok (by decide +kernel)) (pc' := 102) (lv' := [(5, vI v14), (0, vR t), (1, vL a1), (3, vI l3), (4, vI l4)]) (st' := [vI l4, vR (jR W 1500 t), vR (jR W 1315 (jR W 1500 t))]) rfl ?_
    refine j_OI (j_callV (av := [vI l4]) (st := [vR (jR W 1315 (jR W 1500 t))]) hx hr (Or.inr ⟨_, q3160⟩) q3065 qs147 rfl md_fmo_last np_fmo_last (cmo_last (jR W 1500 t) l4 W) (by decide) (Nat.le_of_ble_eq_true rfl) h7 (by decide) (by decide +kernel)) (fun q15 _ => ?_)
    refine j_gd (fun h16 => ?_)
    refine j_iald hx (f := 1315) (o := (jR W 1500 t)) kd1315 rfl (by decide +kernel) h16 ?_
    refine j_TI (j_callS (av := [vI (jA W 1315 (jR W 1500 t) (ix q15))]) (st := []) hx hr (Or.inr ⟨_, q3161⟩) q2954 q241 md_fmo_sort np_fmo_sort (cmo_sort (jA W 1315 (jR W 1500 t) (ix q15)) W) (by decide) (Nat.le_of_ble_eq_true rfl) (by decide +kernel)) ?_
    refine j_runA hx 1 (tb := [(109, .bipush 16)]) (jtb_ok (by decide +kernel)) (pc' := 111) (lv' := [(5, vI v14), (0, vR t), (1, vL a1), (3, vI l3), (4, vI l4)]) (st' := [vI (kI 16), vI (fmo_sort (jA W 1315 (jR W 1500 t) (ix q15)))]) rfl ?_
    refine j_icmp_ne hx (off := 9) (tgt := 120) (by decide +kernel) (by decide) (fun _ => ?_) (fun _ => ?_)
    · refine j_ldc hx (v := (kI 262144)) (jkc q3162 (by decide +kernel)) (by decide +kernel) ?_
      refine j_lv (lv' := [(0, vR t), (1, vL a1), (3, vI l3), (4, vI l4), (5, vI v14)]) ⟨rfl, rfl, rfl, rfl, rfl, trivial⟩ ?_
      exact wwn_settle_122 h l3 l4 v14 (kI 262144) W
    refine j_runA hx 1 (tb := [(114, .sipush 8192)]) (jtb_ok (by decide +kernel)) (pc' := 117) (lv' := [(5, vI v14), (0, vR t), (1, vL a1), (3, vI l3), (4, vI l4)]) (st' := [vI (kI 8192)]) rfl ?_
    refine j_goto hx (off := 5) (by decide +kernel) (tgt := 122) (by decide) ?_
    refine j_lv (lv' := [(0, vR t), (1, vL a1), (3, vI l3), (4, vI l4), (5, vI v14)]) ⟨rfl, rfl, rfl, rfl, rfl, trivial⟩ ?_
    exact wwn_settle_122 h l3 l4 v14 (kI 8192) W
  refine j_goto hx (off := 110) (by decide +kernel) (tgt := 162) (by decide) ?_
  exact wwn_settle_162 h l3 l4 W
theorem wwn_settle_2 {x : jCx} {en : (fwn_settle_S ⊕ (jW)) → Option (Outcome × jW)} {t : Nat} {a1 : Int64} (h : hwn_settle x en t a1) (l3 : Int32) (W : jW) : jJ x 7 2 [(0, vR t), (1, vL a1), (3, vI l3)] [] W (fwn_settle_2 t a1 l3 W) en := by
  have h0 := h
  obtain ⟨hx, hm, hr, he, k2, k16⟩ := h0
  unfold fwn_settle_2
  refine j_runA hx 1 (tb := [(2, .iload_n 3)]) (jtb_ok (by decide +kernel)) (pc' := 3) (lv' := [(0, vR t), (1, vL a1), (3, vI l3)]) (st' := [vI l3]) rfl ?_
  refine j_if_eq hx (off := 168) (tgt := 171) (by decide +kernel) (by decide) (fun _ => ?_) (fun _ => ?_)
  · exact j_vret hx hm (by decide +kernel) (he _)
  refine j_runA hx 2 (tb := [(6, .aload_n 0), (7, .lload_n 1)]) (jtb_ok (by decide +kernel)) (pc' := 8) (lv' := [(0, vR t), (1, vL a1), (3, vI l3)]) (st' := [vL a1, vR t]) rfl ?_
  refine j_gd (fun h2 => ?_)
  refine j_WV (j_callV (av := [vL a1]) (st := []) hx hr (Or.inl q3147) q3148 q3149 rfl md_fwn_putAll np_fwn_putAll (cwn_putAll t a1 W) (by decide) (Nat.le_of_ble_eq_true rfl) h2 (by decide) (by decide +kernel)) (fun q3 _ => ?_)
  refine j_runA hx 4 (tb := [(11, .iconst 0), (12, .istore_n 3), (13, .iconst 0), (14, .istore 4)]) (jtb_ok (by decide +kernel)) (pc' := 16) (lv' := [(4, vI (kI 0)), (3, vI (kI 0)), (0, vR t), (1, vL a1)]) (st' := []) rfl ?_
  refine j_lv (lv' := [(0, vR t), (1, vL a1), (3, vI (kI 0)), (4, vI (kI 0))]) ⟨rfl, rfl, rfl, rfl, trivial⟩ ?_
  exact k16 (kI 0) (kI 0) q3
theorem wwn_settle {x : jCx} {en : (fwn_settle_S ⊕ (jW)) → Option (Outcome × jW)} {t : Nat} {a1 : Int64} (h : hwn_settle x en t a1) (W : jW) : jJ x 7 0 [(0, vR t), (1, vL a1)] [] W (fwn_settle_0 t a1 W) en := by
  have h0 := h
  obtain ⟨hx, hm, hr, he, k2, k16⟩ := h0
  unfold fwn_settle_0
  refine j_runA hx 2 (tb := [(0, .iconst 1), (1, .istore_n 3)]) (jtb_ok (by decide +kernel)) (pc' := 2) (lv' := [(3, vI (kI 1)), (0, vR t), (1, vL a1)]) (st' := []) rfl ?_
  refine j_lv (lv' := [(0, vR t), (1, vL a1), (3, vI (kI 1))]) ⟨rfl, rfl, rfl, trivial⟩ ?_
  exact k2 (kI 1) W
theorem cwn_settle (t : Nat) (a1 : Int64) (W : jW) : jM yX10_settle cX10_settle 7 (Option.none : Option Jvm.ClassFile.FieldType) [] 3 43 [vR t, vL a1] W ((fwn_settle t a1 W).bind (fun q => some (.returned none, q))) := by
  refine jM.of (Nat.le_of_ble_eq_true rfl) (fun x hx hm hr => ?_)
  refine j_begin (P := (Sum.elim (fun s => (2, [(0, vR t), (1, vL a1), (3, vI s.1)], s.2)) (fun s => (16, [(0, vR t), (1, vL a1), (3, vI s.1), (4, vI s.2.1)], s.2.2)))) (fun en he hk => ?_)
  have h : hwn_settle x en t a1 := ⟨hx, hm, hr, fun q => he _, fun l3 W => hk (.inl (l3, W)), fun l3 l4 W => hk (.inr (l3, l4, W))⟩
  refine ⟨fun s => ?_, wwn_settle h W⟩
  rcases s with s | s
  · exact wwn_settle_2 h s.1 s.2
  · exact wwn_settle_16 h s.1 s.2.1 s.2.2
def hwn_turned (x : jCx) (en : (Int32) → Option (Outcome × jW)) (t : Nat) (a1 : Int32) (W : jW) : Prop :=
  jOK x RX10 cX10_turned 2 ∧
  jMt x "turned" (Option.some Jvm.ClassFile.FieldType.int) [] ∧
  jRm x 3 43 ∧
  (∀ q : Int32, en q = some (.returned (some (.int q)), W))
theorem wwn_turned {x : jCx} {en : (Int32) → Option (Outcome × jW)} {W : jW} {t : Nat} {a1 : Int32} (h : hwn_turned x en t a1 W) : jJ x 2 0 [(0, vR t), (1, vI a1)] [] W (some (fwn_turned t a1)) en := by
  have h0 := h
  obtain ⟨hx, hm, hr, he⟩ := h0
  unfold fwn_turned
  refine j_runA hx 1 (tb := [(0, .iload_n 1)]) (jtb_ok (by decide +kernel)) (pc' := 1) (lv' := [(0, vR t), (1, vI a1)]) (st' := [vI a1]) rfl ?_
  refine j_TI (j_callS (av := [vI a1]) (st := []) hx hr (Or.inr ⟨_, q3161⟩) q2954 q241 md_fmo_sort np_fmo_sort (cmo_sort a1 W) (by decide) (Nat.le_of_ble_eq_true rfl) (by decide +kernel)) ?_
  refine j_runA hx 1 (tb := [(4, .bipush 14)]) (jtb_ok (by decide +kernel)) (pc' := 6) (lv' := [(0, vR t), (1, vI a1)]) (st' := [vI (kI 14), vI (fmo_sort a1)]) rfl ?_
  refine j_tot (j_icmp_ne hx (off := 9) (tgt := 15) (by decide +kernel) (by decide) (fun _ => ?_) (fun _ => ?_))
  · refine j_runA hx 1 (tb := [(15, .iload_n 1)]) (jtb_ok (by decide +kernel)) (pc' := 16) (lv' := [(0, vR t), (1, vI a1)]) (st' := [vI a1]) rfl ?_
    refine j_ldc hx (v := (kI 16777216)) (jkc q3176 (by decide +kernel)) (by decide +kernel) ?_
    refine j_runA hx 1 (tb := [(18, .ixor)]) (jtb_ok (by decide +kernel)) (pc' := 19) (lv' := [(0, vR t), (1, vI a1)]) (st' := [vI (a1 ^^^ (kI 16777216))]) rfl ?_
    exact j_iret hx hm (by decide +kernel) rfl (he _)
  refine j_runA hx 3 (tb := [(9, .iload_n 1), (10, .iconst 1), (11, .ixor)]) (jtb_ok (by decide +kernel)) (pc' := 12) (lv' := [(0, vR t), (1, vI a1)]) (st' := [vI (a1 ^^^ (kI 1))]) rfl ?_
  refine j_goto hx (off := 7) (by decide +kernel) (tgt := 19) (by decide) ?_
  exact j_iret hx hm (by decide +kernel) rfl (he _)
theorem cwn_turned (t : Nat) (a1 : Int32) (W : jW) : jM yX10_turned cX10_turned 2 (Option.some Jvm.ClassFile.FieldType.int) [] 3 43 [vR t, vI a1] W (some (.returned (some (.int (fwn_turned t a1))), W)) := 
  jM.of (mm := some (fwn_turned t a1)) (en := fun q => some (.returned (some (.int q)), W)) (Nat.le_of_ble_eq_true rfl) (fun x hx hm hr => wwn_turned ⟨hx, hm, hr, fun _ => rfl⟩)
def hwn_aimed (x : jCx) (en : (Int32 × jW) → Option (Outcome × jW)) (t : Nat) (a1 : Int32) (a2 : Int32) : Prop :=
  jOK x RX10 cX10_aimed 7 ∧
  jMt x "aimed" (Option.some Jvm.ClassFile.FieldType.int) [] ∧
  jRm x 3 43 ∧
  (∀ q : Int32 × jW, en q = some (.returned (some (.int q.1)), q.2))
theorem wwn_aimed_80 {x : jCx} {en : (Int32 × jW) → Option (Outcome × jW)} {t : Nat} {a1 : Int32} {a2 : Int32} (h : hwn_aimed x en t a1 a2) (l4 : Int32) (s0 : Int32) (W : jW) : jJ x 7 80 [(0, vR t), (1, vI a1), (2, vI a2), (4, vI l4)] [vI s0] W (fwn_aimed_80 t a1 a2 l4 s0 W) en := by
  have h0 := h
  obtain ⟨hx, hm, hr, he⟩ := h0
  unfold fwn_aimed_80
  refine j_runA hx 9 (tb := [(80, .istore 5), (82, .iconst 1), (83, .iload 4), (85, .ishl), (86, .iconst 1), (87, .isub), (88, .iload 5), (90, .ishl), (91, .istore 6)]) (jtb_ok (by decide +kernel)) (pc' := 93) (lv' := [(6, vI (ixl ((ixl (kI 1) l4) - (kI 1)) s0)), (5, vI s0), (0, vR t), (1, vI a1), (2, vI a2), (4, vI l4)]) (st' := []) rfl ?_
  refine j_let (v := (ixl ((ixl (kI 1) l4) - (kI 1)) s0)) (lv := fun v5 => [(6, vI v5), (5, vI s0), (0, vR t), (1, vI a1), (2, vI a2), (4, vI l4)]) (st := fun _ => []) (fun v5 => ?_)
  refine j_runA hx 11 (tb := [(93, .iload_n 1), (94, .iload 6), (96, .iconst (-1)), (97, .ixor), (98, .iand), (99, .iload_n 2), (100, .iload 5), (102, .ishl), (103, .iload 6), (105, .iand), (106, .ior)]) (jtb_ok (by decide +kernel)) (pc' := 107) (lv' := [(6, vI v5), (5, vI s0), (0, vR t), (1, vI a1), (2, vI a2), (4, vI l4)]) (st' := [vI ((a1 &&& (v5 ^^^ (kI (-1)))) ||| ((ixl a2 s0) &&& v5))]) rfl ?_
  exact j_iret hx hm (by decide +kernel) rfl (he _)
theorem wwn_aimed_68 {x : jCx} {en : (Int32 × jW) → Option (Outcome × jW)} {t : Nat} {a1 : Int32} {a2 : Int32} (h : hwn_aimed x en t a1 a2) (l4 : Int32) (W : jW) : jJ x 7 68 [(0, vR t), (1, vI a1), (2, vI a2), (4, vI l4)] [] W (fwn_aimed_68 t a1 a2 l4 W) en := by
  have h0 := h
  obtain ⟨hx, hm, hr, he⟩ := h0
  unfold fwn_aimed_68
  refine j_runA hx 2 (tb := [(68, .iload 4), (70, .bipush 26)]) (jtb_ok (by decide +kernel)) (pc' := 72) (lv' := [(0, vR t), (1, vI a1), (2, vI a2), (4, vI l4)]) (st' := [vI (kI 26), vI l4]) rfl ?_
  refine j_icmp_ne hx (off := 7) (tgt := 79) (by decide +kernel) (by decide) (fun _ => ?_) (fun _ => ?_)
  · refine j_runA hx 1 (tb := [(79, .iconst 5)]) (jtb_ok (by decide +kernel)) (pc' := 80) (lv' := [(0, vR t), (1, vI a1), (2, vI a2), (4, vI l4)]) (st' := [vI (kI 5)]) rfl ?_
    exact wwn_aimed_80 h l4 (kI 5) W
  refine j_runA hx 1 (tb := [(75, .iconst 0)]) (jtb_ok (by decide +kernel)) (pc' := 76) (lv' := [(0, vR t), (1, vI a1), (2, vI a2), (4, vI l4)]) (st' := [vI (kI 0)]) rfl ?_
  refine j_goto hx (off := 4) (by decide +kernel) (tgt := 80) (by decide) ?_
  exact wwn_aimed_80 h l4 (kI 0) W
theorem wwn_aimed_58 {x : jCx} {en : (Int32 × jW) → Option (Outcome × jW)} {t : Nat} {a1 : Int32} {a2 : Int32} (h : hwn_aimed x en t a1 a2) (l4 : Int32) (W : jW) : jJ x 7 58 [(0, vR t), (1, vI a1), (2, vI a2), (4, vI l4)] [] W (fwn_aimed_58 t a1 a2 l4 W) en := by
  have h0 := h
  obtain ⟨hx, hm, hr, he⟩ := h0
  unfold fwn_aimed_58
  refine j_runA hx 2 (tb := [(58, .aload_n 0), (59, .dup)]) (jtb_ok (by decide +kernel)) (pc' := 60) (lv' := [(0, vR t), (1, vI a1), (2, vI a2), (4, vI l4)]) (st' := [vR t, vR t]) rfl ?_
  refine j_gd (fun h7 => ?_)
  refine j_getI hx flX10_116 kd1509 h7 (by decide) (by decide +kernel) ?_
  refine j_runA hx 2 (tb := [(63, .iconst 1), (64, .iadd)]) (jtb_ok (by decide +kernel)) (pc' := 65) (lv' := [(0, vR t), (1, vI a1), (2, vI a2), (4, vI l4)]) (st' := [vI ((jI W 1509 t) + (kI 1)), vR t]) rfl ?_
  refine j_putI hx fwX10_116 wf1509 kd1509 h7 (by decide) (by decide +kernel) (ni1509 _) (fi1509 _) ?_
  refine j_ltw rfl (fun W8 hc9 => ?_)
  have h10 : jC W8 t = 15 := (congrFun hc9 _).trans h7
  exact wwn_aimed_68 h l4 W8
theorem wwn_aimed_35 {x : jCx} {en : (Int32 × jW) → Option (Outcome × jW)} {t : Nat} {a1 : Int32} {a2 : Int32} (h : hwn_aimed x en t a1 a2) (s0 : Int32) (W : jW) : jJ x 7 35 [(0, vR t), (1, vI a1), (2, vI a2)] [vI s0] W (fwn_aimed_35 t a1 a2 s0 W) en := by
  have h0 := h
  obtain ⟨hx, hm, hr, he⟩ := h0
  unfold fwn_aimed_35
  refine j_runA hx 8 (tb := [(35, .istore 4), (37, .iload_n 2), (38, .iconst 1), (39, .iload 4), (41, .iconst 1), (42, .isub), (43, .ishl), (44, .ineg)]) (jtb_ok (by decide +kernel)) (pc' := 45) (lv' := [(4, vI s0), (0, vR t), (1, vI a1), (2, vI a2)]) (st' := [vI (-(ixl (kI 1) (s0 - (kI 1)))), vI a2]) rfl ?_
  refine j_icmp_lt hx (off := 13) (tgt := 58) (by decide +kernel) (by decide) (fun _ => ?_) (fun _ => ?_)
  · refine j_lv (lv' := [(0, vR t), (1, vI a1), (2, vI a2), (4, vI s0)]) ⟨rfl, rfl, rfl, rfl, trivial⟩ ?_
    exact wwn_aimed_58 h s0 W
  refine j_runA hx 6 (tb := [(48, .iload_n 2), (49, .iconst 1), (50, .iload 4), (52, .iconst 1), (53, .isub), (54, .ishl)]) (jtb_ok (by decide +kernel)) (pc' := 55) (lv' := [(4, vI s0), (0, vR t), (1, vI a1), (2, vI a2)]) (st' := [vI (ixl (kI 1) (s0 - (kI 1))), vI a2]) rfl ?_
  refine j_icmp_lt hx (off := 13) (tgt := 68) (by decide +kernel) (by decide) (fun _ => ?_) (fun _ => ?_)
  · refine j_lv (lv' := [(0, vR t), (1, vI a1), (2, vI a2), (4, vI s0)]) ⟨rfl, rfl, rfl, rfl, trivial⟩ ?_
    exact wwn_aimed_68 h s0 W
  refine j_lv (lv' := [(0, vR t), (1, vI a1), (2, vI a2), (4, vI s0)]) ⟨rfl, rfl, rfl, rfl, trivial⟩ ?_
  exact wwn_aimed_58 h s0 W
theorem wwn_aimed_17 {x : jCx} {en : (Int32 × jW) → Option (Outcome × jW)} {t : Nat} {a1 : Int32} {a2 : Int32} (h : hwn_aimed x en t a1 a2) (W : jW) : jJ x 7 17 [(0, vR t), (1, vI a1), (2, vI a2)] [] W (fwn_aimed_17 t a1 a2 W) en := by
  have h0 := h
  obtain ⟨hx, hm, hr, he⟩ := h0
  unfold fwn_aimed_17
  refine j_runA hx 1 (tb := [(17, .bipush 26)]) (jtb_ok (by decide +kernel)) (pc' := 19) (lv' := [(0, vR t), (1, vI a1), (2, vI a2)]) (st' := [vI (kI 26)]) rfl ?_
  refine j_goto hx (off := 16) (by decide +kernel) (tgt := 35) (by decide) ?_
  exact wwn_aimed_35 h (kI 26) W
theorem wwn_aimed {x : jCx} {en : (Int32 × jW) → Option (Outcome × jW)} {t : Nat} {a1 : Int32} {a2 : Int32} (h : hwn_aimed x en t a1 a2) (W : jW) : jJ x 7 0 [(0, vR t), (1, vI a1), (2, vI a2)] [] W (fwn_aimed t a1 a2 W) en := by
  have h0 := h
  obtain ⟨hx, hm, hr, he⟩ := h0
  unfold fwn_aimed
  refine j_runA hx 1 (tb := [(0, .iload_n 1)]) (jtb_ok (by decide +kernel)) (pc' := 1) (lv' := [(0, vR t), (1, vI a1), (2, vI a2)]) (st' := [vI a1]) rfl ?_
  refine j_TI (j_callS (av := [vI a1]) (st := []) hx hr (Or.inr ⟨_, q3161⟩) q2954 q241 md_fmo_sort np_fmo_sort (cmo_sort a1 W) (by decide) (Nat.le_of_ble_eq_true rfl) (by decide +kernel)) ?_
  refine j_runA hx 1 (tb := [(4, .istore_n 3)]) (jtb_ok (by decide +kernel)) (pc' := 5) (lv' := [(3, vI (fmo_sort a1)), (0, vR t), (1, vI a1), (2, vI a2)]) (st' := []) rfl ?_
  refine j_let (v := (fmo_sort a1)) (lv := fun v1 => [(3, vI v1), (0, vR t), (1, vI a1), (2, vI a2)]) (st := fun _ => []) (fun v1 => ?_)
  refine j_runA hx 2 (tb := [(5, .iload_n 3), (6, .bipush 12)]) (jtb_ok (by decide +kernel)) (pc' := 8) (lv' := [(3, vI v1), (0, vR t), (1, vI a1), (2, vI a2)]) (st' := [vI (kI 12), vI v1]) rfl ?_
  refine j_icmp_eq hx (off := 9) (tgt := 17) (by decide +kernel) (by decide) (fun _ => ?_) (fun _ => ?_)
  · refine j_lv (lv' := [(0, vR t), (1, vI a1), (2, vI a2)]) ⟨rfl, rfl, rfl, trivial⟩ ?_
    exact wwn_aimed_17 h W
  refine j_runA hx 2 (tb := [(11, .iload_n 3), (12, .bipush 13)]) (jtb_ok (by decide +kernel)) (pc' := 14) (lv' := [(3, vI v1), (0, vR t), (1, vI a1), (2, vI a2)]) (st' := [vI (kI 13), vI v1]) rfl ?_
  refine j_icmp_ne hx (off := 8) (tgt := 22) (by decide +kernel) (by decide) (fun _ => ?_) (fun _ => ?_)
  · refine j_runA hx 2 (tb := [(22, .iload_n 3), (23, .bipush 16)]) (jtb_ok (by decide +kernel)) (pc' := 25) (lv' := [(3, vI v1), (0, vR t), (1, vI a1), (2, vI a2)]) (st' := [vI (kI 16), vI v1]) rfl ?_
    refine j_icmp_ne hx (off := 8) (tgt := 33) (by decide +kernel) (by decide) (fun _ => ?_) (fun _ => ?_)
    · refine j_runA hx 1 (tb := [(33, .bipush 19)]) (jtb_ok (by decide +kernel)) (pc' := 35) (lv' := [(3, vI v1), (0, vR t), (1, vI a1), (2, vI a2)]) (st' := [vI (kI 19)]) rfl ?_
      refine j_lv (lv' := [(0, vR t), (1, vI a1), (2, vI a2)]) ⟨rfl, rfl, rfl, trivial⟩ ?_
      exact wwn_aimed_35 h (kI 19) W
    refine j_runA hx 1 (tb := [(28, .bipush 14)]) (jtb_ok (by decide +kernel)) (pc' := 30) (lv' := [(3, vI v1), (0, vR t), (1, vI a1), (2, vI a2)]) (st' := [vI (kI 14)]) rfl ?_
    refine j_goto hx (off := 5) (by decide +kernel) (tgt := 35) (by decide) ?_
    refine j_lv (lv' := [(0, vR t), (1, vI a1), (2, vI a2)]) ⟨rfl, rfl, rfl, trivial⟩ ?_
    exact wwn_aimed_35 h (kI 14) W
  refine j_lv (lv' := [(0, vR t), (1, vI a1), (2, vI a2)]) ⟨rfl, rfl, rfl, trivial⟩ ?_
  exact wwn_aimed_17 h W
theorem cwn_aimed (t : Nat) (a1 : Int32) (a2 : Int32) (W : jW) : jM yX10_aimed cX10_aimed 7 (Option.some Jvm.ClassFile.FieldType.int) [] 3 43 [vR t, vI a1, vI a2] W ((fwn_aimed t a1 a2 W).bind (fun q => some (.returned (some (.int q.1)), q.2))) := 
  jM.of (Nat.le_of_ble_eq_true rfl) (fun x hx hm hr => wwn_aimed ⟨hx, hm, hr, fun _ => rfl⟩ W)
def hwn_jump (x : jCx) (en : (Int32 × jW) → Option (Outcome × jW)) (t : Nat) (a1 : Int32) (a2 : Int32) : Prop :=
  jOK x RX10 cX10_jump 3 ∧
  jMt x "jump" (Option.some Jvm.ClassFile.FieldType.int) [] ∧
  jRm x 4 61 ∧
  (∀ q : Int32 × jW, en q = some (.returned (some (.int q.1)), q.2))
theorem wwn_jump {x : jCx} {en : (Int32 × jW) → Option (Outcome × jW)} {t : Nat} {a1 : Int32} {a2 : Int32} (h : hwn_jump x en t a1 a2) (W : jW) : jJ x 3 0 [(0, vR t), (1, vI a1), (2, vI a2)] [] W (fwn_jump t a1 a2 W) en := by
  have h0 := h
  obtain ⟨hx, hm, hr, he⟩ := h0
  unfold fwn_jump
  refine j_runA hx 1 (tb := [(0, .aload_n 0)]) (jtb_ok (by decide +kernel)) (pc' := 1) (lv' := [(0, vR t), (1, vI a1), (2, vI a2)]) (st' := [vR t]) rfl ?_
  refine j_ldc hx (v := (kI 335544320)) (jkc q3185 (by decide +kernel)) (by decide +kernel) ?_
  refine j_runA hx 1 (tb := [(3, .aload_n 0)]) (jtb_ok (by decide +kernel)) (pc' := 4) (lv' := [(0, vR t), (1, vI a1), (2, vI a2)]) (st' := [vR t, vI (kI 335544320), vR t]) rfl ?_
  refine j_gd (fun h1 => ?_)
  refine j_getR hx flX10_15 kl1503 h1 (by decide) (by decide +kernel) ?_
  refine j_runA hx 1 (tb := [(7, .iload_n 2)]) (jtb_ok (by decide +kernel)) (pc' := 8) (lv' := [(0, vR t), (1, vI a1), (2, vI a2)]) (st' := [vI a2, vR (jR W 1503 t), vI (kI 335544320), vR t]) rfl ?_
  refine j_gd (fun h2 => ?_)
  refine j_iald hx (f := 1503) (o := t) kd1503 rfl (by decide +kernel) h2 ?_
  refine j_runA hx 2 (tb := [(9, .iload_n 1), (10, .isub)]) (jtb_ok (by decide +kernel)) (pc' := 11) (lv' := [(0, vR t), (1, vI a1), (2, vI a2)]) (st' := [vI ((jA W 1503 t (ix a2)) - a1), vI (kI 335544320), vR t]) rfl ?_
  refine j_WI (j_callV (av := [vI (kI 335544320), vI ((jA W 1503 t (ix a2)) - a1)]) (st := []) hx hr (Or.inl q3177) q3179 qs158 rfl md_fwn_aimed np_fwn_aimed (cwn_aimed t (kI 335544320) ((jA W 1503 t (ix a2)) - a1) W) (by decide) (Nat.le_of_ble_eq_true rfl) h1 (by decide) (by decide +kernel)) (fun q3 _ => ?_)
  exact j_iret hx hm (by decide +kernel) rfl (he _)
theorem cwn_jump (t : Nat) (a1 : Int32) (a2 : Int32) (W : jW) : jM yX10_jump cX10_jump 3 (Option.some Jvm.ClassFile.FieldType.int) [] 4 61 [vR t, vI a1, vI a2] W ((fwn_jump t a1 a2 W).bind (fun q => some (.returned (some (.int q.1)), q.2))) := 
  jM.of (Nat.le_of_ble_eq_true rfl) (fun x hx hm hr => wwn_jump ⟨hx, hm, hr, fun _ => rfl⟩ W)
def hmo_signed (x : jCx) (en : (Int32) → Option (Outcome × jW)) (a0 : Int32) (a1 : Int32) (a2 : Int32) (W : jW) : Prop :=
  jOK x RX8 cX8_signed 3 ∧
  jMt x "signed" (Option.some Jvm.ClassFile.FieldType.int) [] ∧
  jRm x 0 0 ∧
  (∀ q : Int32, en q = some (.returned (some (.int q)), W))
theorem wmo_signed {x : jCx} {en : (Int32) → Option (Outcome × jW)} {W : jW} {a0 : Int32} {a1 : Int32} {a2 : Int32} (h : hmo_signed x en a0 a1 a2 W) : jJ x 3 0 [(0, vI a0), (1, vI a1), (2, vI a2)] [] W (some (fmo_signed a0 a1 a2)) en := by
  have h0 := h
  obtain ⟨hx, hm, hr, he⟩ := h0
  unfold fmo_signed
  refine j_runA hx 11 (tb := [(0, .iload_n 0), (1, .bipush 32), (3, .iload_n 1), (4, .isub), (5, .iload_n 2), (6, .isub), (7, .ishl), (8, .bipush 32), (10, .iload_n 2), (11, .isub), (12, .ishr)]) (jtb_ok (by decide +kernel)) (pc' := 13) (lv' := [(0, vI a0), (1, vI a1), (2, vI a2)]) (st' := [vI (ixr (ixl a0 (((kI 32) - a1) - a2)) ((kI 32) - a2))]) rfl ?_
  exact j_iret hx hm (by decide +kernel) rfl (he _)
theorem cmo_signed (a0 : Int32) (a1 : Int32) (a2 : Int32) (W : jW) : jM yX8_signed cX8_signed 3 (Option.some Jvm.ClassFile.FieldType.int) [] 0 0 [vI a0, vI a1, vI a2] W (some (.returned (some (.int (fmo_signed a0 a1 a2))), W)) := 
  jM.of (mm := some (fmo_signed a0 a1 a2)) (en := fun q => some (.returned (some (.int q)), W)) (Nat.le_of_ble_eq_true rfl) (fun x hx hm hr => wmo_signed ⟨hx, hm, hr, fun _ => rfl⟩)
def hmo_far (x : jCx) (en : (Int32) → Option (Outcome × jW)) (a0 : Int32) (a1 : Int32) (W : jW) : Prop :=
  jOK x RX8 cX8_far 2 ∧
  jMt x "far" (Option.some Jvm.ClassFile.FieldType.int) [] ∧
  jRm x 1 14 ∧
  (∀ q : Int32, en q = some (.returned (some (.int q)), W))
theorem wmo_far_12 {x : jCx} {en : (Int32) → Option (Outcome × jW)} {W : jW} {a0 : Int32} {a1 : Int32} (h : hmo_far x en a0 a1 W) : jJ x 2 12 [(0, vI a0), (1, vI a1)] [] W (some (fmo_far_12 a0 a1)) en := by
  have h0 := h
  obtain ⟨hx, hm, hr, he⟩ := h0
  unfold fmo_far_12
  refine j_runA hx 3 (tb := [(12, .iload_n 0), (13, .iconst 0), (14, .bipush 26)]) (jtb_ok (by decide +kernel)) (pc' := 16) (lv' := [(0, vI a0), (1, vI a1)]) (st' := [vI (kI 26), vI (kI 0), vI a0]) rfl ?_
  refine j_TI (j_callS (av := [vI a0, vI (kI 0), vI (kI 26)]) (st := []) hx hr (Or.inl q3026) q3027 q241 md_fmo_signed np_fmo_signed (cmo_signed a0 (kI 0) (kI 26) W) (by decide) (Nat.le_of_ble_eq_true rfl) (by decide +kernel)) ?_
  refine j_goto hx (off := 26) (by decide +kernel) (tgt := 45) (by decide) ?_
  exact j_iret hx hm (by decide +kernel) rfl (he _)
theorem wmo_far {x : jCx} {en : (Int32) → Option (Outcome × jW)} {W : jW} {a0 : Int32} {a1 : Int32} (h : hmo_far x en a0 a1 W) : jJ x 2 0 [(0, vI a0), (1, vI a1)] [] W (some (fmo_far a0 a1)) en := by
  have h0 := h
  obtain ⟨hx, hm, hr, he⟩ := h0
  unfold fmo_far
  refine j_runA hx 2 (tb := [(0, .iload_n 1), (1, .bipush 12)]) (jtb_ok (by decide +kernel)) (pc' := 3) (lv' := [(0, vI a0), (1, vI a1)]) (st' := [vI (kI 12), vI a1]) rfl ?_
  refine j_tot (j_icmp_eq hx (off := 9) (tgt := 12) (by decide +kernel) (by decide) (fun _ => ?_) (fun _ => ?_))
  · exact wmo_far_12 h
  refine j_runA hx 2 (tb := [(6, .iload_n 1), (7, .bipush 13)]) (jtb_ok (by decide +kernel)) (pc' := 9) (lv' := [(0, vI a0), (1, vI a1)]) (st' := [vI (kI 13), vI a1]) rfl ?_
  refine j_tot (j_icmp_ne hx (off := 13) (tgt := 22) (by decide +kernel) (by decide) (fun _ => ?_) (fun _ => ?_))
  · refine j_runA hx 2 (tb := [(22, .iload_n 1), (23, .bipush 16)]) (jtb_ok (by decide +kernel)) (pc' := 25) (lv' := [(0, vI a0), (1, vI a1)]) (st' := [vI (kI 16), vI a1]) rfl ?_
    refine j_tot (j_icmp_ne hx (off := 13) (tgt := 38) (by decide +kernel) (by decide) (fun _ => ?_) (fun _ => ?_))
    · refine j_runA hx 3 (tb := [(38, .iload_n 0), (39, .iconst 5), (40, .bipush 19)]) (jtb_ok (by decide +kernel)) (pc' := 42) (lv' := [(0, vI a0), (1, vI a1)]) (st' := [vI (kI 19), vI (kI 5), vI a0]) rfl ?_
      refine j_TI (j_callS (av := [vI a0, vI (kI 5), vI (kI 19)]) (st := []) hx hr (Or.inl q3026) q3027 q241 md_fmo_signed np_fmo_signed (cmo_signed a0 (kI 5) (kI 19) W) (by decide) (Nat.le_of_ble_eq_true rfl) (by decide +kernel)) ?_
      exact j_iret hx hm (by decide +kernel) rfl (he _)
    refine j_runA hx 3 (tb := [(28, .iload_n 0), (29, .iconst 5), (30, .bipush 14)]) (jtb_ok (by decide +kernel)) (pc' := 32) (lv' := [(0, vI a0), (1, vI a1)]) (st' := [vI (kI 14), vI (kI 5), vI a0]) rfl ?_
    refine j_TI (j_callS (av := [vI a0, vI (kI 5), vI (kI 14)]) (st := []) hx hr (Or.inl q3026) q3027 q241 md_fmo_signed np_fmo_signed (cmo_signed a0 (kI 5) (kI 14) W) (by decide) (Nat.le_of_ble_eq_true rfl) (by decide +kernel)) ?_
    refine j_goto hx (off := 10) (by decide +kernel) (tgt := 45) (by decide) ?_
    exact j_iret hx hm (by decide +kernel) rfl (he _)
  exact wmo_far_12 h
theorem cmo_far (a0 : Int32) (a1 : Int32) (W : jW) : jM yX8_far cX8_far 2 (Option.some Jvm.ClassFile.FieldType.int) [] 1 14 [vI a0, vI a1] W (some (.returned (some (.int (fmo_far a0 a1))), W)) := 
  jM.of (mm := some (fmo_far a0 a1)) (en := fun q => some (.returned (some (.int q)), W)) (Nat.le_of_ble_eq_true rfl) (fun x hx hm hr => wmo_far ⟨hx, hm, hr, fun _ => rfl⟩)
