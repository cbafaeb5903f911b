/-! ===== walks: fcl_counted fpg_addressOf fog_heatOf fcl_function fcl_isBlock fpg_functionOf fpg_nextOf fpg_takenOf fcl_block fcl_wordAt fpg_isWay fco_seek fco_add fpg_isCalled fcl_edge fco_of fcl_way fcl_calls fog_roomForRows ===== -/
set_option maxRecDepth 100000
def hcl_counted (x : jCx) (en : (jW) → Option (Outcome × jW)) (t : Nat) : Prop :=
  jOK x RX0 cX0_counted 1 ∧
  jMt x "counted" (Option.none : Option Jvm.ClassFile.FieldType) [] ∧
  jRm x 3 49 ∧
  (∀ q : jW, en q = some (.returned none, q))
theorem wcl_counted {x : jCx} {en : (jW) → Option (Outcome × jW)} {t : Nat} (h : hcl_counted x en t) (W : jW) : jJ x 1 0 [(0, vR t)] [] W (fcl_counted t W) en := by
  have h0 := h
  obtain ⟨hx, hm, hr, he⟩ := h0
  unfold fcl_counted
  refine j_runA hx 1 (tb := [(0, .aload_n 0)]) (jtb_ok (by decide +kernel)) (pc' := 1) (lv' := [(0, vR t)]) (st' := [vR t]) rfl ?_
  refine j_gd (fun h1 => ?_)
  refine j_getI hx flX0_138 kd115 h1 (by decide) (by decide +kernel) ?_
  refine j_if_eq hx (off := 4) (tgt := 8) (by decide +kernel) (by decide) (fun _ => ?_) (fun _ => ?_)
  · refine j_runA hx 1 (tb := [(8, .aload_n 0)]) (jtb_ok (by decide +kernel)) (pc' := 9) (lv' := [(0, vR t)]) (st' := [vR t]) rfl ?_
    refine j_getR hx flX0_171 kl111 h1 (by decide) (by decide +kernel) ?_
    refine j_runA hx 1 (tb := [(12, .aload_n 0)]) (jtb_ok (by decide +kernel)) (pc' := 13) (lv' := [(0, vR t)]) (st' := [vR t, vR (jR W 111 t)]) rfl ?_
    refine j_getR hx flX0_29 kl104 h1 (by decide) (by decide +kernel) ?_
    refine j_runA hx 1 (tb := [(16, .aload_n 0)]) (jtb_ok (by decide +kernel)) (pc' := 17) (lv' := [(0, vR t)]) (st' := [vR t, vR (jR W 104 t), vR (jR W 111 t)]) rfl ?_
    refine j_getR hx flX0_39 kl108 h1 (by decide) (by decide +kernel) ?_
    refine j_runA hx 1 (tb := [(20, .aload_n 0)]) (jtb_ok (by decide +kernel)) (pc' := 21) (lv' := [(0, vR t)]) (st' := [vR t, vR (jR W 108 t), vR (jR W 104 t), vR (jR W 111 t)]) rfl ?_
    refine j_getR hx flX0_43 kl109 h1 (by decide) (by decide +kernel) ?_
    refine j_runA hx 1 (tb := [(24, .aload_n 0)]) (jtb_ok (by decide +kernel)) (pc' := 25) (lv' := [(0, vR t)]) (st' := [vR t, vR (jR W 109 t), vR (jR W 108 t), vR (jR W 104 t), vR (jR W 111 t)]) rfl ?_
    refine j_getR hx flX0_46 kl110 h1 (by decide) (by decide +kernel) ?_
    refine j_gd (fun h2 => ?_)
    refine j_WV (j_callV (av := [vR (jR W 104 t), vR (jR W 108 t), vR (jR W 109 t), vR (jR W 110 t)]) (st := []) hx hr (Or.inl q1586) q1587 q1588 rfl md_fog_tell np_fog_tell (cog_tell (jR W 111 t) (jR W 104 t) (jR W 108 t) (jR W 109 t) (jR W 110 t) W) (by decide) (Nat.le_of_ble_eq_true rfl) h2 (by decide) (by decide +kernel)) (fun q3 _ => ?_)
    refine j_runA hx 2 (tb := [(31, .aload_n 0), (32, .iconst 1)]) (jtb_ok (by decide +kernel)) (pc' := 33) (lv' := [(0, vR t)]) (st' := [vI (kI 1), vR t]) rfl ?_
    refine j_gd (fun h5 => ?_)
    refine j_putI hx fwX0_138 wf115 kd115 h5 (by decide) (by decide +kernel) (nz115 jz1) (fz115 jz1) ?_
    refine j_ltw rfl (fun W6 hc7 => ?_)
    have h8 : jC W6 t = 1 := (congrFun hc7 _).trans h5
    exact j_vret hx hm (by decide +kernel) (he _)
  exact j_vret hx hm (by decide +kernel) (he _)
theorem ccl_counted (t : Nat) (W : jW) : jM yX0_counted cX0_counted 1 (Option.none : Option Jvm.ClassFile.FieldType) [] 3 49 [vR t] W ((fcl_counted t W).bind (fun q => some (.returned none, q))) := 
  jM.of (Nat.le_of_ble_eq_true rfl) (fun x hx hm hr => wcl_counted ⟨hx, hm, hr, fun _ => rfl⟩ W)
def hpg_addressOf (x : jCx) (en : (Int64) → Option (Outcome × jW)) (t : Nat) (a1 : Int32) (W : jW) : Prop :=
  jOK x RX1 cX1_addressOf 2 ∧
  jMt x "addressOf" (Option.some Jvm.ClassFile.FieldType.long) [] ∧
  jRm x 1 13 ∧
  (∀ q : Int64, en q = some (.returned (some (.long q)), W))
theorem wpg_addressOf {x : jCx} {en : (Int64) → Option (Outcome × jW)} {W : jW} {t : Nat} {a1 : Int32} (h : hpg_addressOf x en t a1 W) : jJ x 2 0 [(0, vR t), (1, vI a1)] [] W (fpg_addressOf t a1 W) en := by
  have h0 := h
  obtain ⟨hx, hm, hr, he⟩ := h0
  unfold fpg_addressOf
  refine j_runA hx 1 (tb := [(0, .aload_n 0)]) (jtb_ok (by decide +kernel)) (pc' := 1) (lv' := [(0, vR t), (1, vI a1)]) (st' := [vR t]) rfl ?_
  refine j_gd (fun h1 => ?_)
  refine j_getR hx flX1_21 kl201 h1 (by decide) (by decide +kernel) ?_
  refine j_gd (fun h2 => ?_)
  refine j_getR hx flX1_77 kl408 h2 (by decide) (by decide +kernel) ?_
  refine j_runA hx 1 (tb := [(7, .aload_n 0)]) (jtb_ok (by decide +kernel)) (pc' := 8) (lv' := [(0, vR t), (1, vI a1)]) (st' := [vR t, vR (jR W 408 (jR W 201 t))]) rfl ?_
  refine j_getR hx flX1_21 kl201 h1 (by decide) (by decide +kernel) ?_
  refine j_OI (j_callV (av := []) (st := [vR (jR W 408 (jR W 201 t))]) hx hr (Or.inl q933) q793 q794 rfl md_fsh_last np_fsh_last (csh_last (jR W 201 t) W) (by decide) (Nat.le_of_ble_eq_true rfl) h2 (by decide) (by decide +kernel)) (fun q3 _ => ?_)
  refine j_gd (fun h4 => ?_)
  refine j_lald hx (f := 408) (o := (jR W 201 t)) kd408 rfl (by decide +kernel) h4 ?_
  refine j_ldc2 hx (v := (kJ 4)) (jkd2 q1033 (by decide +kernel)) (by decide +kernel) ?_
  refine j_runA hx 4 (tb := [(18, .iload_n 1), (19, .i2l), (20, .lmul), (21, .ladd)]) (jtb_ok (by decide +kernel)) (pc' := 22) (lv' := [(0, vR t), (1, vI a1)]) (st' := [vL ((jB W 408 (jR W 201 t) (ix q3)) + ((kJ 4) * a1.toInt64))]) rfl ?_
  exact j_lret hx hm (by decide +kernel) (he _)
theorem cpg_addressOf (t : Nat) (a1 : Int32) (W : jW) : jM yX1_addressOf cX1_addressOf 2 (Option.some Jvm.ClassFile.FieldType.long) [] 1 13 [vR t, vI a1] W ((fpg_addressOf t a1 W).bind (fun q => some (.returned (some (.long q)), W))) := 
  jM.of (Nat.le_of_ble_eq_true rfl) (fun x hx hm hr => wpg_addressOf ⟨hx, hm, hr, fun _ => rfl⟩)
def hog_heatOf (x : jCx) (en : (Int64) → Option (Outcome × jW)) (t : Nat) (a1 : Int32) (W : jW) : Prop :=
  jOK x RX13 cX13_heatOf 2 ∧
  jMt x "heatOf" (Option.some Jvm.ClassFile.FieldType.long) [] ∧
  jRm x 0 0 ∧
  (∀ q : Int64, en q = some (.returned (some (.long q)), W))
theorem wog_heatOf {x : jCx} {en : (Int64) → Option (Outcome × jW)} {W : jW} {t : Nat} {a1 : Int32} (h : hog_heatOf x en t a1 W) : jJ x 2 0 [(0, vR t), (1, vI a1)] [] W (fog_heatOf t a1 W) en := by
  have h0 := h
  obtain ⟨hx, hm, hr, he⟩ := h0
  unfold fog_heatOf
  refine j_runA hx 1 (tb := [(0, .aload_n 0)]) (jtb_ok (by decide +kernel)) (pc' := 1) (lv' := [(0, vR t), (1, vI a1)]) (st' := [vR t]) rfl ?_
  refine j_gd (fun h1 => ?_)
  refine j_getR hx flX13_40 kl812 h1 (by decide) (by decide +kernel) ?_
  refine j_runA hx 1 (tb := [(4, .iload_n 1)]) (jtb_ok (by decide +kernel)) (pc' := 5) (lv' := [(0, vR t), (1, vI a1)]) (st' := [vI a1, vR (jR W 812 t)]) rfl ?_
  refine j_gd (fun h2 => ?_)
  refine j_lald hx (f := 812) (o := t) kd812 rfl (by decide +kernel) h2 ?_
  exact j_lret hx hm (by decide +kernel) (he _)
theorem cog_heatOf (t : Nat) (a1 : Int32) (W : jW) : jM yX13_heatOf cX13_heatOf 2 (Option.some Jvm.ClassFile.FieldType.long) [] 0 0 [vR t, vI a1] W ((fog_heatOf t a1 W).bind (fun q => some (.returned (some (.long q)), W))) := 
  jM.of (Nat.le_of_ble_eq_true rfl) (fun x hx hm hr => wog_heatOf ⟨hx, hm, hr, fun _ => rfl⟩)
def hcl_function (x : jCx) (en : (Int64 × jW) → Option (Outcome × jW)) (t : Nat) (a1 : Int32) (a2 : Int32) : Prop :=
  jOK x RX0 cX0_function 4 ∧
  jMt x "function" (Option.some Jvm.ClassFile.FieldType.long) [] ∧
  jRm x 4 61 ∧
  (∀ q : Int64 × jW, en q = some (.returned (some (.long q.1)), q.2))
theorem wcl_function_17 {x : jCx} {en : (Int64 × jW) → Option (Outcome × jW)} {t : Nat} {a1 : Int32} {a2 : Int32} (h : hcl_function x en t a1 a2) (W : jW) : jJ x 4 17 [(0, vR t), (1, vI a1), (2, vI a2)] [] W (fcl_function_17 t a1 a2 W) en := by
  have h0 := h
  obtain ⟨hx, hm, hr, he⟩ := h0
  unfold fcl_function_17
  refine j_ldc2 hx (v := (kJ (-14))) (jkd2 q1581 (by decide +kernel)) (by decide +kernel) ?_
  exact j_lret hx hm (by decide +kernel) (he _)
theorem wcl_function {x : jCx} {en : (Int64 × jW) → Option (Outcome × jW)} {t : Nat} {a1 : Int32} {a2 : Int32} (h : hcl_function x en t a1 a2) (W : jW) : jJ x 4 0 [(0, vR t), (1, vI a1), (2, vI a2)] [] W (fcl_function t a1 a2 W) en := by
  have h0 := h
  obtain ⟨hx, hm, hr, he⟩ := h0
  unfold fcl_function
  refine j_runA hx 2 (tb := [(0, .aload_n 0), (1, .iload_n 1)]) (jtb_ok (by decide +kernel)) (pc' := 2) (lv' := [(0, vR t), (1, vI a1), (2, vI a2)]) (st' := [vI a1, vR t]) rfl ?_
  refine j_gd (fun h1 => ?_)
  refine j_OI (j_callV (av := [vI a1]) (st := []) hx hr (Or.inl q1577) q1579 qs27 rfl md_fcl_isFunction np_fcl_isFunction (ccl_isFunction t a1 W) (by decide) (Nat.le_of_ble_eq_true rfl) h1 (by decide) (by decide +kernel)) (fun q2 _ => ?_)
  refine j_if_eq hx (off := 12) (tgt := 17) (by decide +kernel) (by decide) (fun _ => ?_) (fun _ => ?_)
  · exact wcl_function_17 h W
  refine j_runA hx 1 (tb := [(8, .iload_n 2)]) (jtb_ok (by decide +kernel)) (pc' := 9) (lv' := [(0, vR t), (1, vI a1), (2, vI a2)]) (st' := [vI a2]) rfl ?_
  refine j_if_lt hx (off := 8) (tgt := 17) (by decide +kernel) (by decide) (fun _ => ?_) (fun _ => ?_)
  · exact wcl_function_17 h W
  refine j_runA hx 2 (tb := [(12, .iload_n 2), (13, .iconst 3)]) (jtb_ok (by decide +kernel)) (pc' := 14) (lv' := [(0, vR t), (1, vI a1), (2, vI a2)]) (st' := [vI (kI 3), vI a2]) rfl ?_
  refine j_icmp_le hx (off := 7) (tgt := 21) (by decide +kernel) (by decide) (fun _ => ?_) (fun _ => ?_)
  · refine j_runA hx 1 (tb := [(21, .aload_n 0)]) (jtb_ok (by decide +kernel)) (pc' := 22) (lv' := [(0, vR t), (1, vI a1), (2, vI a2)]) (st' := [vR t]) rfl ?_
    refine j_WV (j_callV (av := []) (st := []) hx hr (Or.inl q1582) q1584 qs28 rfl md_fcl_counted np_fcl_counted (ccl_counted t W) (by decide) (Nat.le_of_ble_eq_true rfl) h1 (by decide) (by decide +kernel)) (fun q3 _ => ?_)
    refine j_runA hx 1 (tb := [(25, .aload_n 0)]) (jtb_ok (by decide +kernel)) (pc' := 26) (lv' := [(0, vR t), (1, vI a1), (2, vI a2)]) (st' := [vR t]) rfl ?_
    refine j_gd (fun h5 => ?_)
    refine j_getR hx flX0_29 kl104 h5 (by decide) (by decide +kernel) ?_
    refine j_gd (fun h6 => ?_)
    refine j_getR hx flX0_210 kl209 h6 (by decide) (by decide +kernel) ?_
    refine j_gd (fun h7 => ?_)
    refine j_getR hx flX0_214 kl600 h7 (by decide) (by decide +kernel) ?_
    refine j_runA hx 1 (tb := [(35, .iload_n 1)]) (jtb_ok (by decide +kernel)) (pc' := 36) (lv' := [(0, vR t), (1, vI a1), (2, vI a2)]) (st' := [vI a1, vR (jR q3 600 (jR q3 209 (jR q3 104 t)))]) rfl ?_
    refine j_gd (fun h8 => ?_)
    refine j_iald hx (f := 600) (o := (jR q3 209 (jR q3 104 t))) kd600 rfl (by decide +kernel) h8 ?_
    refine j_runA hx 1 (tb := [(37, .istore_n 3)]) (jtb_ok (by decide +kernel)) (pc' := 38) (lv' := [(3, vI (jA q3 600 (jR q3 209 (jR q3 104 t)) (ix a1))), (0, vR t), (1, vI a1), (2, vI a2)]) (st' := []) rfl ?_
    refine j_let (v := (jA q3 600 (jR q3 209 (jR q3 104 t)) (ix a1))) (lv := fun v9 => [(3, vI v9), (0, vR t), (1, vI a1), (2, vI a2)]) (st := fun _ => []) (fun v9 => ?_)
    refine j_runA hx 1 (tb := [(38, .iload_n 2)]) (jtb_ok (by decide +kernel)) (pc' := 39) (lv' := [(3, vI v9), (0, vR t), (1, vI a1), (2, vI a2)]) (st' := [vI a2]) rfl ?_
    refine j_if_ne hx (off := 14) (tgt := 53) (by decide +kernel) (by decide) (fun _ => ?_) (fun _ => ?_)
    · refine j_runA hx 2 (tb := [(53, .iload_n 2), (54, .iconst 1)]) (jtb_ok (by decide +kernel)) (pc' := 55) (lv' := [(3, vI v9), (0, vR t), (1, vI a1), (2, vI a2)]) (st' := [vI (kI 1), vI a2]) rfl ?_
      refine j_icmp_ne hx (off := 21) (tgt := 76) (by decide +kernel) (by decide) (fun _ => ?_) (fun _ => ?_)
      · refine j_runA hx 2 (tb := [(76, .iload_n 2), (77, .iconst 2)]) (jtb_ok (by decide +kernel)) (pc' := 78) (lv' := [(3, vI v9), (0, vR t), (1, vI a1), (2, vI a2)]) (st' := [vI (kI 2), vI a2]) rfl ?_
        refine j_icmp_ne hx (off := 15) (tgt := 93) (by decide +kernel) (by decide) (fun _ => ?_) (fun _ => ?_)
        · refine j_runA hx 1 (tb := [(93, .aload_n 0)]) (jtb_ok (by decide +kernel)) (pc' := 94) (lv' := [(3, vI v9), (0, vR t), (1, vI a1), (2, vI a2)]) (st' := [vR t]) rfl ?_
          refine j_getR hx flX0_171 kl111 h5 (by decide) (by decide +kernel) ?_
          refine j_runA hx 1 (tb := [(97, .iload_n 1)]) (jtb_ok (by decide +kernel)) (pc' := 98) (lv' := [(3, vI v9), (0, vR t), (1, vI a1), (2, vI a2)]) (st' := [vI a1, vR (jR q3 111 t)]) rfl ?_
          refine j_gd (fun h10 => ?_)
          refine j_OL (j_callV (av := [vI a1]) (st := []) hx hr (Or.inl q1615) q1616 q1617 rfl md_fog_heatOf np_fog_heatOf (cog_heatOf (jR q3 111 t) a1 q3) (by decide) (Nat.le_of_ble_eq_true rfl) h10 (by decide) (by decide +kernel)) (fun q11 _ => ?_)
          exact j_lret hx hm (by decide +kernel) (he _)
        refine j_runA hx 1 (tb := [(81, .aload_n 0)]) (jtb_ok (by decide +kernel)) (pc' := 82) (lv' := [(3, vI v9), (0, vR t), (1, vI a1), (2, vI a2)]) (st' := [vR t]) rfl ?_
        refine j_getR hx flX0_29 kl104 h5 (by decide) (by decide +kernel) ?_
        refine j_runA hx 1 (tb := [(85, .iload_n 1)]) (jtb_ok (by decide +kernel)) (pc' := 86) (lv' := [(3, vI v9), (0, vR t), (1, vI a1), (2, vI a2)]) (st' := [vI a1, vR (jR q3 104 t)]) rfl ?_
        refine j_OI (j_callV (av := [vI a1]) (st := []) hx hr (Or.inl q1614) q1604 q1605 rfl md_fpg_firstBlock np_fpg_firstBlock (cpg_firstBlock (jR q3 104 t) a1 q3) (by decide) (Nat.le_of_ble_eq_true rfl) h6 (by decide) (by decide +kernel)) (fun q12 _ => ?_)
        refine j_runA hx 1 (tb := [(89, .i2l)]) (jtb_ok (by decide +kernel)) (pc' := 90) (lv' := [(3, vI v9), (0, vR t), (1, vI a1), (2, vI a2)]) (st' := [vL q12.toInt64]) rfl ?_
        refine j_goto hx (off := 11) (by decide +kernel) (tgt := 101) (by decide) ?_
        exact j_lret hx hm (by decide +kernel) (he _)
      refine j_ldc2 hx (v := (kJ 4)) (jkd2 q1612 (by decide +kernel)) (by decide +kernel) ?_
      refine j_runA hx 1 (tb := [(61, .aload_n 0)]) (jtb_ok (by decide +kernel)) (pc' := 62) (lv' := [(3, vI v9), (0, vR t), (1, vI a1), (2, vI a2)]) (st' := [vR t, vL (kJ 4)]) rfl ?_
      refine j_getR hx flX0_29 kl104 h5 (by decide) (by decide +kernel) ?_
      refine j_runA hx 1 (tb := [(65, .iload_n 1)]) (jtb_ok (by decide +kernel)) (pc' := 66) (lv' := [(3, vI v9), (0, vR t), (1, vI a1), (2, vI a2)]) (st' := [vI a1, vR (jR q3 104 t), vL (kJ 4)]) rfl ?_
      refine j_OI (j_callV (av := [vI a1]) (st := [vL (kJ 4)]) hx hr (Or.inl q1613) q1046 q1047 rfl md_fpg_behind np_fpg_behind (cpg_behind (jR q3 104 t) a1 q3) (by decide) (Nat.le_of_ble_eq_true rfl) h6 (by decide) (by decide +kernel)) (fun q13 _ => ?_)
      refine j_runA hx 4 (tb := [(69, .iload_n 3), (70, .isub), (71, .i2l), (72, .lmul)]) (jtb_ok (by decide +kernel)) (pc' := 73) (lv' := [(3, vI v9), (0, vR t), (1, vI a1), (2, vI a2)]) (st' := [vL ((kJ 4) * ((q13 - v9).toInt64))]) rfl ?_
      refine j_goto hx (off := 28) (by decide +kernel) (tgt := 101) (by decide) ?_
      exact j_lret hx hm (by decide +kernel) (he _)
    refine j_runA hx 1 (tb := [(42, .aload_n 0)]) (jtb_ok (by decide +kernel)) (pc' := 43) (lv' := [(3, vI v9), (0, vR t), (1, vI a1), (2, vI a2)]) (st' := [vR t]) rfl ?_
    refine j_getR hx flX0_29 kl104 h5 (by decide) (by decide +kernel) ?_
    refine j_runA hx 1 (tb := [(46, .iload_n 3)]) (jtb_ok (by decide +kernel)) (pc' := 47) (lv' := [(3, vI v9), (0, vR t), (1, vI a1), (2, vI a2)]) (st' := [vI v9, vR (jR q3 104 t)]) rfl ?_
    refine j_OL (j_callV (av := [vI v9]) (st := []) hx hr (Or.inl q1608) q1609 q1610 rfl md_fpg_addressOf np_fpg_addressOf (cpg_addressOf (jR q3 104 t) v9 q3) (by decide) (Nat.le_of_ble_eq_true rfl) h6 (by decide) (by decide +kernel)) (fun q14 _ => ?_)
    refine j_goto hx (off := 51) (by decide +kernel) (tgt := 101) (by decide) ?_
    exact j_lret hx hm (by decide +kernel) (he _)
  exact wcl_function_17 h W
theorem ccl_function (t : Nat) (a1 : Int32) (a2 : Int32) (W : jW) : jM yX0_function cX0_function 4 (Option.some Jvm.ClassFile.FieldType.long) [] 4 61 [vR t, vI a1, vI a2] W ((fcl_function t a1 a2 W).bind (fun q => some (.returned (some (.long q.1)), q.2))) := 
  jM.of (Nat.le_of_ble_eq_true rfl) (fun x hx hm hr => wcl_function ⟨hx, hm, hr, fun _ => rfl⟩ W)
def hcl_isBlock (x : jCx) (en : (Int32) → Option (Outcome × jW)) (t : Nat) (a1 : Int32) (W : jW) : Prop :=
  jOK x RX0 cX0_isBlock 2 ∧
  jMt x "isBlock" (Option.some Jvm.ClassFile.FieldType.boolean) [] ∧
  jRm x 0 0 ∧
  (∀ q : Int32, en q = some (.returned (some (.int q)), W))
theorem wcl_isBlock_26 {x : jCx} {en : (Int32) → Option (Outcome × jW)} {W : jW} {t : Nat} {a1 : Int32} (h : hcl_isBlock x en t a1 W) : jJ x 2 26 [(0, vR t), (1, vI a1)] [] W (fcl_isBlock_26 t a1 W) en := by
  have h0 := h
  obtain ⟨hx, hm, hr, he⟩ := h0
  unfold fcl_isBlock_26
  refine j_runA hx 1 (tb := [(26, .iconst 0)]) (jtb_ok (by decide +kernel)) (pc' := 27) (lv' := [(0, vR t), (1, vI a1)]) (st' := [vI (kI 0)]) rfl ?_
  exact j_iret hx hm (by decide +kernel) jz0n (he _)
theorem wcl_isBlock {x : jCx} {en : (Int32) → Option (Outcome × jW)} {W : jW} {t : Nat} {a1 : Int32} (h : hcl_isBlock x en t a1 W) : jJ x 2 0 [(0, vR t), (1, vI a1)] [] W (fcl_isBlock t a1 W) en := by
  have h0 := h
  obtain ⟨hx, hm, hr, he⟩ := h0
  unfold fcl_isBlock
  refine j_runA hx 1 (tb := [(0, .aload_n 0)]) (jtb_ok (by decide +kernel)) (pc' := 1) (lv' := [(0, vR t), (1, vI a1)]) (st' := [vR t]) rfl ?_
  refine j_gd (fun h1 => ?_)
  refine j_getI hx flX0_128 kd106 h1 (by decide) (by decide +kernel) ?_
  refine j_if_eq hx (off := 22) (tgt := 26) (by decide +kernel) (by decide) (fun _ => ?_) (fun _ => ?_)
  · exact wcl_isBlock_26 h
  refine j_runA hx 1 (tb := [(7, .iload_n 1)]) (jtb_ok (by decide +kernel)) (pc' := 8) (lv' := [(0, vR t), (1, vI a1)]) (st' := [vI a1]) rfl ?_
  refine j_if_lt hx (off := 18) (tgt := 26) (by decide +kernel) (by decide) (fun _ => ?_) (fun _ => ?_)
  · exact wcl_isBlock_26 h
  refine j_runA hx 2 (tb := [(11, .iload_n 1), (12, .aload_n 0)]) (jtb_ok (by decide +kernel)) (pc' := 13) (lv' := [(0, vR t), (1, vI a1)]) (st' := [vR t, vI a1]) rfl ?_
  refine j_getR hx flX0_29 kl104 h1 (by decide) (by decide +kernel) ?_
  refine j_gd (fun h2 => ?_)
  refine j_getI hx flX0_188 kd217 h2 (by decide) (by decide +kernel) ?_
  refine j_icmp_ge hx (off := 7) (tgt := 26) (by decide +kernel) (by decide) (fun _ => ?_) (fun _ => ?_)
  · exact wcl_isBlock_26 h
  refine j_runA hx 1 (tb := [(22, .iconst 1)]) (jtb_ok (by decide +kernel)) (pc' := 23) (lv' := [(0, vR t), (1, vI a1)]) (st' := [vI (kI 1)]) rfl ?_
  refine j_goto hx (off := 4) (by decide +kernel) (tgt := 27) (by decide) ?_
  exact j_iret hx hm (by decide +kernel) jz1n (he _)
theorem ccl_isBlock (t : Nat) (a1 : Int32) (W : jW) : jM yX0_isBlock cX0_isBlock 2 (Option.some Jvm.ClassFile.FieldType.boolean) [] 0 0 [vR t, vI a1] W ((fcl_isBlock t a1 W).bind (fun q => some (.returned (some (.int q)), W))) := 
  jM.of (Nat.le_of_ble_eq_true rfl) (fun x hx hm hr => wcl_isBlock ⟨hx, hm, hr, fun _ => rfl⟩)
def hpg_functionOf (x : jCx) (en : (Int32) → Option (Outcome × jW)) (t : Nat) (a1 : Int32) (W : jW) : Prop :=
  jOK x RX1 cX1_functionOf 2 ∧
  jMt x "functionOf" (Option.some Jvm.ClassFile.FieldType.int) [] ∧
  jRm x 0 0 ∧
  (∀ q : Int32, en q = some (.returned (some (.int q)), W))
theorem wpg_functionOf {x : jCx} {en : (Int32) → Option (Outcome × jW)} {W : jW} {t : Nat} {a1 : Int32} (h : hpg_functionOf x en t a1 W) : jJ x 2 0 [(0, vR t), (1, vI a1)] [] W (fpg_functionOf t a1 W) en := by
  have h0 := h
  obtain ⟨hx, hm, hr, he⟩ := h0
  unfold fpg_functionOf
  refine j_runA hx 1 (tb := [(0, .aload_n 0)]) (jtb_ok (by decide +kernel)) (pc' := 1) (lv' := [(0, vR t), (1, vI a1)]) (st' := [vR t]) rfl ?_
  refine j_gd (fun h1 => ?_)
  refine j_getR hx flX1_62 kl212 h1 (by decide) (by decide +kernel) ?_
  refine j_runA hx 1 (tb := [(4, .aload_n 0)]) (jtb_ok (by decide +kernel)) (pc' := 5) (lv' := [(0, vR t), (1, vI a1)]) (st' := [vR t, vR (jR W 212 t)]) rfl ?_
  refine j_getR hx flX1_65 kl213 h1 (by decide) (by decide +kernel) ?_
  refine j_gd (fun h2 => ?_)
  refine j_getR hx flX1_166 kl600 h2 (by decide) (by decide +kernel) ?_
  refine j_runA hx 1 (tb := [(11, .iload_n 1)]) (jtb_ok (by decide +kernel)) (pc' := 12) (lv' := [(0, vR t), (1, vI a1)]) (st' := [vI a1, vR (jR W 600 (jR W 213 t)), vR (jR W 212 t)]) rfl ?_
  refine j_gd (fun h3 => ?_)
  refine j_iald hx (f := 600) (o := (jR W 213 t)) kd600 rfl (by decide +kernel) h3 ?_
  refine j_gd (fun h4 => ?_)
  refine j_iald hx (f := 212) (o := t) kd212 rfl (by decide +kernel) h4 ?_
  exact j_iret hx hm (by decide +kernel) rfl (he _)
theorem cpg_functionOf (t : Nat) (a1 : Int32) (W : jW) : jM yX1_functionOf cX1_functionOf 2 (Option.some Jvm.ClassFile.FieldType.int) [] 0 0 [vR t, vI a1] W ((fpg_functionOf t a1 W).bind (fun q => some (.returned (some (.int q)), W))) := 
  jM.of (Nat.le_of_ble_eq_true rfl) (fun x hx hm hr => wpg_functionOf ⟨hx, hm, hr, fun _ => rfl⟩)
def hpg_nextOf (x : jCx) (en : (Int32) → Option (Outcome × jW)) (t : Nat) (a1 : Int32) (W : jW) : Prop :=
  jOK x RX1 cX1_nextOf 2 ∧
  jMt x "nextOf" (Option.some Jvm.ClassFile.FieldType.int) [] ∧
  jRm x 0 0 ∧
  (∀ q : Int32, en q = some (.returned (some (.int q)), W))
theorem wpg_nextOf_39 {x : jCx} {en : (Int32) → Option (Outcome × jW)} {W : jW} {t : Nat} {a1 : Int32} (h : hpg_nextOf x en t a1 W) : jJ x 2 39 [(0, vR t), (1, vI a1)] [] W (fpg_nextOf_39 t a1 W) en := by
  have h0 := h
  obtain ⟨hx, hm, hr, he⟩ := h0
  unfold fpg_nextOf_39
  refine j_runA hx 3 (tb := [(39, .iload_n 1), (40, .iconst 1), (41, .iadd)]) (jtb_ok (by decide +kernel)) (pc' := 42) (lv' := [(0, vR t), (1, vI a1)]) (st' := [vI (a1 + (kI 1))]) rfl ?_
  refine j_goto hx (off := 4) (by decide +kernel) (tgt := 46) (by decide) ?_
  exact j_iret hx hm (by decide +kernel) rfl (he _)
theorem wpg_nextOf {x : jCx} {en : (Int32) → Option (Outcome × jW)} {W : jW} {t : Nat} {a1 : Int32} (h : hpg_nextOf x en t a1 W) : jJ x 2 0 [(0, vR t), (1, vI a1)] [] W (fpg_nextOf t a1 W) en := by
  have h0 := h
  obtain ⟨hx, hm, hr, he⟩ := h0
  unfold fpg_nextOf
  refine j_runA hx 1 (tb := [(0, .aload_n 0)]) (jtb_ok (by decide +kernel)) (pc' := 1) (lv' := [(0, vR t), (1, vI a1)]) (st' := [vR t]) rfl ?_
  refine j_gd (fun h1 => ?_)
  refine j_getR hx flX1_68 kl214 h1 (by decide) (by decide +kernel) ?_
  refine j_runA hx 1 (tb := [(4, .iload_n 1)]) (jtb_ok (by decide +kernel)) (pc' := 5) (lv' := [(0, vR t), (1, vI a1)]) (st' := [vI a1, vR (jR W 214 t)]) rfl ?_
  refine j_gd (fun h2 => ?_)
  refine j_iald hx (f := 214) (o := t) kd214 rfl (by decide +kernel) h2 ?_
  refine j_if_eq hx (off := 33) (tgt := 39) (by decide +kernel) (by decide) (fun _ => ?_) (fun _ => ?_)
  · exact wpg_nextOf_39 h
  refine j_runA hx 1 (tb := [(9, .aload_n 0)]) (jtb_ok (by decide +kernel)) (pc' := 10) (lv' := [(0, vR t), (1, vI a1)]) (st' := [vR t]) rfl ?_
  refine j_getR hx flX1_68 kl214 h1 (by decide) (by decide +kernel) ?_
  refine j_runA hx 1 (tb := [(13, .iload_n 1)]) (jtb_ok (by decide +kernel)) (pc' := 14) (lv' := [(0, vR t), (1, vI a1)]) (st' := [vI a1, vR (jR W 214 t)]) rfl ?_
  refine j_gd (fun h3 => ?_)
  refine j_iald hx (f := 214) (o := t) kd214 rfl (by decide +kernel) h3 ?_
  refine j_runA hx 1 (tb := [(15, .iconst 3)]) (jtb_ok (by decide +kernel)) (pc' := 16) (lv' := [(0, vR t), (1, vI a1)]) (st' := [vI (kI 3), vI (jA W 214 t (ix a1))]) rfl ?_
  refine j_icmp_eq hx (off := 23) (tgt := 39) (by decide +kernel) (by decide) (fun _ => ?_) (fun _ => ?_)
  · exact wpg_nextOf_39 h
  refine j_runA hx 1 (tb := [(19, .aload_n 0)]) (jtb_ok (by decide +kernel)) (pc' := 20) (lv' := [(0, vR t), (1, vI a1)]) (st' := [vR t]) rfl ?_
  refine j_getR hx flX1_68 kl214 h1 (by decide) (by decide +kernel) ?_
  refine j_runA hx 1 (tb := [(23, .iload_n 1)]) (jtb_ok (by decide +kernel)) (pc' := 24) (lv' := [(0, vR t), (1, vI a1)]) (st' := [vI a1, vR (jR W 214 t)]) rfl ?_
  refine j_gd (fun h4 => ?_)
  refine j_iald hx (f := 214) (o := t) kd214 rfl (by decide +kernel) h4 ?_
  refine j_runA hx 1 (tb := [(25, .iconst 4)]) (jtb_ok (by decide +kernel)) (pc' := 26) (lv' := [(0, vR t), (1, vI a1)]) (st' := [vI (kI 4), vI (jA W 214 t (ix a1))]) rfl ?_
  refine j_icmp_eq hx (off := 13) (tgt := 39) (by decide +kernel) (by decide) (fun _ => ?_) (fun _ => ?_)
  · exact wpg_nextOf_39 h
  refine j_runA hx 1 (tb := [(29, .aload_n 0)]) (jtb_ok (by decide +kernel)) (pc' := 30) (lv' := [(0, vR t), (1, vI a1)]) (st' := [vR t]) rfl ?_
  refine j_getR hx flX1_68 kl214 h1 (by decide) (by decide +kernel) ?_
  refine j_runA hx 1 (tb := [(33, .iload_n 1)]) (jtb_ok (by decide +kernel)) (pc' := 34) (lv' := [(0, vR t), (1, vI a1)]) (st' := [vI a1, vR (jR W 214 t)]) rfl ?_
  refine j_gd (fun h5 => ?_)
  refine j_iald hx (f := 214) (o := t) kd214 rfl (by decide +kernel) h5 ?_
  refine j_runA hx 1 (tb := [(35, .iconst 5)]) (jtb_ok (by decide +kernel)) (pc' := 36) (lv' := [(0, vR t), (1, vI a1)]) (st' := [vI (kI 5), vI (jA W 214 t (ix a1))]) rfl ?_
  refine j_icmp_ne hx (off := 9) (tgt := 45) (by decide +kernel) (by decide) (fun _ => ?_) (fun _ => ?_)
  · refine j_runA hx 1 (tb := [(45, .iconst (-1))]) (jtb_ok (by decide +kernel)) (pc' := 46) (lv' := [(0, vR t), (1, vI a1)]) (st' := [vI (kI (-1))]) rfl ?_
    exact j_iret hx hm (by decide +kernel) rfl (he _)
  exact wpg_nextOf_39 h
theorem cpg_nextOf (t : Nat) (a1 : Int32) (W : jW) : jM yX1_nextOf cX1_nextOf 2 (Option.some Jvm.ClassFile.FieldType.int) [] 0 0 [vR t, vI a1] W ((fpg_nextOf t a1 W).bind (fun q => some (.returned (some (.int q)), W))) := 
  jM.of (Nat.le_of_ble_eq_true rfl) (fun x hx hm hr => wpg_nextOf ⟨hx, hm, hr, fun _ => rfl⟩)
def hpg_takenOf (x : jCx) (en : (Int32) → Option (Outcome × jW)) (t : Nat) (a1 : Int32) (W : jW) : Prop :=
  jOK x RX1 cX1_takenOf 2 ∧
  jMt x "takenOf" (Option.some Jvm.ClassFile.FieldType.int) [] ∧
  jRm x 0 0 ∧
  (∀ q : Int32, en q = some (.returned (some (.int q)), W))
theorem wpg_takenOf_20 {x : jCx} {en : (Int32) → Option (Outcome × jW)} {W : jW} {t : Nat} {a1 : Int32} (h : hpg_takenOf x en t a1 W) : jJ x 2 20 [(0, vR t), (1, vI a1)] [] W (fpg_takenOf_20 t a1 W) en := by
  have h0 := h
  obtain ⟨hx, hm, hr, he⟩ := h0
  unfold fpg_takenOf_20
  refine j_runA hx 1 (tb := [(20, .aload_n 0)]) (jtb_ok (by decide +kernel)) (pc' := 21) (lv' := [(0, vR t), (1, vI a1)]) (st' := [vR t]) rfl ?_
  refine j_gd (fun h5 => ?_)
  refine j_getR hx flX1_71 kl215 h5 (by decide) (by decide +kernel) ?_
  refine j_runA hx 1 (tb := [(24, .iload_n 1)]) (jtb_ok (by decide +kernel)) (pc' := 25) (lv' := [(0, vR t), (1, vI a1)]) (st' := [vI a1, vR (jR W 215 t)]) rfl ?_
  refine j_gd (fun h6 => ?_)
  refine j_iald hx (f := 215) (o := t) kd215 rfl (by decide +kernel) h6 ?_
  refine j_goto hx (off := 4) (by decide +kernel) (tgt := 30) (by decide) ?_
  exact j_iret hx hm (by decide +kernel) rfl (he _)
theorem wpg_takenOf {x : jCx} {en : (Int32) → Option (Outcome × jW)} {W : jW} {t : Nat} {a1 : Int32} (h : hpg_takenOf x en t a1 W) : jJ x 2 0 [(0, vR t), (1, vI a1)] [] W (fpg_takenOf t a1 W) en := by
  have h0 := h
  obtain ⟨hx, hm, hr, he⟩ := h0
  unfold fpg_takenOf
  refine j_runA hx 1 (tb := [(0, .aload_n 0)]) (jtb_ok (by decide +kernel)) (pc' := 1) (lv' := [(0, vR t), (1, vI a1)]) (st' := [vR t]) rfl ?_
  refine j_gd (fun h1 => ?_)
  refine j_getR hx flX1_68 kl214 h1 (by decide) (by decide +kernel) ?_
  refine j_runA hx 1 (tb := [(4, .iload_n 1)]) (jtb_ok (by decide +kernel)) (pc' := 5) (lv' := [(0, vR t), (1, vI a1)]) (st' := [vI a1, vR (jR W 214 t)]) rfl ?_
  refine j_gd (fun h2 => ?_)
  refine j_iald hx (f := 214) (o := t) kd214 rfl (by decide +kernel) h2 ?_
  refine j_runA hx 1 (tb := [(6, .iconst 1)]) (jtb_ok (by decide +kernel)) (pc' := 7) (lv' := [(0, vR t), (1, vI a1)]) (st' := [vI (kI 1), vI (jA W 214 t (ix a1))]) rfl ?_
  refine j_icmp_eq hx (off := 13) (tgt := 20) (by decide +kernel) (by decide) (fun _ => ?_) (fun _ => ?_)
  · exact wpg_takenOf_20 h
  refine j_runA hx 1 (tb := [(10, .aload_n 0)]) (jtb_ok (by decide +kernel)) (pc' := 11) (lv' := [(0, vR t), (1, vI a1)]) (st' := [vR t]) rfl ?_
  refine j_getR hx flX1_68 kl214 h1 (by decide) (by decide +kernel) ?_
  refine j_runA hx 1 (tb := [(14, .iload_n 1)]) (jtb_ok (by decide +kernel)) (pc' := 15) (lv' := [(0, vR t), (1, vI a1)]) (st' := [vI a1, vR (jR W 214 t)]) rfl ?_
  refine j_gd (fun h3 => ?_)
  refine j_iald hx (f := 214) (o := t) kd214 rfl (by decide +kernel) h3 ?_
  refine j_runA hx 1 (tb := [(16, .iconst 3)]) (jtb_ok (by decide +kernel)) (pc' := 17) (lv' := [(0, vR t), (1, vI a1)]) (st' := [vI (kI 3), vI (jA W 214 t (ix a1))]) rfl ?_
  refine j_icmp_ne hx (off := 12) (tgt := 29) (by decide +kernel) (by decide) (fun _ => ?_) (fun _ => ?_)
  · refine j_runA hx 1 (tb := [(29, .iconst (-1))]) (jtb_ok (by decide +kernel)) (pc' := 30) (lv' := [(0, vR t), (1, vI a1)]) (st' := [vI (kI (-1))]) rfl ?_
    exact j_iret hx hm (by decide +kernel) rfl (he _)
  exact wpg_takenOf_20 h
theorem cpg_takenOf (t : Nat) (a1 : Int32) (W : jW) : jM yX1_takenOf cX1_takenOf 2 (Option.some Jvm.ClassFile.FieldType.int) [] 0 0 [vR t, vI a1] W ((fpg_takenOf t a1 W).bind (fun q => some (.returned (some (.int q)), W))) := 
  jM.of (Nat.le_of_ble_eq_true rfl) (fun x hx hm hr => wpg_takenOf ⟨hx, hm, hr, fun _ => rfl⟩)
def hcl_block (x : jCx) (en : (Int64 × jW) → Option (Outcome × jW)) (t : Nat) (a1 : Int32) (a2 : Int32) : Prop :=
  jOK x RX0 cX0_block 3 ∧
  jMt x "block" (Option.some Jvm.ClassFile.FieldType.long) [] ∧
  jRm x 4 61 ∧
  (∀ q : Int64 × jW, en q = some (.returned (some (.long q.1)), q.2))
theorem wcl_block_18 {x : jCx} {en : (Int64 × jW) → Option (Outcome × jW)} {t : Nat} {a1 : Int32} {a2 : Int32} (h : hcl_block x en t a1 a2) (W : jW) : jJ x 3 18 [(0, vR t), (1, vI a1), (2, vI a2)] [] W (fcl_block_18 t a1 a2 W) en := by
  have h0 := h
  obtain ⟨hx, hm, hr, he⟩ := h0
  unfold fcl_block_18
  refine j_ldc2 hx (v := (kJ (-14))) (jkd2 q1581 (by decide +kernel)) (by decide +kernel) ?_
  exact j_lret hx hm (by decide +kernel) (he _)
theorem wcl_block {x : jCx} {en : (Int64 × jW) → Option (Outcome × jW)} {t : Nat} {a1 : Int32} {a2 : Int32} (h : hcl_block x en t a1 a2) (W : jW) : jJ x 3 0 [(0, vR t), (1, vI a1), (2, vI a2)] [] W (fcl_block t a1 a2 W) en := by
  have h0 := h
  obtain ⟨hx, hm, hr, he⟩ := h0
  unfold fcl_block
  refine j_runA hx 2 (tb := [(0, .aload_n 0), (1, .iload_n 1)]) (jtb_ok (by decide +kernel)) (pc' := 2) (lv' := [(0, vR t), (1, vI a1), (2, vI a2)]) (st' := [vI a1, vR t]) rfl ?_
  refine j_gd (fun h1 => ?_)
  refine j_OI (j_callV (av := [vI a1]) (st := []) hx hr (Or.inl q1623) q1625 qs31 rfl md_fcl_isBlock np_fcl_isBlock (ccl_isBlock t a1 W) (by decide) (Nat.le_of_ble_eq_true rfl) h1 (by decide) (by decide +kernel)) (fun q2 _ => ?_)
  refine j_if_eq hx (off := 13) (tgt := 18) (by decide +kernel) (by decide) (fun _ => ?_) (fun _ => ?_)
  · exact wcl_block_18 h W
  refine j_runA hx 1 (tb := [(8, .iload_n 2)]) (jtb_ok (by decide +kernel)) (pc' := 9) (lv' := [(0, vR t), (1, vI a1), (2, vI a2)]) (st' := [vI a2]) rfl ?_
  refine j_if_lt hx (off := 9) (tgt := 18) (by decide +kernel) (by decide) (fun _ => ?_) (fun _ => ?_)
  · exact wcl_block_18 h W
  refine j_runA hx 2 (tb := [(12, .iload_n 2), (13, .bipush 7)]) (jtb_ok (by decide +kernel)) (pc' := 15) (lv' := [(0, vR t), (1, vI a1), (2, vI a2)]) (st' := [vI (kI 7), vI a2]) rfl ?_
  refine j_icmp_le hx (off := 7) (tgt := 22) (by decide +kernel) (by decide) (fun _ => ?_) (fun _ => ?_)
  · refine j_runA hx 1 (tb := [(22, .aload_n 0)]) (jtb_ok (by decide +kernel)) (pc' := 23) (lv' := [(0, vR t), (1, vI a1), (2, vI a2)]) (st' := [vR t]) rfl ?_
    refine j_WV (j_callV (av := []) (st := []) hx hr (Or.inl q1582) q1584 qs28 rfl md_fcl_counted np_fcl_counted (ccl_counted t W) (by decide) (Nat.le_of_ble_eq_true rfl) h1 (by decide) (by decide +kernel)) (fun q3 _ => ?_)
    refine j_runA hx 1 (tb := [(26, .iload_n 2)]) (jtb_ok (by decide +kernel)) (pc' := 27) (lv' := [(0, vR t), (1, vI a1), (2, vI a2)]) (st' := [vI a2]) rfl ?_
    refine j_tab hx (dflt := 130) (lo := 0) (hi := 6) (offs := #[41, 61, 71, 81, 92, 102, 112]) (len := 41) (k := 0) (off := 41) (tgt := 68) (by decide +kernel) (by decide) (by decide) (by decide) rfl (by decide) (fun _ => ?_) (fun h5 => ?_)
    · refine j_runA hx 1 (tb := [(68, .aload_n 0)]) (jtb_ok (by decide +kernel)) (pc' := 69) (lv' := [(0, vR t), (1, vI a1), (2, vI a2)]) (st' := [vR t]) rfl ?_
      refine j_gd (fun h6 => ?_)
      refine j_getR hx flX0_29 kl104 h6 (by decide) (by decide +kernel) ?_
      refine j_runA hx 1 (tb := [(72, .aload_n 0)]) (jtb_ok (by decide +kernel)) (pc' := 73) (lv' := [(0, vR t), (1, vI a1), (2, vI a2)]) (st' := [vR t, vR (jR q3 104 t)]) rfl ?_
      refine j_getR hx flX0_29 kl104 h6 (by decide) (by decide +kernel) ?_
      refine j_gd (fun h7 => ?_)
      refine j_getR hx flX0_238 kl213 h7 (by decide) (by decide +kernel) ?_
      refine j_gd (fun h8 => ?_)
      refine j_getR hx flX0_214 kl600 h8 (by decide) (by decide +kernel) ?_
      refine j_runA hx 1 (tb := [(82, .iload_n 1)]) (jtb_ok (by decide +kernel)) (pc' := 83) (lv' := [(0, vR t), (1, vI a1), (2, vI a2)]) (st' := [vI a1, vR (jR q3 600 (jR q3 213 (jR q3 104 t))), vR (jR q3 104 t)]) rfl ?_
      refine j_gd (fun h9 => ?_)
      refine j_iald hx (f := 600) (o := (jR q3 213 (jR q3 104 t))) kd600 rfl (by decide +kernel) h9 ?_
      refine j_OL (j_callV (av := [vI (jA q3 600 (jR q3 213 (jR q3 104 t)) (ix a1))]) (st := []) hx hr (Or.inl q1608) q1609 q1610 rfl md_fpg_addressOf np_fpg_addressOf (cpg_addressOf (jR q3 104 t) (jA q3 600 (jR q3 213 (jR q3 104 t)) (ix a1)) q3) (by decide) (Nat.le_of_ble_eq_true rfl) h7 (by decide) (by decide +kernel)) (fun q10 _ => ?_)
      exact j_lret hx hm (by decide +kernel) (he _)
    refine j_tab hx (dflt := 130) (lo := 0) (hi := 6) (offs := #[41, 61, 71, 81, 92, 102, 112]) (len := 41) (k := 1) (off := 61) (tgt := 88) (by decide +kernel) (by decide) (by decide) (by decide) rfl (by decide) (fun _ => ?_) (fun h11 => ?_)
    · refine j_runA hx 1 (tb := [(88, .aload_n 0)]) (jtb_ok (by decide +kernel)) (pc' := 89) (lv' := [(0, vR t), (1, vI a1), (2, vI a2)]) (st' := [vR t]) rfl ?_
      refine j_gd (fun h12 => ?_)
      refine j_getR hx flX0_29 kl104 h12 (by decide) (by decide +kernel) ?_
      refine j_runA hx 1 (tb := [(92, .iload_n 1)]) (jtb_ok (by decide +kernel)) (pc' := 93) (lv' := [(0, vR t), (1, vI a1), (2, vI a2)]) (st' := [vI a1, vR (jR q3 104 t)]) rfl ?_
      refine j_gd (fun h13 => ?_)
      refine j_OI (j_callV (av := [vI a1]) (st := []) hx hr (Or.inl q1627) q1133 q1134 rfl md_fpg_wordsOf np_fpg_wordsOf (cpg_wordsOf (jR q3 104 t) a1 q3) (by decide) (Nat.le_of_ble_eq_true rfl) h13 (by decide) (by decide +kernel)) (fun q14 _ => ?_)
      refine j_runA hx 1 (tb := [(96, .i2l)]) (jtb_ok (by decide +kernel)) (pc' := 97) (lv' := [(0, vR t), (1, vI a1), (2, vI a2)]) (st' := [vL q14.toInt64]) rfl ?_
      exact j_lret hx hm (by decide +kernel) (he _)
    refine j_tab hx (dflt := 130) (lo := 0) (hi := 6) (offs := #[41, 61, 71, 81, 92, 102, 112]) (len := 41) (k := 2) (off := 71) (tgt := 98) (by decide +kernel) (by decide) (by decide) (by decide) rfl (by decide) (fun _ => ?_) (fun h15 => ?_)
    · refine j_runA hx 1 (tb := [(98, .aload_n 0)]) (jtb_ok (by decide +kernel)) (pc' := 99) (lv' := [(0, vR t), (1, vI a1), (2, vI a2)]) (st' := [vR t]) rfl ?_
      refine j_gd (fun h16 => ?_)
      refine j_getR hx flX0_29 kl104 h16 (by decide) (by decide +kernel) ?_
      refine j_runA hx 1 (tb := [(102, .iload_n 1)]) (jtb_ok (by decide +kernel)) (pc' := 103) (lv' := [(0, vR t), (1, vI a1), (2, vI a2)]) (st' := [vI a1, vR (jR q3 104 t)]) rfl ?_
      refine j_gd (fun h17 => ?_)
      refine j_OI (j_callV (av := [vI a1]) (st := []) hx hr (Or.inl q1628) q1629 q1630 rfl md_fpg_functionOf np_fpg_functionOf (cpg_functionOf (jR q3 104 t) a1 q3) (by decide) (Nat.le_of_ble_eq_true rfl) h17 (by decide) (by decide +kernel)) (fun q18 _ => ?_)
      refine j_runA hx 1 (tb := [(106, .i2l)]) (jtb_ok (by decide +kernel)) (pc' := 107) (lv' := [(0, vR t), (1, vI a1), (2, vI a2)]) (st' := [vL q18.toInt64]) rfl ?_
      exact j_lret hx hm (by decide +kernel) (he _)
    refine j_tab hx (dflt := 130) (lo := 0) (hi := 6) (offs := #[41, 61, 71, 81, 92, 102, 112]) (len := 41) (k := 3) (off := 81) (tgt := 108) (by decide +kernel) (by decide) (by decide) (by decide) rfl (by decide) (fun _ => ?_) (fun h19 => ?_)
    · refine j_runA hx 1 (tb := [(108, .aload_n 0)]) (jtb_ok (by decide +kernel)) (pc' := 109) (lv' := [(0, vR t), (1, vI a1), (2, vI a2)]) (st' := [vR t]) rfl ?_
      refine j_gd (fun h20 => ?_)
      refine j_getR hx flX0_29 kl104 h20 (by decide) (by decide +kernel) ?_
      refine j_gd (fun h21 => ?_)
      refine j_getR hx flX0_246 kl214 h21 (by decide) (by decide +kernel) ?_
      refine j_runA hx 1 (tb := [(115, .iload_n 1)]) (jtb_ok (by decide +kernel)) (pc' := 116) (lv' := [(0, vR t), (1, vI a1), (2, vI a2)]) (st' := [vI a1, vR (jR q3 214 (jR q3 104 t))]) rfl ?_
      refine j_gd (fun h22 => ?_)
      refine j_iald hx (f := 214) (o := (jR q3 104 t)) kd214 rfl (by decide +kernel) h22 ?_
      refine j_runA hx 1 (tb := [(117, .i2l)]) (jtb_ok (by decide +kernel)) (pc' := 118) (lv' := [(0, vR t), (1, vI a1), (2, vI a2)]) (st' := [vL ((jA q3 214 (jR q3 104 t) (ix a1)).toInt64)]) rfl ?_
      exact j_lret hx hm (by decide +kernel) (he _)
    refine j_tab hx (dflt := 130) (lo := 0) (hi := 6) (offs := #[41, 61, 71, 81, 92, 102, 112]) (len := 41) (k := 4) (off := 92) (tgt := 119) (by decide +kernel) (by decide) (by decide) (by decide) rfl (by decide) (fun _ => ?_) (fun h23 => ?_)
    · refine j_runA hx 1 (tb := [(119, .aload_n 0)]) (jtb_ok (by decide +kernel)) (pc' := 120) (lv' := [(0, vR t), (1, vI a1), (2, vI a2)]) (st' := [vR t]) rfl ?_
      refine j_gd (fun h24 => ?_)
      refine j_getR hx flX0_29 kl104 h24 (by decide) (by decide +kernel) ?_
      refine j_runA hx 1 (tb := [(123, .iload_n 1)]) (jtb_ok (by decide +kernel)) (pc' := 124) (lv' := [(0, vR t), (1, vI a1), (2, vI a2)]) (st' := [vI a1, vR (jR q3 104 t)]) rfl ?_
      refine j_gd (fun h25 => ?_)
      refine j_OI (j_callV (av := [vI a1]) (st := []) hx hr (Or.inl q1632) q1633 q1634 rfl md_fpg_nextOf np_fpg_nextOf (cpg_nextOf (jR q3 104 t) a1 q3) (by decide) (Nat.le_of_ble_eq_true rfl) h25 (by decide) (by decide +kernel)) (fun q26 _ => ?_)
      refine j_runA hx 1 (tb := [(127, .i2l)]) (jtb_ok (by decide +kernel)) (pc' := 128) (lv' := [(0, vR t), (1, vI a1), (2, vI a2)]) (st' := [vL q26.toInt64]) rfl ?_
      exact j_lret hx hm (by decide +kernel) (he _)
    refine j_tab hx (dflt := 130) (lo := 0) (hi := 6) (offs := #[41, 61, 71, 81, 92, 102, 112]) (len := 41) (k := 5) (off := 102) (tgt := 129) (by decide +kernel) (by decide) (by decide) (by decide) rfl (by decide) (fun _ => ?_) (fun h27 => ?_)
    · refine j_runA hx 1 (tb := [(129, .aload_n 0)]) (jtb_ok (by decide +kernel)) (pc' := 130) (lv' := [(0, vR t), (1, vI a1), (2, vI a2)]) (st' := [vR t]) rfl ?_
      refine j_gd (fun h28 => ?_)
      refine j_getR hx flX0_29 kl104 h28 (by decide) (by decide +kernel) ?_
      refine j_runA hx 1 (tb := [(133, .iload_n 1)]) (jtb_ok (by decide +kernel)) (pc' := 134) (lv' := [(0, vR t), (1, vI a1), (2, vI a2)]) (st' := [vI a1, vR (jR q3 104 t)]) rfl ?_
      refine j_gd (fun h29 => ?_)
      refine j_OI (j_callV (av := [vI a1]) (st := []) hx hr (Or.inl q1636) q1637 q1638 rfl md_fpg_takenOf np_fpg_takenOf (cpg_takenOf (jR q3 104 t) a1 q3) (by decide) (Nat.le_of_ble_eq_true rfl) h29 (by decide) (by decide +kernel)) (fun q30 _ => ?_)
      refine j_runA hx 1 (tb := [(137, .i2l)]) (jtb_ok (by decide +kernel)) (pc' := 138) (lv' := [(0, vR t), (1, vI a1), (2, vI a2)]) (st' := [vL q30.toInt64]) rfl ?_
      exact j_lret hx hm (by decide +kernel) (he _)
    refine j_tab hx (dflt := 130) (lo := 0) (hi := 6) (offs := #[41, 61, 71, 81, 92, 102, 112]) (len := 41) (k := 6) (off := 112) (tgt := 139) (by decide +kernel) (by decide) (by decide) (by decide) rfl (by decide) (fun _ => ?_) (fun h31 => ?_)
    · refine j_runA hx 1 (tb := [(139, .aload_n 0)]) (jtb_ok (by decide +kernel)) (pc' := 140) (lv' := [(0, vR t), (1, vI a1), (2, vI a2)]) (st' := [vR t]) rfl ?_
      refine j_gd (fun h32 => ?_)
      refine j_getR hx flX0_29 kl104 h32 (by decide) (by decide +kernel) ?_
      refine j_gd (fun h33 => ?_)
      refine j_getR hx flX0_255 kl216 h33 (by decide) (by decide +kernel) ?_
      refine j_runA hx 1 (tb := [(146, .iload_n 1)]) (jtb_ok (by decide +kernel)) (pc' := 147) (lv' := [(0, vR t), (1, vI a1), (2, vI a2)]) (st' := [vI a1, vR (jR q3 216 (jR q3 104 t))]) rfl ?_
      refine j_gd (fun h34 => ?_)
      refine j_zald hx (f := 216) (o := (jR q3 104 t)) kd216 rfl (by decide +kernel) h34 ?_
      refine j_if_eq hx (off := 7) (tgt := 155) (by decide +kernel) (by decide) (fun _ => ?_) (fun _ => ?_)
      · refine j_runA hx 1 (tb := [(155, .lconst 0)]) (jtb_ok (by decide +kernel)) (pc' := 156) (lv' := [(0, vR t), (1, vI a1), (2, vI a2)]) (st' := [vL (kJ 0)]) rfl ?_
        exact j_lret hx hm (by decide +kernel) (he _)
      refine j_runA hx 1 (tb := [(151, .lconst 1)]) (jtb_ok (by decide +kernel)) (pc' := 152) (lv' := [(0, vR t), (1, vI a1), (2, vI a2)]) (st' := [vL (kJ 1)]) rfl ?_
      refine j_goto hx (off := 4) (by decide +kernel) (tgt := 156) (by decide) ?_
      exact j_lret hx hm (by decide +kernel) (he _)
    refine j_tabD hx (dflt := 130) (lo := 0) (hi := 6) (offs := #[41, 61, 71, 81, 92, 102, 112]) (len := 41) (tgt := 157) (by decide +kernel) (by decide) (fun i hi => by
      match i, hi with
      | 0, _ => exact Or.inr h5
      | 1, _ => exact Or.inr h11
      | 2, _ => exact Or.inr h15
      | 3, _ => exact Or.inr h19
      | 4, _ => exact Or.inr h23
      | 5, _ => exact Or.inr h27
      | 6, _ => exact Or.inr h31
      | n + 7, h => exact absurd h (by omega)) ?_
    refine j_runA hx 1 (tb := [(157, .aload_n 0)]) (jtb_ok (by decide +kernel)) (pc' := 158) (lv' := [(0, vR t), (1, vI a1), (2, vI a2)]) (st' := [vR t]) rfl ?_
    refine j_gd (fun h35 => ?_)
    refine j_getR hx flX0_171 kl111 h35 (by decide) (by decide +kernel) ?_
    refine j_gd (fun h36 => ?_)
    refine j_getR hx flX0_259 kl803 h36 (by decide) (by decide +kernel) ?_
    refine j_runA hx 1 (tb := [(164, .iload_n 1)]) (jtb_ok (by decide +kernel)) (pc' := 165) (lv' := [(0, vR t), (1, vI a1), (2, vI a2)]) (st' := [vI a1, vR (jR q3 803 (jR q3 111 t))]) rfl ?_
    refine j_gd (fun h37 => ?_)
    refine j_lald hx (f := 803) (o := (jR q3 111 t)) kd803 rfl (by decide +kernel) h37 ?_
    exact j_lret hx hm (by decide +kernel) (he _)
  exact wcl_block_18 h W
theorem ccl_block (t : Nat) (a1 : Int32) (a2 : Int32) (W : jW) : jM yX0_block cX0_block 3 (Option.some Jvm.ClassFile.FieldType.long) [] 4 61 [vR t, vI a1, vI a2] W ((fcl_block t a1 a2 W).bind (fun q => some (.returned (some (.long q.1)), q.2))) := 
  jM.of (Nat.le_of_ble_eq_true rfl) (fun x hx hm hr => wcl_block ⟨hx, hm, hr, fun _ => rfl⟩ W)
def hcl_wordAt (x : jCx) (en : (Int32) → Option (Outcome × jW)) (t : Nat) (a1 : Int64) (W : jW) : Prop :=
  jOK x RX0 cX0_wordAt 3 ∧
  jMt x "wordAt" (Option.some Jvm.ClassFile.FieldType.int) [] ∧
  jRm x 3 46 ∧
  (∀ q : Int32, en q = some (.returned (some (.int q)), W))
theorem wcl_wordAt_42 {x : jCx} {en : (Int32) → Option (Outcome × jW)} {W : jW} {t : Nat} {a1 : Int64} (h : hcl_wordAt x en t a1 W) : jJ x 3 42 [(0, vR t), (1, vL a1)] [] W (fcl_wordAt_42 t a1 W) en := by
  have h0 := h
  obtain ⟨hx, hm, hr, he⟩ := h0
  unfold fcl_wordAt_42
  refine j_runA hx 1 (tb := [(42, .iconst (-1))]) (jtb_ok (by decide +kernel)) (pc' := 43) (lv' := [(0, vR t), (1, vL a1)]) (st' := [vI (kI (-1))]) rfl ?_
  exact j_iret hx hm (by decide +kernel) rfl (he _)
theorem wcl_wordAt {x : jCx} {en : (Int32) → Option (Outcome × jW)} {W : jW} {t : Nat} {a1 : Int64} (h : hcl_wordAt x en t a1 W) : jJ x 3 0 [(0, vR t), (1, vL a1)] [] W (fcl_wordAt t a1 W) en := by
  have h0 := h
  obtain ⟨hx, hm, hr, he⟩ := h0
  unfold fcl_wordAt
  refine j_runA hx 1 (tb := [(0, .aload_n 0)]) (jtb_ok (by decide +kernel)) (pc' := 1) (lv' := [(0, vR t), (1, vL a1)]) (st' := [vR t]) rfl ?_
  refine j_gd (fun h1 => ?_)
  refine j_getI hx flX0_128 kd106 h1 (by decide) (by decide +kernel) ?_
  refine j_if_eq hx (off := 38) (tgt := 42) (by decide +kernel) (by decide) (fun _ => ?_) (fun _ => ?_)
  · exact wcl_wordAt_42 h
  refine j_runA hx 1 (tb := [(7, .aload_n 0)]) (jtb_ok (by decide +kernel)) (pc' := 8) (lv' := [(0, vR t), (1, vL a1)]) (st' := [vR t]) rfl ?_
  refine j_getR hx flX0_29 kl104 h1 (by decide) (by decide +kernel) ?_
  refine j_gd (fun h2 => ?_)
  refine j_getR hx flX0_263 kl201 h2 (by decide) (by decide +kernel) ?_
  refine j_runA hx 1 (tb := [(14, .lload_n 1)]) (jtb_ok (by decide +kernel)) (pc' := 15) (lv' := [(0, vR t), (1, vL a1)]) (st' := [vL a1, vR (jR W 201 (jR W 104 t))]) rfl ?_
  refine j_gd (fun h3 => ?_)
  refine j_OI (j_callV (av := [vL a1]) (st := []) hx hr (Or.inl q1649) q893 q894 rfl md_fsh_isText np_fsh_isText (csh_isText (jR W 201 (jR W 104 t)) a1 W) (by decide) (Nat.le_of_ble_eq_true rfl) h3 (by decide) (by decide +kernel)) (fun q4 _ => ?_)
  refine j_if_eq hx (off := 24) (tgt := 42) (by decide +kernel) (by decide) (fun _ => ?_) (fun _ => ?_)
  · exact wcl_wordAt_42 h
  refine j_runA hx 1 (tb := [(21, .lload_n 1)]) (jtb_ok (by decide +kernel)) (pc' := 22) (lv' := [(0, vR t), (1, vL a1)]) (st' := [vL a1]) rfl ?_
  refine j_ldc2 hx (v := (kJ 4)) (jkd2 q1612 (by decide +kernel)) (by decide +kernel) ?_
  refine j_lrem hx (by decide +kernel) (by decide +kernel) ?_
  refine j_runA hx 1 (tb := [(26, .lconst 0)]) (jtb_ok (by decide +kernel)) (pc' := 27) (lv' := [(0, vR t), (1, vL a1)]) (st' := [vL (kJ 0), vL (lrm a1 (kJ 4))]) rfl ?_
  refine j_lcmp_ne hx (off := 14) (tgt := 42) (by decide +kernel) (by decide +kernel) (by decide) (fun _ => ?_) (fun _ => ?_)
  · exact wcl_wordAt_42 h
  refine j_runA hx 1 (tb := [(31, .aload_n 0)]) (jtb_ok (by decide +kernel)) (pc' := 32) (lv' := [(0, vR t), (1, vL a1)]) (st' := [vR t]) rfl ?_
  refine j_getR hx flX0_29 kl104 h1 (by decide) (by decide +kernel) ?_
  refine j_runA hx 1 (tb := [(35, .lload_n 1)]) (jtb_ok (by decide +kernel)) (pc' := 36) (lv' := [(0, vR t), (1, vL a1)]) (st' := [vL a1, vR (jR W 104 t)]) rfl ?_
  refine j_OI (j_callV (av := [vL a1]) (st := []) hx hr (Or.inl q1650) q1036 q1037 rfl md_fpg_wordAt np_fpg_wordAt (cpg_wordAt (jR W 104 t) a1 W) (by decide) (Nat.le_of_ble_eq_true rfl) h2 (by decide) (by decide +kernel)) (fun q5 _ => ?_)
  refine j_goto hx (off := 4) (by decide +kernel) (tgt := 43) (by decide) ?_
  exact j_iret hx hm (by decide +kernel) rfl (he _)
theorem ccl_wordAt (t : Nat) (a1 : Int64) (W : jW) : jM yX0_wordAt cX0_wordAt 3 (Option.some Jvm.ClassFile.FieldType.int) [] 3 46 [vR t, vL a1] W ((fcl_wordAt t a1 W).bind (fun q => some (.returned (some (.int q)), W))) := 
  jM.of (Nat.le_of_ble_eq_true rfl) (fun x hx hm hr => wcl_wordAt ⟨hx, hm, hr, fun _ => rfl⟩)
def hpg_isWay (x : jCx) (en : (Int32) → Option (Outcome × jW)) (t : Nat) (a1 : Int32) (a2 : Int32) (W : jW) : Prop :=
  jOK x RX1 cX1_isWay 3 ∧
  jMt x "isWay" (Option.some Jvm.ClassFile.FieldType.boolean) [] ∧
  jRm x 1 14 ∧
  (∀ q : Int32, en q = some (.returned (some (.int q)), W))
theorem wpg_isWay_53 {x : jCx} {en : (Int32) → Option (Outcome × jW)} {W : jW} {t : Nat} {a1 : Int32} {a2 : Int32} (h : hpg_isWay x en t a1 a2 W) : jJ x 3 53 [(0, vR t), (1, vI a1), (2, vI a2)] [] W (fpg_isWay_53 t a1 a2 W) en := by
  have h0 := h
  obtain ⟨hx, hm, hr, he⟩ := h0
  unfold fpg_isWay_53
  refine j_runA hx 1 (tb := [(53, .iconst 1)]) (jtb_ok (by decide +kernel)) (pc' := 54) (lv' := [(0, vR t), (1, vI a1), (2, vI a2)]) (st' := [vI (kI 1)]) rfl ?_
  refine j_goto hx (off := 4) (by decide +kernel) (tgt := 58) (by decide) ?_
  exact j_iret hx hm (by decide +kernel) jz1n (he _)
theorem wpg_isWay_57 {x : jCx} {en : (Int32) → Option (Outcome × jW)} {W : jW} {t : Nat} {a1 : Int32} {a2 : Int32} (h : hpg_isWay x en t a1 a2 W) : jJ x 3 57 [(0, vR t), (1, vI a1), (2, vI a2)] [] W (fpg_isWay_57 t a1 a2 W) en := by
  have h0 := h
  obtain ⟨hx, hm, hr, he⟩ := h0
  unfold fpg_isWay_57
  refine j_runA hx 1 (tb := [(57, .iconst 0)]) (jtb_ok (by decide +kernel)) (pc' := 58) (lv' := [(0, vR t), (1, vI a1), (2, vI a2)]) (st' := [vI (kI 0)]) rfl ?_
  exact j_iret hx hm (by decide +kernel) jz0n (he _)
theorem wpg_isWay {x : jCx} {en : (Int32) → Option (Outcome × jW)} {W : jW} {t : Nat} {a1 : Int32} {a2 : Int32} (h : hpg_isWay x en t a1 a2 W) : jJ x 3 0 [(0, vR t), (1, vI a1), (2, vI a2)] [] W (fpg_isWay t a1 a2 W) en := by
  have h0 := h
  obtain ⟨hx, hm, hr, he⟩ := h0
  unfold fpg_isWay
  refine j_runA hx 2 (tb := [(0, .aload_n 0), (1, .iload_n 1)]) (jtb_ok (by decide +kernel)) (pc' := 2) (lv' := [(0, vR t), (1, vI a1), (2, vI a2)]) (st' := [vI a1, vR t]) rfl ?_
  refine j_gd (fun h1 => ?_)
  refine j_OI (j_callV (av := [vI a1]) (st := []) hx hr (Or.inl q1656) q1629 q1630 rfl md_fpg_functionOf np_fpg_functionOf (cpg_functionOf t a1 W) (by decide) (Nat.le_of_ble_eq_true rfl) h1 (by decide) (by decide +kernel)) (fun q2 _ => ?_)
  refine j_runA hx 2 (tb := [(5, .aload_n 0), (6, .iload_n 2)]) (jtb_ok (by decide +kernel)) (pc' := 7) (lv' := [(0, vR t), (1, vI a1), (2, vI a2)]) (st' := [vI a2, vR t, vI q2]) rfl ?_
  refine j_OI (j_callV (av := [vI a2]) (st := [vI q2]) hx hr (Or.inl q1656) q1629 q1630 rfl md_fpg_functionOf np_fpg_functionOf (cpg_functionOf t a2 W) (by decide) (Nat.le_of_ble_eq_true rfl) h1 (by decide) (by decide +kernel)) (fun q3 _ => ?_)
  refine j_icmp_eq hx (off := 5) (tgt := 15) (by decide +kernel) (by decide) (fun _ => ?_) (fun _ => ?_)
  · refine j_runA hx 3 (tb := [(15, .iload_n 2), (16, .aload_n 0), (17, .iload_n 1)]) (jtb_ok (by decide +kernel)) (pc' := 18) (lv' := [(0, vR t), (1, vI a1), (2, vI a2)]) (st' := [vI a1, vR t, vI a2]) rfl ?_
    refine j_OI (j_callV (av := [vI a1]) (st := [vI a2]) hx hr (Or.inl q1657) q1633 q1634 rfl md_fpg_nextOf np_fpg_nextOf (cpg_nextOf t a1 W) (by decide) (Nat.le_of_ble_eq_true rfl) h1 (by decide) (by decide +kernel)) (fun q4 _ => ?_)
    refine j_icmp_eq hx (off := 32) (tgt := 53) (by decide +kernel) (by decide) (fun _ => ?_) (fun _ => ?_)
    · exact wpg_isWay_53 h
    refine j_runA hx 3 (tb := [(24, .iload_n 2), (25, .aload_n 0), (26, .iload_n 1)]) (jtb_ok (by decide +kernel)) (pc' := 27) (lv' := [(0, vR t), (1, vI a1), (2, vI a2)]) (st' := [vI a1, vR t, vI a2]) rfl ?_
    refine j_OI (j_callV (av := [vI a1]) (st := [vI a2]) hx hr (Or.inl q1658) q1637 q1638 rfl md_fpg_takenOf np_fpg_takenOf (cpg_takenOf t a1 W) (by decide) (Nat.le_of_ble_eq_true rfl) h1 (by decide) (by decide +kernel)) (fun q5 _ => ?_)
    refine j_icmp_eq hx (off := 23) (tgt := 53) (by decide +kernel) (by decide) (fun _ => ?_) (fun _ => ?_)
    · exact wpg_isWay_53 h
    refine j_runA hx 1 (tb := [(33, .aload_n 0)]) (jtb_ok (by decide +kernel)) (pc' := 34) (lv' := [(0, vR t), (1, vI a1), (2, vI a2)]) (st' := [vR t]) rfl ?_
    refine j_getR hx flX1_68 kl214 h1 (by decide) (by decide +kernel) ?_
    refine j_runA hx 1 (tb := [(37, .iload_n 1)]) (jtb_ok (by decide +kernel)) (pc' := 38) (lv' := [(0, vR t), (1, vI a1), (2, vI a2)]) (st' := [vI a1, vR (jR W 214 t)]) rfl ?_
    refine j_gd (fun h6 => ?_)
    refine j_iald hx (f := 214) (o := t) kd214 rfl (by decide +kernel) h6 ?_
    refine j_runA hx 1 (tb := [(39, .bipush 6)]) (jtb_ok (by decide +kernel)) (pc' := 41) (lv' := [(0, vR t), (1, vI a1), (2, vI a2)]) (st' := [vI (kI 6), vI (jA W 214 t (ix a1))]) rfl ?_
    refine j_icmp_ne hx (off := 16) (tgt := 57) (by decide +kernel) (by decide) (fun _ => ?_) (fun _ => ?_)
    · exact wpg_isWay_57 h
    refine j_runA hx 1 (tb := [(44, .aload_n 0)]) (jtb_ok (by decide +kernel)) (pc' := 45) (lv' := [(0, vR t), (1, vI a1), (2, vI a2)]) (st' := [vR t]) rfl ?_
    refine j_getR hx flX1_74 kl216 h1 (by decide) (by decide +kernel) ?_
    refine j_runA hx 1 (tb := [(48, .iload_n 2)]) (jtb_ok (by decide +kernel)) (pc' := 49) (lv' := [(0, vR t), (1, vI a1), (2, vI a2)]) (st' := [vI a2, vR (jR W 216 t)]) rfl ?_
    refine j_gd (fun h7 => ?_)
    refine j_zald hx (f := 216) (o := t) kd216 rfl (by decide +kernel) h7 ?_
    refine j_if_eq hx (off := 7) (tgt := 57) (by decide +kernel) (by decide) (fun _ => ?_) (fun _ => ?_)
    · exact wpg_isWay_57 h
    exact wpg_isWay_53 h
  refine j_runA hx 1 (tb := [(13, .iconst 0)]) (jtb_ok (by decide +kernel)) (pc' := 14) (lv' := [(0, vR t), (1, vI a1), (2, vI a2)]) (st' := [vI (kI 0)]) rfl ?_
  exact j_iret hx hm (by decide +kernel) jz0n (he _)
theorem cpg_isWay (t : Nat) (a1 : Int32) (a2 : Int32) (W : jW) : jM yX1_isWay cX1_isWay 3 (Option.some Jvm.ClassFile.FieldType.boolean) [] 1 14 [vR t, vI a1, vI a2] W ((fpg_isWay t a1 a2 W).bind (fun q => some (.returned (some (.int q)), W))) := 
  jM.of (Nat.le_of_ble_eq_true rfl) (fun x hx hm hr => wpg_isWay ⟨hx, hm, hr, fun _ => rfl⟩)
def hco_seek (x : jCx) (en : (fco_seek_S ⊕ (Int32)) → Option (Outcome × jW)) (t : Nat) (a1 : Int32) (a2 : Int32) (W : jW) : Prop :=
  jOK x RX7 cX7_seek 4 ∧
  jMt x "seek" (Option.some Jvm.ClassFile.FieldType.int) [] ∧
  jRm x 0 0 ∧
  (∀ q : Int32, en (.inr q) = some (.returned (some (.int q)), W)) ∧
  (∀ (l3 : Int32), jJ x 4 14 [(0, vR t), (1, vI a1), (2, vI a2), (3, vI l3)] [] W (some (.inl l3)) en)
theorem wco_seek_59 {x : jCx} {en : (fco_seek_S ⊕ (Int32)) → Option (Outcome × jW)} {W : jW} {t : Nat} {a1 : Int32} {a2 : Int32} (h : hco_seek x en t a1 a2 W) (l3 : Int32) : jJ x 4 59 [(0, vR t), (1, vI a1), (2, vI a2), (3, vI l3)] [] W (fco_seek_59 t a1 a2 l3 W) en := by
  have h0 := h
  obtain ⟨hx, hm, hr, he, k14⟩ := h0
  unfold fco_seek_59
  refine j_runA hx 6 (tb := [(59, .iload_n 3), (60, .iconst 1), (61, .iadd), (62, .sipush 8191), (65, .iand), (66, .istore_n 3)]) (jtb_ok (by decide +kernel)) (pc' := 67) (lv' := [(3, vI ((l3 + (kI 1)) &&& (kI 8191))), (0, vR t), (1, vI a1), (2, vI a2)]) (st' := []) rfl ?_
  refine j_let (v := ((l3 + (kI 1)) &&& (kI 8191))) (lv := fun v12 => [(3, vI v12), (0, vR t), (1, vI a1), (2, vI a2)]) (st := fun _ => []) (fun v12 => ?_)
  refine j_goto hx (off := -53) (by decide +kernel) (tgt := 14) (by decide) ?_
  refine j_lv (lv' := [(0, vR t), (1, vI a1), (2, vI a2), (3, vI v12)]) ⟨rfl, rfl, rfl, rfl, trivial⟩ ?_
  exact k14 v12
theorem wco_seek_70 {x : jCx} {en : (fco_seek_S ⊕ (Int32)) → Option (Outcome × jW)} {W : jW} {t : Nat} {a1 : Int32} {a2 : Int32} (h : hco_seek x en t a1 a2 W) (l3 : Int32) : jJ x 4 70 [(0, vR t), (1, vI a1), (2, vI a2), (3, vI l3)] [] W (fco_seek_70 t a1 a2 l3 W) en := by
  have h0 := h
  obtain ⟨hx, hm, hr, he, k14⟩ := h0
  unfold fco_seek_70
  refine j_runA hx 1 (tb := [(70, .iload_n 3)]) (jtb_ok (by decide +kernel)) (pc' := 71) (lv' := [(0, vR t), (1, vI a1), (2, vI a2), (3, vI l3)]) (st' := [vI l3]) rfl ?_
  exact j_iret hx hm (by decide +kernel) rfl (he _)
theorem wco_seek_14 {x : jCx} {en : (fco_seek_S ⊕ (Int32)) → Option (Outcome × jW)} {W : jW} {t : Nat} {a1 : Int32} {a2 : Int32} (h : hco_seek x en t a1 a2 W) (l3 : Int32) : jJ x 4 14 [(0, vR t), (1, vI a1), (2, vI a2), (3, vI l3)] [] W (fco_seek_14 t a1 a2 l3 W) en := by
  have h0 := h
  obtain ⟨hx, hm, hr, he, k14⟩ := h0
  unfold fco_seek_14
  refine j_runA hx 1 (tb := [(14, .aload_n 0)]) (jtb_ok (by decide +kernel)) (pc' := 15) (lv' := [(0, vR t), (1, vI a1), (2, vI a2), (3, vI l3)]) (st' := [vR t]) rfl ?_
  refine j_gd (fun h3 => ?_)
  refine j_getR hx flX7_23 kl703 h3 (by decide) (by decide +kernel) ?_
  refine j_runA hx 1 (tb := [(18, .iload_n 3)]) (jtb_ok (by decide +kernel)) (pc' := 19) (lv' := [(0, vR t), (1, vI a1), (2, vI a2), (3, vI l3)]) (st' := [vI l3, vR (jR W 703 t)]) rfl ?_
  refine j_gd (fun h4 => ?_)
  refine j_iald hx (f := 703) (o := t) kd703 rfl (by decide +kernel) h4 ?_
  refine j_if_lt hx (off := 50) (tgt := 70) (by decide +kernel) (by decide) (fun _ => ?_) (fun _ => ?_)
  · exact wco_seek_70 h l3
  refine j_runA hx 1 (tb := [(23, .aload_n 0)]) (jtb_ok (by decide +kernel)) (pc' := 24) (lv' := [(0, vR t), (1, vI a1), (2, vI a2), (3, vI l3)]) (st' := [vR t]) rfl ?_
  refine j_getR hx flX7_10 kl700 h3 (by decide) (by decide +kernel) ?_
  refine j_gd (fun h5 => ?_)
  refine j_getR hx flX7_31 kl600 h5 (by decide) (by decide +kernel) ?_
  refine j_runA hx 1 (tb := [(30, .aload_n 0)]) (jtb_ok (by decide +kernel)) (pc' := 31) (lv' := [(0, vR t), (1, vI a1), (2, vI a2), (3, vI l3)]) (st' := [vR t, vR (jR W 600 (jR W 700 t))]) rfl ?_
  refine j_getR hx flX7_23 kl703 h3 (by decide) (by decide +kernel) ?_
  refine j_runA hx 1 (tb := [(34, .iload_n 3)]) (jtb_ok (by decide +kernel)) (pc' := 35) (lv' := [(0, vR t), (1, vI a1), (2, vI a2), (3, vI l3)]) (st' := [vI l3, vR (jR W 703 t), vR (jR W 600 (jR W 700 t))]) rfl ?_
  refine j_gd (fun h6 => ?_)
  refine j_iald hx (f := 703) (o := t) kd703 rfl (by decide +kernel) h6 ?_
  refine j_gd (fun h7 => ?_)
  refine j_iald hx (f := 600) (o := (jR W 700 t)) kd600 rfl (by decide +kernel) h7 ?_
  refine j_runA hx 1 (tb := [(37, .iload_n 1)]) (jtb_ok (by decide +kernel)) (pc' := 38) (lv' := [(0, vR t), (1, vI a1), (2, vI a2), (3, vI l3)]) (st' := [vI a1, vI (jA W 600 (jR W 700 t) (ix (jA W 703 t (ix l3))))]) rfl ?_
  refine j_icmp_ne hx (off := 21) (tgt := 59) (by decide +kernel) (by decide) (fun _ => ?_) (fun _ => ?_)
  · exact wco_seek_59 h l3
  refine j_runA hx 1 (tb := [(41, .aload_n 0)]) (jtb_ok (by decide +kernel)) (pc' := 42) (lv' := [(0, vR t), (1, vI a1), (2, vI a2), (3, vI l3)]) (st' := [vR t]) rfl ?_
  refine j_getR hx flX7_16 kl701 h3 (by decide) (by decide +kernel) ?_
  refine j_gd (fun h8 => ?_)
  refine j_getR hx flX7_31 kl600 h8 (by decide) (by decide +kernel) ?_
  refine j_runA hx 1 (tb := [(48, .aload_n 0)]) (jtb_ok (by decide +kernel)) (pc' := 49) (lv' := [(0, vR t), (1, vI a1), (2, vI a2), (3, vI l3)]) (st' := [vR t, vR (jR W 600 (jR W 701 t))]) rfl ?_
  refine j_getR hx flX7_23 kl703 h3 (by decide) (by decide +kernel) ?_
  refine j_runA hx 1 (tb := [(52, .iload_n 3)]) (jtb_ok (by decide +kernel)) (pc' := 53) (lv' := [(0, vR t), (1, vI a1), (2, vI a2), (3, vI l3)]) (st' := [vI l3, vR (jR W 703 t), vR (jR W 600 (jR W 701 t))]) rfl ?_
  refine j_gd (fun h9 => ?_)
  refine j_iald hx (f := 703) (o := t) kd703 rfl (by decide +kernel) h9 ?_
  refine j_gd (fun h10 => ?_)
  refine j_iald hx (f := 600) (o := (jR W 701 t)) kd600 rfl (by decide +kernel) h10 ?_
  refine j_runA hx 1 (tb := [(55, .iload_n 2)]) (jtb_ok (by decide +kernel)) (pc' := 56) (lv' := [(0, vR t), (1, vI a1), (2, vI a2), (3, vI l3)]) (st' := [vI a2, vI (jA W 600 (jR W 701 t) (ix (jA W 703 t (ix l3))))]) rfl ?_
  refine j_icmp_eq hx (off := 14) (tgt := 70) (by decide +kernel) (by decide) (fun _ => ?_) (fun _ => ?_)
  · exact wco_seek_70 h l3
  exact wco_seek_59 h l3
theorem wco_seek {x : jCx} {en : (fco_seek_S ⊕ (Int32)) → Option (Outcome × jW)} {W : jW} {t : Nat} {a1 : Int32} {a2 : Int32} (h : hco_seek x en t a1 a2 W) : jJ x 4 0 [(0, vR t), (1, vI a1), (2, vI a2)] [] W (fco_seek_0 t a1 a2 W) en := by
  have h0 := h
  obtain ⟨hx, hm, hr, he, k14⟩ := h0
  unfold fco_seek_0
  refine j_runA hx 10 (tb := [(0, .iload_n 1), (1, .bipush 31), (3, .imul), (4, .iload_n 2), (5, .bipush 17), (7, .imul), (8, .iadd), (9, .sipush 8191), (12, .iand), (13, .istore_n 3)]) (jtb_ok (by decide +kernel)) (pc' := 14) (lv' := [(3, vI (((a1 * (kI 31)) + (a2 * (kI 17))) &&& (kI 8191))), (0, vR t), (1, vI a1), (2, vI a2)]) (st' := []) rfl ?_
  refine j_let (v := (((a1 * (kI 31)) + (a2 * (kI 17))) &&& (kI 8191))) (lv := fun v1 => [(3, vI v1), (0, vR t), (1, vI a1), (2, vI a2)]) (st := fun _ => []) (fun v1 => ?_)
  refine j_lv (lv' := [(0, vR t), (1, vI a1), (2, vI a2), (3, vI v1)]) ⟨rfl, rfl, rfl, rfl, trivial⟩ ?_
  exact k14 v1
theorem cco_seek (t : Nat) (a1 : Int32) (a2 : Int32) (W : jW) : jM yX7_seek cX7_seek 4 (Option.some Jvm.ClassFile.FieldType.int) [] 0 0 [vR t, vI a1, vI a2] W ((fco_seek t a1 a2 W).bind (fun q => some (.returned (some (.int q)), W))) := by
  refine jM.of (Nat.le_of_ble_eq_true rfl) (fun x hx hm hr => ?_)
  refine j_begin (P := (fun s => (14, [(0, vR t), (1, vI a1), (2, vI a2), (3, vI s)], W))) (fun en he hk => ?_)
  have h : hco_seek x en t a1 a2 W := ⟨hx, hm, hr, fun q => he _, fun l3 => hk l3⟩
  exact ⟨fun s => wco_seek_14 h s, wco_seek h⟩
def hco_add (x : jCx) (en : (jW) → Option (Outcome × jW)) (t : Nat) (a1 : Int32) (a2 : Int32) (a3 : Int64) : Prop :=
  jOK x RX7 cX7_add 7 ∧
  jMt x "add" (Option.none : Option Jvm.ClassFile.FieldType) [] ∧
  jRm x 2 74 ∧
  (∀ q : jW, en q = some (.returned none, q))
theorem wco_add_109 {x : jCx} {en : (jW) → Option (Outcome × jW)} {t : Nat} {a1 : Int32} {a2 : Int32} {a3 : Int64} (h : hco_add x en t a1 a2 a3) (l5 : Int32) (W : jW) : jJ x 7 109 [(0, vR t), (1, vI a1), (2, vI a2), (3, vL a3), (5, vI l5)] [] W (fco_add_109 t a1 a2 a3 l5 W) en := by
  have h0 := h
  obtain ⟨hx, hm, hr, he⟩ := h0
  unfold fco_add_109
  refine j_runA hx 1 (tb := [(109, .aload_n 0)]) (jtb_ok (by decide +kernel)) (pc' := 110) (lv' := [(0, vR t), (1, vI a1), (2, vI a2), (3, vL a3), (5, vI l5)]) (st' := [vR t]) rfl ?_
  refine j_gd (fun h53 => ?_)
  refine j_getR hx flX7_19 kl702 h53 (by decide) (by decide +kernel) ?_
  refine j_runA hx 1 (tb := [(113, .aload_n 0)]) (jtb_ok (by decide +kernel)) (pc' := 114) (lv' := [(0, vR t), (1, vI a1), (2, vI a2), (3, vL a3), (5, vI l5)]) (st' := [vR t, vR (jR W 702 t)]) rfl ?_
  refine j_getR hx flX7_23 kl703 h53 (by decide) (by decide +kernel) ?_
  refine j_runA hx 1 (tb := [(117, .iload 5)]) (jtb_ok (by decide +kernel)) (pc' := 119) (lv' := [(0, vR t), (1, vI a1), (2, vI a2), (3, vL a3), (5, vI l5)]) (st' := [vI l5, vR (jR W 703 t), vR (jR W 702 t)]) rfl ?_
  refine j_gd (fun h54 => ?_)
  refine j_iald hx (f := 703) (o := t) kd703 rfl (by decide +kernel) h54 ?_
  refine j_runA hx 1 (tb := [(120, .dup2)]) (jtb_ok (by decide +kernel)) (pc' := 121) (lv' := [(0, vR t), (1, vI a1), (2, vI a2), (3, vL a3), (5, vI l5)]) (st' := [vI (jA W 703 t (ix l5)), vR (jR W 702 t), vI (jA W 703 t (ix l5)), vR (jR W 702 t)]) rfl ?_
  refine j_gd (fun h55 => ?_)
  refine j_lald hx (f := 702) (o := t) kd702 rfl (by decide +kernel) h55 ?_
  refine j_runA hx 2 (tb := [(122, .lload_n 3), (123, .ladd)]) (jtb_ok (by decide +kernel)) (pc' := 124) (lv' := [(0, vR t), (1, vI a1), (2, vI a2), (3, vL a3), (5, vI l5)]) (st' := [vL ((jB W 702 t (ix (jA W 703 t (ix l5)))) + a3), vI (jA W 703 t (ix l5)), vR (jR W 702 t)]) rfl ?_
  refine j_gd (fun h56 => ?_)
  refine j_last hx (f := 702) (o := t) kd702 rfl (by decide +kernel) h56 ?_
  refine j_ltw rfl (fun W57 hc58 => ?_)
  have h59 : jC W57 t = 7 := (congrFun hc58 _).trans h53
  exact j_vret hx hm (by decide +kernel) (he _)
theorem wco_add_96 {x : jCx} {en : (jW) → Option (Outcome × jW)} {t : Nat} {a1 : Int32} {a2 : Int32} {a3 : Int64} (h : hco_add x en t a1 a2 a3) (l5 : Int32) (W : jW) : jJ x 7 96 [(0, vR t), (1, vI a1), (2, vI a2), (3, vL a3), (5, vI l5)] [] W (fco_add_96 t a1 a2 a3 l5 W) en := by
  have h0 := h
  obtain ⟨hx, hm, hr, he⟩ := h0
  unfold fco_add_96
  refine j_runA hx 1 (tb := [(96, .aload_n 0)]) (jtb_ok (by decide +kernel)) (pc' := 97) (lv' := [(0, vR t), (1, vI a1), (2, vI a2), (3, vL a3), (5, vI l5)]) (st' := [vR t]) rfl ?_
  refine j_gd (fun h45 => ?_)
  refine j_getR hx flX7_19 kl702 h45 (by decide) (by decide +kernel) ?_
  refine j_runA hx 1 (tb := [(100, .aload_n 0)]) (jtb_ok (by decide +kernel)) (pc' := 101) (lv' := [(0, vR t), (1, vI a1), (2, vI a2), (3, vL a3), (5, vI l5)]) (st' := [vR t, vR (jR W 702 t)]) rfl ?_
  refine j_getR hx flX7_23 kl703 h45 (by decide) (by decide +kernel) ?_
  refine j_runA hx 1 (tb := [(104, .iload 5)]) (jtb_ok (by decide +kernel)) (pc' := 106) (lv' := [(0, vR t), (1, vI a1), (2, vI a2), (3, vL a3), (5, vI l5)]) (st' := [vI l5, vR (jR W 703 t), vR (jR W 702 t)]) rfl ?_
  refine j_gd (fun h46 => ?_)
  refine j_iald hx (f := 703) (o := t) kd703 rfl (by decide +kernel) h46 ?_
  refine j_runA hx 1 (tb := [(107, .lconst 0)]) (jtb_ok (by decide +kernel)) (pc' := 108) (lv' := [(0, vR t), (1, vI a1), (2, vI a2), (3, vL a3), (5, vI l5)]) (st' := [vL (kJ 0), vI (jA W 703 t (ix l5)), vR (jR W 702 t)]) rfl ?_
  refine j_gd (fun h47 => ?_)
  refine j_last hx (f := 702) (o := t) kd702 rfl (by decide +kernel) h47 ?_
  refine j_ltw rfl (fun W48 hc49 => ?_)
  have h50 : jC W48 t = 7 := (congrFun hc49 _).trans h45
  exact wco_add_109 h l5 W48
theorem wco_add {x : jCx} {en : (jW) → Option (Outcome × jW)} {t : Nat} {a1 : Int32} {a2 : Int32} {a3 : Int64} (h : hco_add x en t a1 a2 a3) (W : jW) : jJ x 7 0 [(0, vR t), (1, vI a1), (2, vI a2), (3, vL a3)] [] W (fco_add t a1 a2 a3 W) en := by
  have h0 := h
  obtain ⟨hx, hm, hr, he⟩ := h0
  unfold fco_add
  refine j_runA hx 3 (tb := [(0, .aload_n 0), (1, .iload_n 1), (2, .iload_n 2)]) (jtb_ok (by decide +kernel)) (pc' := 3) (lv' := [(0, vR t), (1, vI a1), (2, vI a2), (3, vL a3)]) (st' := [vI a2, vI a1, vR t]) rfl ?_
  refine j_gd (fun h1 => ?_)
  refine j_OI (j_callV (av := [vI a1, vI a2]) (st := []) hx hr (Or.inl q1663) q1665 qs33 rfl md_fco_seek np_fco_seek (cco_seek t a1 a2 W) (by decide) (Nat.le_of_ble_eq_true rfl) h1 (by decide) (by decide +kernel)) (fun q2 _ => ?_)
  refine j_runA hx 2 (tb := [(6, .istore 5), (8, .aload_n 0)]) (jtb_ok (by decide +kernel)) (pc' := 9) (lv' := [(5, vI q2), (0, vR t), (1, vI a1), (2, vI a2), (3, vL a3)]) (st' := [vR t]) rfl ?_
  refine j_getR hx flX7_23 kl703 h1 (by decide) (by decide +kernel) ?_
  refine j_runA hx 1 (tb := [(12, .iload 5)]) (jtb_ok (by decide +kernel)) (pc' := 14) (lv' := [(5, vI q2), (0, vR t), (1, vI a1), (2, vI a2), (3, vL a3)]) (st' := [vI q2, vR (jR W 703 t)]) rfl ?_
  refine j_gd (fun h3 => ?_)
  refine j_iald hx (f := 703) (o := t) kd703 rfl (by decide +kernel) h3 ?_
  refine j_if_ge hx (off := 94) (tgt := 109) (by decide +kernel) (by decide) (fun _ => ?_) (fun _ => ?_)
  · refine j_lv (lv' := [(0, vR t), (1, vI a1), (2, vI a2), (3, vL a3), (5, vI q2)]) ⟨rfl, rfl, rfl, rfl, rfl, trivial⟩ ?_
    exact wco_add_109 h q2 W
  refine j_runA hx 1 (tb := [(18, .aload_n 0)]) (jtb_ok (by decide +kernel)) (pc' := 19) (lv' := [(5, vI q2), (0, vR t), (1, vI a1), (2, vI a2), (3, vL a3)]) (st' := [vR t]) rfl ?_
  refine j_getR hx flX7_23 kl703 h1 (by decide) (by decide +kernel) ?_
  refine j_runA hx 2 (tb := [(22, .iload 5), (24, .aload_n 0)]) (jtb_ok (by decide +kernel)) (pc' := 25) (lv' := [(5, vI q2), (0, vR t), (1, vI a1), (2, vI a2), (3, vL a3)]) (st' := [vR t, vI q2, vR (jR W 703 t)]) rfl ?_
  refine j_getR hx flX7_10 kl700 h1 (by decide) (by decide +kernel) ?_
  refine j_gd (fun h4 => ?_)
  refine j_getI hx flX7_27 kd601 h4 (by decide) (by decide +kernel) ?_
  refine j_gd (fun h5 => ?_)
  refine j_iast hx (f := 703) (o := t) kd703 rfl (by decide +kernel) h5 ?_
  refine j_ltw rfl (fun W6 hc7 => ?_)
  have h8 : jC W6 t = 7 := (congrFun hc7 _).trans h1
  have h9 : jC W6 (jR W 700 t) = 6 := (congrFun hc7 _).trans h4
  refine j_runA hx 1 (tb := [(32, .aload_n 0)]) (jtb_ok (by decide +kernel)) (pc' := 33) (lv' := [(5, vI q2), (0, vR t), (1, vI a1), (2, vI a2), (3, vL a3)]) (st' := [vR t]) rfl ?_
  refine j_getR hx flX7_10 kl700 h8 (by decide) (by decide +kernel) ?_
  refine j_runA hx 1 (tb := [(36, .iload_n 1)]) (jtb_ok (by decide +kernel)) (pc' := 37) (lv' := [(5, vI q2), (0, vR t), (1, vI a1), (2, vI a2), (3, vL a3)]) (st' := [vI a1, vR (jR W6 700 t)]) rfl ?_
  refine j_gd (fun h11 => ?_)
  refine j_WV (j_callV (av := [vI a1]) (st := []) hx hr (Or.inl q1667) q1040 q1041 rfl md_fro_add np_fro_add (cro_add (jR W6 700 t) a1 W6) (by decide) (Nat.le_of_ble_eq_true rfl) h11 (by decide) (by decide +kernel)) (fun q12 _ => ?_)
  refine j_runA hx 1 (tb := [(40, .aload_n 0)]) (jtb_ok (by decide +kernel)) (pc' := 41) (lv' := [(5, vI q2), (0, vR t), (1, vI a1), (2, vI a2), (3, vL a3)]) (st' := [vR t]) rfl ?_
  refine j_gd (fun h14 => ?_)
  refine j_getR hx flX7_16 kl701 h14 (by decide) (by decide +kernel) ?_
  refine j_runA hx 1 (tb := [(44, .iload_n 2)]) (jtb_ok (by decide +kernel)) (pc' := 45) (lv' := [(5, vI q2), (0, vR t), (1, vI a1), (2, vI a2), (3, vL a3)]) (st' := [vI a2, vR (jR q12 701 t)]) rfl ?_
  refine j_gd (fun h15 => ?_)
  refine j_WV (j_callV (av := [vI a2]) (st := []) hx hr (Or.inl q1667) q1040 q1041 rfl md_fro_add np_fro_add (cro_add (jR q12 701 t) a2 q12) (by decide) (Nat.le_of_ble_eq_true rfl) h15 (by decide) (by decide +kernel)) (fun q16 _ => ?_)
  refine j_runA hx 1 (tb := [(48, .aload_n 0)]) (jtb_ok (by decide +kernel)) (pc' := 49) (lv' := [(5, vI q2), (0, vR t), (1, vI a1), (2, vI a2), (3, vL a3)]) (st' := [vR t]) rfl ?_
  refine j_gd (fun h18 => ?_)
  refine j_getR hx flX7_19 kl702 h18 (by decide) (by decide +kernel) ?_
  refine j_gd (fun h19 => ?_)
  refine j_alen hx (f := 702) (o := t) kg702 kh702 rfl (by decide +kernel) h19 ?_
  refine j_runA hx 1 (tb := [(53, .aload_n 0)]) (jtb_ok (by decide +kernel)) (pc' := 54) (lv' := [(5, vI q2), (0, vR t), (1, vI a1), (2, vI a2), (3, vL a3)]) (st' := [vR t, vI (nI (jN q16 702 t))]) rfl ?_
  refine j_getR hx flX7_10 kl700 h18 (by decide) (by decide +kernel) ?_
  refine j_gd (fun h20 => ?_)
  refine j_getI hx flX7_27 kd601 h20 (by decide) (by decide +kernel) ?_
  refine j_icmp_ge hx (off := 36) (tgt := 96) (by decide +kernel) (by decide) (fun _ => ?_) (fun _ => ?_)
  · refine j_lv (lv' := [(0, vR t), (1, vI a1), (2, vI a2), (3, vL a3), (5, vI q2)]) ⟨rfl, rfl, rfl, rfl, rfl, trivial⟩ ?_
    exact wco_add_96 h q2 q16
  refine j_runA hx 2 (tb := [(63, .iconst 2), (64, .aload_n 0)]) (jtb_ok (by decide +kernel)) (pc' := 65) (lv' := [(5, vI q2), (0, vR t), (1, vI a1), (2, vI a2), (3, vL a3)]) (st' := [vR t, vI (kI 2)]) rfl ?_
  refine j_getR hx flX7_19 kl702 h18 (by decide) (by decide +kernel) ?_
  refine j_gd (fun h21 => ?_)
  refine j_alen hx (f := 702) (o := t) kg702 kh702 rfl (by decide +kernel) h21 ?_
  refine j_runA hx 1 (tb := [(69, .imul)]) (jtb_ok (by decide +kernel)) (pc' := 70) (lv' := [(5, vI q2), (0, vR t), (1, vI a1), (2, vI a2), (3, vL a3)]) (st' := [vI ((kI 2) * (nI (jN q16 702 t)))]) rfl ?_
  refine j_gd (fun h22 => ?_)
  refine j_newB hx (f := 9006) (by decide) kd9006 ja9006_6 (by decide +kernel) h22 ?_
  refine j_ltw rfl (fun W23 hc24 => ?_)
  have h25 : jC W23 t = 7 := (congrFun hc24 _).trans h18
  have h26 : jC W23 (jR q16 700 t) = 6 := (congrFun hc24 _).trans h20
  refine j_runA hx 1 (tb := [(72, .astore 6)]) (jtb_ok (by decide +kernel)) (pc' := 74) (lv' := [(6, vR (jX q16)), (5, vI q2), (0, vR t), (1, vI a1), (2, vI a2), (3, vL a3)]) (st' := []) rfl ?_
  refine j_let (v := (jX q16)) (lv := fun v28 => [(6, vR v28), (5, vI q2), (0, vR t), (1, vI a1), (2, vI a2), (3, vL a3)]) (st := fun _ => []) (fun v28 => ?_)
  refine j_runA hx 1 (tb := [(74, .aload_n 0)]) (jtb_ok (by decide +kernel)) (pc' := 75) (lv' := [(6, vR v28), (5, vI q2), (0, vR t), (1, vI a1), (2, vI a2), (3, vL a3)]) (st' := [vR t]) rfl ?_
  refine j_getR hx flX7_19 kl702 h25 (by decide) (by decide +kernel) ?_
  refine j_runA hx 4 (tb := [(78, .iconst 0), (79, .aload 6), (81, .iconst 0), (82, .aload_n 0)]) (jtb_ok (by decide +kernel)) (pc' := 83) (lv' := [(6, vR v28), (5, vI q2), (0, vR t), (1, vI a1), (2, vI a2), (3, vL a3)]) (st' := [vR t, vI (kI 0), vR v28, vI (kI 0), vR (jR W23 702 t)]) rfl ?_
  refine j_getR hx flX7_19 kl702 h25 (by decide) (by decide +kernel) ?_
  refine j_gd (fun h29 => ?_)
  refine j_alen hx (f := 702) (o := t) kg702 kh702 rfl (by decide +kernel) h29 ?_
  refine j_gd (fun h30 => ?_)
  refine j_gd (fun h31 => ?_)
  refine j_gd (fun h32 => ?_)
  refine j_cpB (f := 702) (o := t) (f2 := 9006) (o2 := v28) hx hr q1668 q735 q734 q245 (by decide +kernel) kd702 kd9006 rfl h30 h31 h32 (by decide) (Nat.le_of_ble_eq_true rfl) ?_
  refine j_ltw rfl (fun W33 hc34 => ?_)
  have h35 : jC W33 t = 7 := (congrFun hc34 _).trans h25
  have h36 : jC W33 (jR q16 700 t) = 6 := (congrFun hc34 _).trans h26
  refine j_runA hx 2 (tb := [(90, .aload_n 0), (91, .aload 6)]) (jtb_ok (by decide +kernel)) (pc' := 93) (lv' := [(6, vR v28), (5, vI q2), (0, vR t), (1, vI a1), (2, vI a2), (3, vL a3)]) (st' := [vR v28, vR t]) rfl ?_
  refine j_gd (fun h38 => ?_)
  refine j_attB hx fwX7_19 wf702 kd702 (by decide) h35 (by decide) nr702 fr702 (by decide +kernel) h38 ?_
  refine j_ltw rfl (fun W39 hc40 => ?_)
  have h41 : jC W39 t = 7 := (congrFun hc40 _).trans h35
  have h42 : jC W39 (jR q16 700 t) = 6 := (congrFun hc40 _).trans h36
  refine j_lv (lv' := [(0, vR t), (1, vI a1), (2, vI a2), (3, vL a3), (5, vI q2)]) ⟨rfl, rfl, rfl, rfl, rfl, trivial⟩ ?_
  exact wco_add_96 h q2 W39
theorem cco_add (t : Nat) (a1 : Int32) (a2 : Int32) (a3 : Int64) (W : jW) : jM yX7_add cX7_add 7 (Option.none : Option Jvm.ClassFile.FieldType) [] 2 74 [vR t, vI a1, vI a2, vL a3] W ((fco_add t a1 a2 a3 W).bind (fun q => some (.returned none, q))) := 
  jM.of (Nat.le_of_ble_eq_true rfl) (fun x hx hm hr => wco_add ⟨hx, hm, hr, fun _ => rfl⟩ W)
def hpg_isCalled (x : jCx) (en : (Int32) → Option (Outcome × jW)) (t : Nat) (a1 : Int32) (a2 : Int32) (W : jW) : Prop :=
  jOK x RX1 cX1_isCalled 3 ∧
  jMt x "isCalled" (Option.some Jvm.ClassFile.FieldType.boolean) [] ∧
  jRm x 1 14 ∧
  (∀ q : Int32, en q = some (.returned (some (.int q)), W))
theorem wpg_isCalled_50 {x : jCx} {en : (Int32) → Option (Outcome × jW)} {W : jW} {t : Nat} {a1 : Int32} {a2 : Int32} (h : hpg_isCalled x en t a1 a2 W) : jJ x 3 50 [(0, vR t), (1, vI a1), (2, vI a2)] [] W (fpg_isCalled_50 t a1 a2 W) en := by
  have h0 := h
  obtain ⟨hx, hm, hr, he⟩ := h0
  unfold fpg_isCalled_50
  refine j_runA hx 1 (tb := [(50, .iconst 0)]) (jtb_ok (by decide +kernel)) (pc' := 51) (lv' := [(0, vR t), (1, vI a1), (2, vI a2)]) (st' := [vI (kI 0)]) rfl ?_
  exact j_iret hx hm (by decide +kernel) jz0n (he _)
theorem wpg_isCalled_32 {x : jCx} {en : (Int32) → Option (Outcome × jW)} {W : jW} {t : Nat} {a1 : Int32} {a2 : Int32} (h : hpg_isCalled x en t a1 a2 W) : jJ x 3 32 [(0, vR t), (1, vI a1), (2, vI a2)] [] W (fpg_isCalled_32 t a1 a2 W) en := by
  have h0 := h
  obtain ⟨hx, hm, hr, he⟩ := h0
  unfold fpg_isCalled_32
  refine j_runA hx 1 (tb := [(32, .aload_n 0)]) (jtb_ok (by decide +kernel)) (pc' := 33) (lv' := [(0, vR t), (1, vI a1), (2, vI a2)]) (st' := [vR t]) rfl ?_
  refine j_gd (fun h7 => ?_)
  refine j_getR hx flX1_71 kl215 h7 (by decide) (by decide +kernel) ?_
  refine j_runA hx 1 (tb := [(36, .iload_n 1)]) (jtb_ok (by decide +kernel)) (pc' := 37) (lv' := [(0, vR t), (1, vI a1), (2, vI a2)]) (st' := [vI a1, vR (jR W 215 t)]) rfl ?_
  refine j_gd (fun h8 => ?_)
  refine j_iald hx (f := 215) (o := t) kd215 rfl (by decide +kernel) h8 ?_
  refine j_runA hx 2 (tb := [(38, .aload_n 0), (39, .iload_n 2)]) (jtb_ok (by decide +kernel)) (pc' := 40) (lv' := [(0, vR t), (1, vI a1), (2, vI a2)]) (st' := [vI a2, vR t, vI (jA W 215 t (ix a1))]) rfl ?_
  refine j_OI (j_callV (av := [vI a2]) (st := [vI (jA W 215 t (ix a1))]) hx hr (Or.inl q1673) q1604 q1605 rfl md_fpg_firstBlock np_fpg_firstBlock (cpg_firstBlock t a2 W) (by decide) (Nat.le_of_ble_eq_true rfl) h7 (by decide) (by decide +kernel)) (fun q9 _ => ?_)
  refine j_icmp_ne hx (off := 7) (tgt := 50) (by decide +kernel) (by decide) (fun _ => ?_) (fun _ => ?_)
  · exact wpg_isCalled_50 h
  refine j_runA hx 1 (tb := [(46, .iconst 1)]) (jtb_ok (by decide +kernel)) (pc' := 47) (lv' := [(0, vR t), (1, vI a1), (2, vI a2)]) (st' := [vI (kI 1)]) rfl ?_
  refine j_goto hx (off := 4) (by decide +kernel) (tgt := 51) (by decide) ?_
  exact j_iret hx hm (by decide +kernel) jz1n (he _)
theorem wpg_isCalled {x : jCx} {en : (Int32) → Option (Outcome × jW)} {W : jW} {t : Nat} {a1 : Int32} {a2 : Int32} (h : hpg_isCalled x en t a1 a2 W) : jJ x 3 0 [(0, vR t), (1, vI a1), (2, vI a2)] [] W (fpg_isCalled t a1 a2 W) en := by
  have h0 := h
  obtain ⟨hx, hm, hr, he⟩ := h0
  unfold fpg_isCalled
  refine j_runA hx 1 (tb := [(0, .aload_n 0)]) (jtb_ok (by decide +kernel)) (pc' := 1) (lv' := [(0, vR t), (1, vI a1), (2, vI a2)]) (st' := [vR t]) rfl ?_
  refine j_gd (fun h1 => ?_)
  refine j_getR hx flX1_68 kl214 h1 (by decide) (by decide +kernel) ?_
  refine j_runA hx 1 (tb := [(4, .iload_n 1)]) (jtb_ok (by decide +kernel)) (pc' := 5) (lv' := [(0, vR t), (1, vI a1), (2, vI a2)]) (st' := [vI a1, vR (jR W 214 t)]) rfl ?_
  refine j_gd (fun h2 => ?_)
  refine j_iald hx (f := 214) (o := t) kd214 rfl (by decide +kernel) h2 ?_
  refine j_runA hx 1 (tb := [(6, .iconst 5)]) (jtb_ok (by decide +kernel)) (pc' := 7) (lv' := [(0, vR t), (1, vI a1), (2, vI a2)]) (st' := [vI (kI 5), vI (jA W 214 t (ix a1))]) rfl ?_
  refine j_icmp_ne hx (off := 5) (tgt := 12) (by decide +kernel) (by decide) (fun _ => ?_) (fun _ => ?_)
  · refine j_runA hx 1 (tb := [(12, .aload_n 0)]) (jtb_ok (by decide +kernel)) (pc' := 13) (lv' := [(0, vR t), (1, vI a1), (2, vI a2)]) (st' := [vR t]) rfl ?_
    refine j_getR hx flX1_68 kl214 h1 (by decide) (by decide +kernel) ?_
    refine j_runA hx 1 (tb := [(16, .iload_n 1)]) (jtb_ok (by decide +kernel)) (pc' := 17) (lv' := [(0, vR t), (1, vI a1), (2, vI a2)]) (st' := [vI a1, vR (jR W 214 t)]) rfl ?_
    refine j_gd (fun h3 => ?_)
    refine j_iald hx (f := 214) (o := t) kd214 rfl (by decide +kernel) h3 ?_
    refine j_runA hx 1 (tb := [(18, .iconst 4)]) (jtb_ok (by decide +kernel)) (pc' := 19) (lv' := [(0, vR t), (1, vI a1), (2, vI a2)]) (st' := [vI (kI 4), vI (jA W 214 t (ix a1))]) rfl ?_
    refine j_icmp_eq hx (off := 13) (tgt := 32) (by decide +kernel) (by decide) (fun _ => ?_) (fun _ => ?_)
    · exact wpg_isCalled_32 h
    refine j_runA hx 1 (tb := [(22, .aload_n 0)]) (jtb_ok (by decide +kernel)) (pc' := 23) (lv' := [(0, vR t), (1, vI a1), (2, vI a2)]) (st' := [vR t]) rfl ?_
    refine j_getR hx flX1_68 kl214 h1 (by decide) (by decide +kernel) ?_
    refine j_runA hx 1 (tb := [(26, .iload_n 1)]) (jtb_ok (by decide +kernel)) (pc' := 27) (lv' := [(0, vR t), (1, vI a1), (2, vI a2)]) (st' := [vI a1, vR (jR W 214 t)]) rfl ?_
    refine j_gd (fun h4 => ?_)
    refine j_iald hx (f := 214) (o := t) kd214 rfl (by decide +kernel) h4 ?_
    refine j_runA hx 1 (tb := [(28, .iconst 2)]) (jtb_ok (by decide +kernel)) (pc' := 29) (lv' := [(0, vR t), (1, vI a1), (2, vI a2)]) (st' := [vI (kI 2), vI (jA W 214 t (ix a1))]) rfl ?_
    refine j_icmp_ne hx (off := 21) (tgt := 50) (by decide +kernel) (by decide) (fun _ => ?_) (fun _ => ?_)
    · exact wpg_isCalled_50 h
    exact wpg_isCalled_32 h
  refine j_runA hx 1 (tb := [(10, .iconst 1)]) (jtb_ok (by decide +kernel)) (pc' := 11) (lv' := [(0, vR t), (1, vI a1), (2, vI a2)]) (st' := [vI (kI 1)]) rfl ?_
  exact j_iret hx hm (by decide +kernel) jz1n (he _)
theorem cpg_isCalled (t : Nat) (a1 : Int32) (a2 : Int32) (W : jW) : jM yX1_isCalled cX1_isCalled 3 (Option.some Jvm.ClassFile.FieldType.boolean) [] 1 14 [vR t, vI a1, vI a2] W ((fpg_isCalled t a1 a2 W).bind (fun q => some (.returned (some (.int q)), W))) := 
  jM.of (Nat.le_of_ble_eq_true rfl) (fun x hx hm hr => wpg_isCalled ⟨hx, hm, hr, fun _ => rfl⟩)
def hcl_edge (x : jCx) (en : (Int32 × jW) → Option (Outcome × jW)) (t : Nat) (a1 : Int64) (a3 : Int64) (a5 : Int32) : Prop :=
  jOK x RX0 cX0_edge 11 ∧
  jMt x "edge" (Option.some Jvm.ClassFile.FieldType.int) [] ∧
  jRm x 4 92 ∧
  (∀ q : Int32 × jW, en q = some (.returned (some (.int q.1)), q.2))
theorem wcl_edge_24 {x : jCx} {en : (Int32 × jW) → Option (Outcome × jW)} {t : Nat} {a1 : Int64} {a3 : Int64} {a5 : Int32} (h : hcl_edge x en t a1 a3 a5) (W : jW) : jJ x 11 24 [(0, vR t), (1, vL a1), (3, vL a3), (5, vI a5)] [] W (fcl_edge_24 t a1 a3 a5 W) en := by
  have h0 := h
  obtain ⟨hx, hm, hr, he⟩ := h0
  unfold fcl_edge_24
  refine j_runA hx 1 (tb := [(24, .iconst (-1))]) (jtb_ok (by decide +kernel)) (pc' := 25) (lv' := [(0, vR t), (1, vL a1), (3, vL a3), (5, vI a5)]) (st' := [vI (kI (-1))]) rfl ?_
  exact j_iret hx hm (by decide +kernel) rfl (he _)
theorem wcl_edge_60 {x : jCx} {en : (Int32 × jW) → Option (Outcome × jW)} {t : Nat} {a1 : Int64} {a3 : Int64} {a5 : Int32} (h : hcl_edge x en t a1 a3 a5) (W : jW) : jJ x 11 60 [(0, vR t), (1, vL a1), (3, vL a3), (5, vI a5)] [] W (fcl_edge_60 t a1 a3 a5 W) en := by
  have h0 := h
  obtain ⟨hx, hm, hr, he⟩ := h0
  unfold fcl_edge_60
  refine j_runA hx 1 (tb := [(60, .bipush (-2))]) (jtb_ok (by decide +kernel)) (pc' := 62) (lv' := [(0, vR t), (1, vL a1), (3, vL a3), (5, vI a5)]) (st' := [vI (kI (-2))]) rfl ?_
  exact j_iret hx hm (by decide +kernel) rfl (he _)
theorem wcl_edge_88 {x : jCx} {en : (Int32 × jW) → Option (Outcome × jW)} {t : Nat} {a1 : Int64} {a3 : Int64} {a5 : Int32} (h : hcl_edge x en t a1 a3 a5) (W : jW) : jJ x 11 88 [(0, vR t), (1, vL a1), (3, vL a3), (5, vI a5)] [] W (fcl_edge_88 t a1 a3 a5 W) en := by
  have h0 := h
  obtain ⟨hx, hm, hr, he⟩ := h0
  unfold fcl_edge_88
  refine j_runA hx 1 (tb := [(88, .bipush (-3))]) (jtb_ok (by decide +kernel)) (pc' := 90) (lv' := [(0, vR t), (1, vL a1), (3, vL a3), (5, vI a5)]) (st' := [vI (kI (-3))]) rfl ?_
  exact j_iret hx hm (by decide +kernel) rfl (he _)
theorem wcl_edge_225 {x : jCx} {en : (Int32 × jW) → Option (Outcome × jW)} {t : Nat} {a1 : Int64} {a3 : Int64} {a5 : Int32} (h : hcl_edge x en t a1 a3 a5) (W : jW) : jJ x 11 225 [(0, vR t), (1, vL a1), (3, vL a3), (5, vI a5)] [] W (fcl_edge_225 t a1 a3 a5 W) en := by
  have h0 := h
  obtain ⟨hx, hm, hr, he⟩ := h0
  unfold fcl_edge_225
  refine j_runA hx 2 (tb := [(225, .aload_n 0), (226, .iconst 0)]) (jtb_ok (by decide +kernel)) (pc' := 227) (lv' := [(0, vR t), (1, vL a1), (3, vL a3), (5, vI a5)]) (st' := [vI (kI 0), vR t]) rfl ?_
  refine j_gd (fun h28 => ?_)
  refine j_putI hx fwX0_138 wf115 kd115 h28 (by decide) (by decide +kernel) (nz115 jz0) (fz115 jz0) ?_
  refine j_ltw rfl (fun W29 hc30 => ?_)
  have h31 : jC W29 t = 1 := (congrFun hc30 _).trans h28
  refine j_runA hx 1 (tb := [(230, .iconst 0)]) (jtb_ok (by decide +kernel)) (pc' := 231) (lv' := [(0, vR t), (1, vL a1), (3, vL a3), (5, vI a5)]) (st' := [vI (kI 0)]) rfl ?_
  exact j_iret hx hm (by decide +kernel) rfl (he _)
theorem wcl_edge_222 {x : jCx} {en : (Int32 × jW) → Option (Outcome × jW)} {t : Nat} {a1 : Int64} {a3 : Int64} {a5 : Int32} (h : hcl_edge x en t a1 a3 a5) (W : jW) : jJ x 11 222 [(0, vR t), (1, vL a1), (3, vL a3), (5, vI a5)] [] W (fcl_edge_222 t a1 a3 a5 W) en := by
  have h0 := h
  obtain ⟨hx, hm, hr, he⟩ := h0
  unfold fcl_edge_222
  refine j_runA hx 1 (tb := [(222, .bipush (-4))]) (jtb_ok (by decide +kernel)) (pc' := 224) (lv' := [(0, vR t), (1, vL a1), (3, vL a3), (5, vI a5)]) (st' := [vI (kI (-4))]) rfl ?_
  exact j_iret hx hm (by decide +kernel) rfl (he _)
theorem wcl_edge {x : jCx} {en : (Int32 × jW) → Option (Outcome × jW)} {t : Nat} {a1 : Int64} {a3 : Int64} {a5 : Int32} (h : hcl_edge x en t a1 a3 a5) (W : jW) : jJ x 11 0 [(0, vR t), (1, vL a1), (3, vL a3), (5, vI a5)] [] W (fcl_edge t a1 a3 a5 W) en := by
  have h0 := h
  obtain ⟨hx, hm, hr, he⟩ := h0
  unfold fcl_edge
  refine j_runA hx 1 (tb := [(0, .aload_n 0)]) (jtb_ok (by decide +kernel)) (pc' := 1) (lv' := [(0, vR t), (1, vL a1), (3, vL a3), (5, vI a5)]) (st' := [vR t]) rfl ?_
  refine j_gd (fun h1 => ?_)
  refine j_getI hx flX0_128 kd106 h1 (by decide) (by decide +kernel) ?_
  refine j_if_ne hx (off := 6) (tgt := 10) (by decide +kernel) (by decide) (fun _ => ?_) (fun _ => ?_)
  · refine j_runA hx 2 (tb := [(10, .iload 5), (12, .iconst 1)]) (jtb_ok (by decide +kernel)) (pc' := 13) (lv' := [(0, vR t), (1, vL a1), (3, vL a3), (5, vI a5)]) (st' := [vI (kI 1), vI a5]) rfl ?_
    refine j_icmp_lt hx (off := 11) (tgt := 24) (by decide +kernel) (by decide) (fun _ => ?_) (fun _ => ?_)
    · exact wcl_edge_24 h W
    refine j_runA hx 1 (tb := [(16, .iload 5)]) (jtb_ok (by decide +kernel)) (pc' := 18) (lv' := [(0, vR t), (1, vL a1), (3, vL a3), (5, vI a5)]) (st' := [vI a5]) rfl ?_
    refine j_ldcw hx (v := (kI 1000000000)) (jkc q1644 (by decide +kernel)) (by decide +kernel) ?_
    refine j_icmp_le hx (off := 5) (tgt := 26) (by decide +kernel) (by decide) (fun _ => ?_) (fun _ => ?_)
    · refine j_runA hx 2 (tb := [(26, .aload_n 0), (27, .lload_n 1)]) (jtb_ok (by decide +kernel)) (pc' := 28) (lv' := [(0, vR t), (1, vL a1), (3, vL a3), (5, vI a5)]) (st' := [vL a1, vR t]) rfl ?_
      refine j_OI (j_callV (av := [vL a1]) (st := []) hx hr (Or.inl q1645) q1647 qs32 rfl md_fcl_wordAt np_fcl_wordAt (ccl_wordAt t a1 W) (by decide) (Nat.le_of_ble_eq_true rfl) h1 (by decide) (by decide +kernel)) (fun q2 _ => ?_)
      refine j_runA hx 2 (tb := [(31, .istore 6), (33, .iload 6)]) (jtb_ok (by decide +kernel)) (pc' := 35) (lv' := [(6, vI q2), (0, vR t), (1, vL a1), (3, vL a3), (5, vI a5)]) (st' := [vI q2]) rfl ?_
      refine j_if_lt hx (off := 25) (tgt := 60) (by decide +kernel) (by decide) (fun _ => ?_) (fun _ => ?_)
      · refine j_lv (lv' := [(0, vR t), (1, vL a1), (3, vL a3), (5, vI a5)]) ⟨rfl, rfl, rfl, rfl, trivial⟩ ?_
        exact wcl_edge_60 h W
      refine j_runA hx 1 (tb := [(38, .aload_n 0)]) (jtb_ok (by decide +kernel)) (pc' := 39) (lv' := [(6, vI q2), (0, vR t), (1, vL a1), (3, vL a3), (5, vI a5)]) (st' := [vR t]) rfl ?_
      refine j_getR hx flX0_29 kl104 h1 (by decide) (by decide +kernel) ?_
      refine j_runA hx 1 (tb := [(42, .aload_n 0)]) (jtb_ok (by decide +kernel)) (pc' := 43) (lv' := [(6, vI q2), (0, vR t), (1, vL a1), (3, vL a3), (5, vI a5)]) (st' := [vR t, vR (jR W 104 t)]) rfl ?_
      refine j_getR hx flX0_29 kl104 h1 (by decide) (by decide +kernel) ?_
      refine j_gd (fun h3 => ?_)
      refine j_getR hx flX0_276 kl206 h3 (by decide) (by decide +kernel) ?_
      refine j_runA hx 1 (tb := [(49, .iload 6)]) (jtb_ok (by decide +kernel)) (pc' := 51) (lv' := [(6, vI q2), (0, vR t), (1, vL a1), (3, vL a3), (5, vI a5)]) (st' := [vI q2, vR (jR W 206 (jR W 104 t)), vR (jR W 104 t)]) rfl ?_
      refine j_gd (fun h4 => ?_)
      refine j_iald hx (f := 206) (o := (jR W 104 t)) kd206 rfl (by decide +kernel) h4 ?_
      refine j_OI (j_callV (av := [vI (jA W 206 (jR W 104 t) (ix q2))]) (st := []) hx hr (Or.inl q1651) q1129 q1130 rfl md_fpg_lastWord np_fpg_lastWord (cpg_lastWord (jR W 104 t) (jA W 206 (jR W 104 t) (ix q2)) W) (by decide) (Nat.le_of_ble_eq_true rfl) h3 (by decide) (by decide +kernel)) (fun q5 _ => ?_)
      refine j_runA hx 1 (tb := [(55, .iload 6)]) (jtb_ok (by decide +kernel)) (pc' := 57) (lv' := [(6, vI q2), (0, vR t), (1, vL a1), (3, vL a3), (5, vI a5)]) (st' := [vI q2, vI q5]) rfl ?_
      refine j_icmp_eq hx (off := 6) (tgt := 63) (by decide +kernel) (by decide) (fun _ => ?_) (fun _ => ?_)
      · refine j_runA hx 2 (tb := [(63, .aload_n 0), (64, .lload_n 3)]) (jtb_ok (by decide +kernel)) (pc' := 65) (lv' := [(6, vI q2), (0, vR t), (1, vL a1), (3, vL a3), (5, vI a5)]) (st' := [vL a3, vR t]) rfl ?_
        refine j_OI (j_callV (av := [vL a3]) (st := []) hx hr (Or.inl q1645) q1647 qs32 rfl md_fcl_wordAt np_fcl_wordAt (ccl_wordAt t a3 W) (by decide) (Nat.le_of_ble_eq_true rfl) h1 (by decide) (by decide +kernel)) (fun q6 _ => ?_)
        refine j_runA hx 2 (tb := [(68, .istore 7), (70, .iload 7)]) (jtb_ok (by decide +kernel)) (pc' := 72) (lv' := [(7, vI q6), (6, vI q2), (0, vR t), (1, vL a1), (3, vL a3), (5, vI a5)]) (st' := [vI q6]) rfl ?_
        refine j_if_lt hx (off := 16) (tgt := 88) (by decide +kernel) (by decide) (fun _ => ?_) (fun _ => ?_)
        · refine j_lv (lv' := [(0, vR t), (1, vL a1), (3, vL a3), (5, vI a5)]) ⟨rfl, rfl, rfl, rfl, trivial⟩ ?_
          exact wcl_edge_88 h W
        refine j_runA hx 1 (tb := [(75, .aload_n 0)]) (jtb_ok (by decide +kernel)) (pc' := 76) (lv' := [(7, vI q6), (6, vI q2), (0, vR t), (1, vL a1), (3, vL a3), (5, vI a5)]) (st' := [vR t]) rfl ?_
        refine j_getR hx flX0_29 kl104 h1 (by decide) (by decide +kernel) ?_
        refine j_getR hx flX0_282 kl208 h3 (by decide) (by decide +kernel) ?_
        refine j_runA hx 1 (tb := [(82, .iload 7)]) (jtb_ok (by decide +kernel)) (pc' := 84) (lv' := [(7, vI q6), (6, vI q2), (0, vR t), (1, vL a1), (3, vL a3), (5, vI a5)]) (st' := [vI q6, vR (jR W 208 (jR W 104 t))]) rfl ?_
        refine j_gd (fun h7 => ?_)
        refine j_zald hx (f := 208) (o := (jR W 104 t)) kd208 rfl (by decide +kernel) h7 ?_
        refine j_if_ne hx (off := 6) (tgt := 91) (by decide +kernel) (by decide) (fun _ => ?_) (fun _ => ?_)
        · refine j_runA hx 1 (tb := [(91, .aload_n 0)]) (jtb_ok (by decide +kernel)) (pc' := 92) (lv' := [(7, vI q6), (6, vI q2), (0, vR t), (1, vL a1), (3, vL a3), (5, vI a5)]) (st' := [vR t]) rfl ?_
          refine j_getR hx flX0_29 kl104 h1 (by decide) (by decide +kernel) ?_
          refine j_getR hx flX0_276 kl206 h3 (by decide) (by decide +kernel) ?_
          refine j_runA hx 1 (tb := [(98, .iload 6)]) (jtb_ok (by decide +kernel)) (pc' := 100) (lv' := [(7, vI q6), (6, vI q2), (0, vR t), (1, vL a1), (3, vL a3), (5, vI a5)]) (st' := [vI q2, vR (jR W 206 (jR W 104 t))]) rfl ?_
          refine j_gd (fun h8 => ?_)
          refine j_iald hx (f := 206) (o := (jR W 104 t)) kd206 rfl (by decide +kernel) h8 ?_
          refine j_runA hx 1 (tb := [(101, .istore 8)]) (jtb_ok (by decide +kernel)) (pc' := 103) (lv' := [(8, vI (jA W 206 (jR W 104 t) (ix q2))), (7, vI q6), (6, vI q2), (0, vR t), (1, vL a1), (3, vL a3), (5, vI a5)]) (st' := []) rfl ?_
          refine j_let (v := (jA W 206 (jR W 104 t) (ix q2))) (lv := fun v9 => [(8, vI v9), (7, vI q6), (6, vI q2), (0, vR t), (1, vL a1), (3, vL a3), (5, vI a5)]) (st := fun _ => []) (fun v9 => ?_)
          refine j_runA hx 1 (tb := [(103, .aload_n 0)]) (jtb_ok (by decide +kernel)) (pc' := 104) (lv' := [(8, vI v9), (7, vI q6), (6, vI q2), (0, vR t), (1, vL a1), (3, vL a3), (5, vI a5)]) (st' := [vR t]) rfl ?_
          refine j_getR hx flX0_29 kl104 h1 (by decide) (by decide +kernel) ?_
          refine j_getR hx flX0_276 kl206 h3 (by decide) (by decide +kernel) ?_
          refine j_runA hx 1 (tb := [(110, .iload 7)]) (jtb_ok (by decide +kernel)) (pc' := 112) (lv' := [(8, vI v9), (7, vI q6), (6, vI q2), (0, vR t), (1, vL a1), (3, vL a3), (5, vI a5)]) (st' := [vI q6, vR (jR W 206 (jR W 104 t))]) rfl ?_
          refine j_gd (fun h10 => ?_)
          refine j_iald hx (f := 206) (o := (jR W 104 t)) kd206 rfl (by decide +kernel) h10 ?_
          refine j_runA hx 1 (tb := [(113, .istore 9)]) (jtb_ok (by decide +kernel)) (pc' := 115) (lv' := [(9, vI (jA W 206 (jR W 104 t) (ix q6))), (8, vI v9), (7, vI q6), (6, vI q2), (0, vR t), (1, vL a1), (3, vL a3), (5, vI a5)]) (st' := []) rfl ?_
          refine j_let (v := (jA W 206 (jR W 104 t) (ix q6))) (lv := fun v11 => [(9, vI v11), (8, vI v9), (7, vI q6), (6, vI q2), (0, vR t), (1, vL a1), (3, vL a3), (5, vI a5)]) (st := fun _ => []) (fun v11 => ?_)
          refine j_runA hx 1 (tb := [(115, .aload_n 0)]) (jtb_ok (by decide +kernel)) (pc' := 116) (lv' := [(9, vI v11), (8, vI v9), (7, vI q6), (6, vI q2), (0, vR t), (1, vL a1), (3, vL a3), (5, vI a5)]) (st' := [vR t]) rfl ?_
          refine j_getR hx flX0_29 kl104 h1 (by decide) (by decide +kernel) ?_
          refine j_runA hx 1 (tb := [(119, .iload 9)]) (jtb_ok (by decide +kernel)) (pc' := 121) (lv' := [(9, vI v11), (8, vI v9), (7, vI q6), (6, vI q2), (0, vR t), (1, vL a1), (3, vL a3), (5, vI a5)]) (st' := [vI v11, vR (jR W 104 t)]) rfl ?_
          refine j_OI (j_callV (av := [vI v11]) (st := []) hx hr (Or.inl q1628) q1629 q1630 rfl md_fpg_functionOf np_fpg_functionOf (cpg_functionOf (jR W 104 t) v11 W) (by decide) (Nat.le_of_ble_eq_true rfl) h3 (by decide) (by decide +kernel)) (fun q12 _ => ?_)
          refine j_runA hx 2 (tb := [(124, .istore 10), (126, .aload_n 0)]) (jtb_ok (by decide +kernel)) (pc' := 127) (lv' := [(10, vI q12), (9, vI v11), (8, vI v9), (7, vI q6), (6, vI q2), (0, vR t), (1, vL a1), (3, vL a3), (5, vI a5)]) (st' := [vR t]) rfl ?_
          refine j_getR hx flX0_29 kl104 h1 (by decide) (by decide +kernel) ?_
          refine j_runA hx 2 (tb := [(130, .iload 8), (132, .iload 9)]) (jtb_ok (by decide +kernel)) (pc' := 134) (lv' := [(10, vI q12), (9, vI v11), (8, vI v9), (7, vI q6), (6, vI q2), (0, vR t), (1, vL a1), (3, vL a3), (5, vI a5)]) (st' := [vI v11, vI v9, vR (jR W 104 t)]) rfl ?_
          refine j_OI (j_callV (av := [vI v9, vI v11]) (st := []) hx hr (Or.inl q1652) q1653 q1654 rfl md_fpg_isWay np_fpg_isWay (cpg_isWay (jR W 104 t) v9 v11 W) (by decide) (Nat.le_of_ble_eq_true rfl) h3 (by decide) (by decide +kernel)) (fun q13 _ => ?_)
          refine j_if_eq hx (off := 20) (tgt := 157) (by decide +kernel) (by decide) (fun _ => ?_) (fun _ => ?_)
          · refine j_runA hx 2 (tb := [(157, .iload 9), (159, .aload_n 0)]) (jtb_ok (by decide +kernel)) (pc' := 160) (lv' := [(10, vI q12), (9, vI v11), (8, vI v9), (7, vI q6), (6, vI q2), (0, vR t), (1, vL a1), (3, vL a3), (5, vI a5)]) (st' := [vR t, vI v11]) rfl ?_
            refine j_getR hx flX0_29 kl104 h1 (by decide) (by decide +kernel) ?_
            refine j_runA hx 1 (tb := [(163, .iload 10)]) (jtb_ok (by decide +kernel)) (pc' := 165) (lv' := [(10, vI q12), (9, vI v11), (8, vI v9), (7, vI q6), (6, vI q2), (0, vR t), (1, vL a1), (3, vL a3), (5, vI a5)]) (st' := [vI q12, vR (jR W 104 t), vI v11]) rfl ?_
            refine j_OI (j_callV (av := [vI q12]) (st := [vI v11]) hx hr (Or.inl q1614) q1604 q1605 rfl md_fpg_firstBlock np_fpg_firstBlock (cpg_firstBlock (jR W 104 t) q12 W) (by decide) (Nat.le_of_ble_eq_true rfl) h3 (by decide) (by decide +kernel)) (fun q14 _ => ?_)
            refine j_icmp_ne hx (off := 54) (tgt := 222) (by decide +kernel) (by decide) (fun _ => ?_) (fun _ => ?_)
            · refine j_lv (lv' := [(0, vR t), (1, vL a1), (3, vL a3), (5, vI a5)]) ⟨rfl, rfl, rfl, rfl, trivial⟩ ?_
              exact wcl_edge_222 h W
            refine j_runA hx 1 (tb := [(171, .aload_n 0)]) (jtb_ok (by decide +kernel)) (pc' := 172) (lv' := [(10, vI q12), (9, vI v11), (8, vI v9), (7, vI q6), (6, vI q2), (0, vR t), (1, vL a1), (3, vL a3), (5, vI a5)]) (st' := [vR t]) rfl ?_
            refine j_getR hx flX0_29 kl104 h1 (by decide) (by decide +kernel) ?_
            refine j_runA hx 2 (tb := [(175, .iload 8), (177, .iload 10)]) (jtb_ok (by decide +kernel)) (pc' := 179) (lv' := [(10, vI q12), (9, vI v11), (8, vI v9), (7, vI q6), (6, vI q2), (0, vR t), (1, vL a1), (3, vL a3), (5, vI a5)]) (st' := [vI q12, vI v9, vR (jR W 104 t)]) rfl ?_
            refine j_OI (j_callV (av := [vI v9, vI q12]) (st := []) hx hr (Or.inl q1669) q1670 q1671 rfl md_fpg_isCalled np_fpg_isCalled (cpg_isCalled (jR W 104 t) v9 q12 W) (by decide) (Nat.le_of_ble_eq_true rfl) h3 (by decide) (by decide +kernel)) (fun q15 _ => ?_)
            refine j_if_eq hx (off := 40) (tgt := 222) (by decide +kernel) (by decide) (fun _ => ?_) (fun _ => ?_)
            · refine j_lv (lv' := [(0, vR t), (1, vL a1), (3, vL a3), (5, vI a5)]) ⟨rfl, rfl, rfl, rfl, trivial⟩ ?_
              exact wcl_edge_222 h W
            refine j_runA hx 1 (tb := [(185, .aload_n 0)]) (jtb_ok (by decide +kernel)) (pc' := 186) (lv' := [(10, vI q12), (9, vI v11), (8, vI v9), (7, vI q6), (6, vI q2), (0, vR t), (1, vL a1), (3, vL a3), (5, vI a5)]) (st' := [vR t]) rfl ?_
            refine j_getR hx flX0_43 kl109 h1 (by decide) (by decide +kernel) ?_
            refine j_runA hx 1 (tb := [(189, .aload_n 0)]) (jtb_ok (by decide +kernel)) (pc' := 190) (lv' := [(10, vI q12), (9, vI v11), (8, vI v9), (7, vI q6), (6, vI q2), (0, vR t), (1, vL a1), (3, vL a3), (5, vI a5)]) (st' := [vR t, vR (jR W 109 t)]) rfl ?_
            refine j_getR hx flX0_29 kl104 h1 (by decide) (by decide +kernel) ?_
            refine j_runA hx 1 (tb := [(193, .iload 8)]) (jtb_ok (by decide +kernel)) (pc' := 195) (lv' := [(10, vI q12), (9, vI v11), (8, vI v9), (7, vI q6), (6, vI q2), (0, vR t), (1, vL a1), (3, vL a3), (5, vI a5)]) (st' := [vI v9, vR (jR W 104 t), vR (jR W 109 t)]) rfl ?_
            refine j_OI (j_callV (av := [vI v9]) (st := [vR (jR W 109 t)]) hx hr (Or.inl q1628) q1629 q1630 rfl md_fpg_functionOf np_fpg_functionOf (cpg_functionOf (jR W 104 t) v9 W) (by decide) (Nat.le_of_ble_eq_true rfl) h3 (by decide) (by decide +kernel)) (fun q16 _ => ?_)
            refine j_runA hx 3 (tb := [(198, .iload 10), (200, .iload 5), (202, .i2l)]) (jtb_ok (by decide +kernel)) (pc' := 203) (lv' := [(10, vI q12), (9, vI v11), (8, vI v9), (7, vI q6), (6, vI q2), (0, vR t), (1, vL a1), (3, vL a3), (5, vI a5)]) (st' := [vL a5.toInt64, vI q12, vI q16, vR (jR W 109 t)]) rfl ?_
            refine j_gd (fun h17 => ?_)
            refine j_WV (j_callV (av := [vI q16, vI q12, vL a5.toInt64]) (st := []) hx hr (Or.inl q1659) q1660 q1661 rfl md_fco_add np_fco_add (cco_add (jR W 109 t) q16 q12 a5.toInt64 W) (by decide) (Nat.le_of_ble_eq_true rfl) h17 (by decide) (by decide +kernel)) (fun q18 _ => ?_)
            refine j_runA hx 1 (tb := [(206, .aload_n 0)]) (jtb_ok (by decide +kernel)) (pc' := 207) (lv' := [(10, vI q12), (9, vI v11), (8, vI v9), (7, vI q6), (6, vI q2), (0, vR t), (1, vL a1), (3, vL a3), (5, vI a5)]) (st' := [vR t]) rfl ?_
            refine j_gd (fun h20 => ?_)
            refine j_getR hx flX0_46 kl110 h20 (by decide) (by decide +kernel) ?_
            refine j_runA hx 4 (tb := [(210, .iload 8), (212, .iconst 0), (213, .iload 5), (215, .i2l)]) (jtb_ok (by decide +kernel)) (pc' := 216) (lv' := [(10, vI q12), (9, vI v11), (8, vI v9), (7, vI q6), (6, vI q2), (0, vR t), (1, vL a1), (3, vL a3), (5, vI a5)]) (st' := [vL a5.toInt64, vI (kI 0), vI v9, vR (jR q18 110 t)]) rfl ?_
            refine j_gd (fun h21 => ?_)
            refine j_WV (j_callV (av := [vI v9, vI (kI 0), vL a5.toInt64]) (st := []) hx hr (Or.inl q1659) q1660 q1661 rfl md_fco_add np_fco_add (cco_add (jR q18 110 t) v9 (kI 0) a5.toInt64 q18) (by decide) (Nat.le_of_ble_eq_true rfl) h21 (by decide) (by decide +kernel)) (fun q22 _ => ?_)
            refine j_goto hx (off := 6) (by decide +kernel) (tgt := 225) (by decide) ?_
            refine j_lv (lv' := [(0, vR t), (1, vL a1), (3, vL a3), (5, vI a5)]) ⟨rfl, rfl, rfl, rfl, trivial⟩ ?_
            exact wcl_edge_225 h q22
          refine j_runA hx 1 (tb := [(140, .aload_n 0)]) (jtb_ok (by decide +kernel)) (pc' := 141) (lv' := [(10, vI q12), (9, vI v11), (8, vI v9), (7, vI q6), (6, vI q2), (0, vR t), (1, vL a1), (3, vL a3), (5, vI a5)]) (st' := [vR t]) rfl ?_
          refine j_getR hx flX0_39 kl108 h1 (by decide) (by decide +kernel) ?_
          refine j_runA hx 4 (tb := [(144, .iload 8), (146, .iload 9), (148, .iload 5), (150, .i2l)]) (jtb_ok (by decide +kernel)) (pc' := 151) (lv' := [(10, vI q12), (9, vI v11), (8, vI v9), (7, vI q6), (6, vI q2), (0, vR t), (1, vL a1), (3, vL a3), (5, vI a5)]) (st' := [vL a5.toInt64, vI v11, vI v9, vR (jR W 108 t)]) rfl ?_
          refine j_gd (fun h24 => ?_)
          refine j_WV (j_callV (av := [vI v9, vI v11, vL a5.toInt64]) (st := []) hx hr (Or.inl q1659) q1660 q1661 rfl md_fco_add np_fco_add (cco_add (jR W 108 t) v9 v11 a5.toInt64 W) (by decide) (Nat.le_of_ble_eq_true rfl) h24 (by decide) (by decide +kernel)) (fun q25 _ => ?_)
          refine j_goto hx (off := 71) (by decide +kernel) (tgt := 225) (by decide) ?_
          refine j_lv (lv' := [(0, vR t), (1, vL a1), (3, vL a3), (5, vI a5)]) ⟨rfl, rfl, rfl, rfl, trivial⟩ ?_
          exact wcl_edge_225 h q25
        refine j_lv (lv' := [(0, vR t), (1, vL a1), (3, vL a3), (5, vI a5)]) ⟨rfl, rfl, rfl, rfl, trivial⟩ ?_
        exact wcl_edge_88 h W
      refine j_lv (lv' := [(0, vR t), (1, vL a1), (3, vL a3), (5, vI a5)]) ⟨rfl, rfl, rfl, rfl, trivial⟩ ?_
      exact wcl_edge_60 h W
    exact wcl_edge_24 h W
  refine j_runA hx 1 (tb := [(7, .bipush (-14))]) (jtb_ok (by decide +kernel)) (pc' := 9) (lv' := [(0, vR t), (1, vL a1), (3, vL a3), (5, vI a5)]) (st' := [vI (kI (-14))]) rfl ?_
  exact j_iret hx hm (by decide +kernel) rfl (he _)
theorem ccl_edge (t : Nat) (a1 : Int64) (a3 : Int64) (a5 : Int32) (W : jW) : jM yX0_edge cX0_edge 11 (Option.some Jvm.ClassFile.FieldType.int) [] 4 92 [vR t, vL a1, vL a3, vI a5] W ((fcl_edge t a1 a3 a5 W).bind (fun q => some (.returned (some (.int q.1)), q.2))) := 
  jM.of (Nat.le_of_ble_eq_true rfl) (fun x hx hm hr => wcl_edge ⟨hx, hm, hr, fun _ => rfl⟩ W)
def hco_of (x : jCx) (en : (Int64) → Option (Outcome × jW)) (t : Nat) (a1 : Int32) (a2 : Int32) (W : jW) : Prop :=
  jOK x RX7 cX7_of 4 ∧
  jMt x "of" (Option.some Jvm.ClassFile.FieldType.long) [] ∧
  jRm x 1 16 ∧
  (∀ q : Int64, en q = some (.returned (some (.long q)), W))
theorem wco_of {x : jCx} {en : (Int64) → Option (Outcome × jW)} {W : jW} {t : Nat} {a1 : Int32} {a2 : Int32} (h : hco_of x en t a1 a2 W) : jJ x 4 0 [(0, vR t), (1, vI a1), (2, vI a2)] [] W (fco_of t a1 a2 W) en := by
  have h0 := h
  obtain ⟨hx, hm, hr, he⟩ := h0
  unfold fco_of
  refine j_runA hx 1 (tb := [(0, .aload_n 0)]) (jtb_ok (by decide +kernel)) (pc' := 1) (lv' := [(0, vR t), (1, vI a1), (2, vI a2)]) (st' := [vR t]) rfl ?_
  refine j_gd (fun h1 => ?_)
  refine j_getR hx flX7_23 kl703 h1 (by decide) (by decide +kernel) ?_
  refine j_runA hx 3 (tb := [(4, .aload_n 0), (5, .iload_n 1), (6, .iload_n 2)]) (jtb_ok (by decide +kernel)) (pc' := 7) (lv' := [(0, vR t), (1, vI a1), (2, vI a2)]) (st' := [vI a2, vI a1, vR t, vR (jR W 703 t)]) rfl ?_
  refine j_OI (j_callV (av := [vI a1, vI a2]) (st := [vR (jR W 703 t)]) hx hr (Or.inl q1663) q1665 qs33 rfl md_fco_seek np_fco_seek (cco_seek t a1 a2 W) (by decide) (Nat.le_of_ble_eq_true rfl) h1 (by decide) (by decide +kernel)) (fun q2 _ => ?_)
  refine j_gd (fun h3 => ?_)
  refine j_iald hx (f := 703) (o := t) kd703 rfl (by decide +kernel) h3 ?_
  refine j_runA hx 1 (tb := [(11, .istore_n 3)]) (jtb_ok (by decide +kernel)) (pc' := 12) (lv' := [(3, vI (jA W 703 t (ix q2))), (0, vR t), (1, vI a1), (2, vI a2)]) (st' := []) rfl ?_
  refine j_let (v := (jA W 703 t (ix q2))) (lv := fun v4 => [(3, vI v4), (0, vR t), (1, vI a1), (2, vI a2)]) (st := fun _ => []) (fun v4 => ?_)
  refine j_runA hx 1 (tb := [(12, .iload_n 3)]) (jtb_ok (by decide +kernel)) (pc' := 13) (lv' := [(3, vI v4), (0, vR t), (1, vI a1), (2, vI a2)]) (st' := [vI v4]) rfl ?_
  refine j_if_ge hx (off := 7) (tgt := 20) (by decide +kernel) (by decide) (fun _ => ?_) (fun _ => ?_)
  · refine j_runA hx 1 (tb := [(20, .aload_n 0)]) (jtb_ok (by decide +kernel)) (pc' := 21) (lv' := [(3, vI v4), (0, vR t), (1, vI a1), (2, vI a2)]) (st' := [vR t]) rfl ?_
    refine j_getR hx flX7_19 kl702 h1 (by decide) (by decide +kernel) ?_
    refine j_runA hx 1 (tb := [(24, .iload_n 3)]) (jtb_ok (by decide +kernel)) (pc' := 25) (lv' := [(3, vI v4), (0, vR t), (1, vI a1), (2, vI a2)]) (st' := [vI v4, vR (jR W 702 t)]) rfl ?_
    refine j_gd (fun h5 => ?_)
    refine j_lald hx (f := 702) (o := t) kd702 rfl (by decide +kernel) h5 ?_
    exact j_lret hx hm (by decide +kernel) (he _)
  refine j_runA hx 1 (tb := [(16, .lconst 0)]) (jtb_ok (by decide +kernel)) (pc' := 17) (lv' := [(3, vI v4), (0, vR t), (1, vI a1), (2, vI a2)]) (st' := [vL (kJ 0)]) rfl ?_
  refine j_goto hx (off := 9) (by decide +kernel) (tgt := 26) (by decide) ?_
  exact j_lret hx hm (by decide +kernel) (he _)
theorem cco_of (t : Nat) (a1 : Int32) (a2 : Int32) (W : jW) : jM yX7_of cX7_of 4 (Option.some Jvm.ClassFile.FieldType.long) [] 1 16 [vR t, vI a1, vI a2] W ((fco_of t a1 a2 W).bind (fun q => some (.returned (some (.long q)), W))) := 
  jM.of (Nat.le_of_ble_eq_true rfl) (fun x hx hm hr => wco_of ⟨hx, hm, hr, fun _ => rfl⟩)
def hcl_way (x : jCx) (en : (Int64) → Option (Outcome × jW)) (t : Nat) (a1 : Int32) (a2 : Int32) (W : jW) : Prop :=
  jOK x RX0 cX0_way 3 ∧
  jMt x "way" (Option.some Jvm.ClassFile.FieldType.long) [] ∧
  jRm x 2 31 ∧
  (∀ q : Int64, en q = some (.returned (some (.long q)), W))
theorem wcl_way_28 {x : jCx} {en : (Int64) → Option (Outcome × jW)} {W : jW} {t : Nat} {a1 : Int32} {a2 : Int32} (h : hcl_way x en t a1 a2 W) : jJ x 3 28 [(0, vR t), (1, vI a1), (2, vI a2)] [] W (fcl_way_28 t a1 a2 W) en := by
  have h0 := h
  obtain ⟨hx, hm, hr, he⟩ := h0
  unfold fcl_way_28
  refine j_runA hx 1 (tb := [(28, .lconst 0)]) (jtb_ok (by decide +kernel)) (pc' := 29) (lv' := [(0, vR t), (1, vI a1), (2, vI a2)]) (st' := [vL (kJ 0)]) rfl ?_
  exact j_lret hx hm (by decide +kernel) (he _)
theorem wcl_way {x : jCx} {en : (Int64) → Option (Outcome × jW)} {W : jW} {t : Nat} {a1 : Int32} {a2 : Int32} (h : hcl_way x en t a1 a2 W) : jJ x 3 0 [(0, vR t), (1, vI a1), (2, vI a2)] [] W (fcl_way t a1 a2 W) en := by
  have h0 := h
  obtain ⟨hx, hm, hr, he⟩ := h0
  unfold fcl_way
  refine j_runA hx 2 (tb := [(0, .aload_n 0), (1, .iload_n 1)]) (jtb_ok (by decide +kernel)) (pc' := 2) (lv' := [(0, vR t), (1, vI a1), (2, vI a2)]) (st' := [vI a1, vR t]) rfl ?_
  refine j_gd (fun h1 => ?_)
  refine j_OI (j_callV (av := [vI a1]) (st := []) hx hr (Or.inl q1623) q1625 qs31 rfl md_fcl_isBlock np_fcl_isBlock (ccl_isBlock t a1 W) (by decide) (Nat.le_of_ble_eq_true rfl) h1 (by decide) (by decide +kernel)) (fun q2 _ => ?_)
  refine j_if_eq hx (off := 23) (tgt := 28) (by decide +kernel) (by decide) (fun _ => ?_) (fun _ => ?_)
  · exact wcl_way_28 h
  refine j_runA hx 2 (tb := [(8, .aload_n 0), (9, .iload_n 2)]) (jtb_ok (by decide +kernel)) (pc' := 10) (lv' := [(0, vR t), (1, vI a1), (2, vI a2)]) (st' := [vI a2, vR t]) rfl ?_
  refine j_OI (j_callV (av := [vI a2]) (st := []) hx hr (Or.inl q1623) q1625 qs31 rfl md_fcl_isBlock np_fcl_isBlock (ccl_isBlock t a2 W) (by decide) (Nat.le_of_ble_eq_true rfl) h1 (by decide) (by decide +kernel)) (fun q3 _ => ?_)
  refine j_if_eq hx (off := 15) (tgt := 28) (by decide +kernel) (by decide) (fun _ => ?_) (fun _ => ?_)
  · exact wcl_way_28 h
  refine j_runA hx 1 (tb := [(16, .aload_n 0)]) (jtb_ok (by decide +kernel)) (pc' := 17) (lv' := [(0, vR t), (1, vI a1), (2, vI a2)]) (st' := [vR t]) rfl ?_
  refine j_getR hx flX0_39 kl108 h1 (by decide) (by decide +kernel) ?_
  refine j_runA hx 2 (tb := [(20, .iload_n 1), (21, .iload_n 2)]) (jtb_ok (by decide +kernel)) (pc' := 22) (lv' := [(0, vR t), (1, vI a1), (2, vI a2)]) (st' := [vI a2, vI a1, vR (jR W 108 t)]) rfl ?_
  refine j_gd (fun h4 => ?_)
  refine j_OL (j_callV (av := [vI a1, vI a2]) (st := []) hx hr (Or.inl q1678) q1679 q1680 rfl md_fco_of np_fco_of (cco_of (jR W 108 t) a1 a2 W) (by decide) (Nat.le_of_ble_eq_true rfl) h4 (by decide) (by decide +kernel)) (fun q5 _ => ?_)
  refine j_goto hx (off := 4) (by decide +kernel) (tgt := 29) (by decide) ?_
  exact j_lret hx hm (by decide +kernel) (he _)
theorem ccl_way (t : Nat) (a1 : Int32) (a2 : Int32) (W : jW) : jM yX0_way cX0_way 3 (Option.some Jvm.ClassFile.FieldType.long) [] 2 31 [vR t, vI a1, vI a2] W ((fcl_way t a1 a2 W).bind (fun q => some (.returned (some (.long q)), W))) := 
  jM.of (Nat.le_of_ble_eq_true rfl) (fun x hx hm hr => wcl_way ⟨hx, hm, hr, fun _ => rfl⟩)
def hcl_calls (x : jCx) (en : (Int64) → Option (Outcome × jW)) (t : Nat) (a1 : Int32) (a2 : Int32) (W : jW) : Prop :=
  jOK x RX0 cX0_calls 3 ∧
  jMt x "calls" (Option.some Jvm.ClassFile.FieldType.long) [] ∧
  jRm x 2 31 ∧
  (∀ q : Int64, en q = some (.returned (some (.long q)), W))
theorem wcl_calls_28 {x : jCx} {en : (Int64) → Option (Outcome × jW)} {W : jW} {t : Nat} {a1 : Int32} {a2 : Int32} (h : hcl_calls x en t a1 a2 W) : jJ x 3 28 [(0, vR t), (1, vI a1), (2, vI a2)] [] W (fcl_calls_28 t a1 a2 W) en := by
  have h0 := h
  obtain ⟨hx, hm, hr, he⟩ := h0
  unfold fcl_calls_28
  refine j_runA hx 1 (tb := [(28, .lconst 0)]) (jtb_ok (by decide +kernel)) (pc' := 29) (lv' := [(0, vR t), (1, vI a1), (2, vI a2)]) (st' := [vL (kJ 0)]) rfl ?_
  exact j_lret hx hm (by decide +kernel) (he _)
theorem wcl_calls {x : jCx} {en : (Int64) → Option (Outcome × jW)} {W : jW} {t : Nat} {a1 : Int32} {a2 : Int32} (h : hcl_calls x en t a1 a2 W) : jJ x 3 0 [(0, vR t), (1, vI a1), (2, vI a2)] [] W (fcl_calls t a1 a2 W) en := by
  have h0 := h
  obtain ⟨hx, hm, hr, he⟩ := h0
  unfold fcl_calls
  refine j_runA hx 2 (tb := [(0, .aload_n 0), (1, .iload_n 1)]) (jtb_ok (by decide +kernel)) (pc' := 2) (lv' := [(0, vR t), (1, vI a1), (2, vI a2)]) (st' := [vI a1, vR t]) rfl ?_
  refine j_gd (fun h1 => ?_)
  refine j_OI (j_callV (av := [vI a1]) (st := []) hx hr (Or.inl q1577) q1579 qs27 rfl md_fcl_isFunction np_fcl_isFunction (ccl_isFunction t a1 W) (by decide) (Nat.le_of_ble_eq_true rfl) h1 (by decide) (by decide +kernel)) (fun q2 _ => ?_)
  refine j_if_eq hx (off := 23) (tgt := 28) (by decide +kernel) (by decide) (fun _ => ?_) (fun _ => ?_)
  · exact wcl_calls_28 h
  refine j_runA hx 2 (tb := [(8, .aload_n 0), (9, .iload_n 2)]) (jtb_ok (by decide +kernel)) (pc' := 10) (lv' := [(0, vR t), (1, vI a1), (2, vI a2)]) (st' := [vI a2, vR t]) rfl ?_
  refine j_OI (j_callV (av := [vI a2]) (st := []) hx hr (Or.inl q1577) q1579 qs27 rfl md_fcl_isFunction np_fcl_isFunction (ccl_isFunction t a2 W) (by decide) (Nat.le_of_ble_eq_true rfl) h1 (by decide) (by decide +kernel)) (fun q3 _ => ?_)
  refine j_if_eq hx (off := 15) (tgt := 28) (by decide +kernel) (by decide) (fun _ => ?_) (fun _ => ?_)
  · exact wcl_calls_28 h
  refine j_runA hx 1 (tb := [(16, .aload_n 0)]) (jtb_ok (by decide +kernel)) (pc' := 17) (lv' := [(0, vR t), (1, vI a1), (2, vI a2)]) (st' := [vR t]) rfl ?_
  refine j_getR hx flX0_43 kl109 h1 (by decide) (by decide +kernel) ?_
  refine j_runA hx 2 (tb := [(20, .iload_n 1), (21, .iload_n 2)]) (jtb_ok (by decide +kernel)) (pc' := 22) (lv' := [(0, vR t), (1, vI a1), (2, vI a2)]) (st' := [vI a2, vI a1, vR (jR W 109 t)]) rfl ?_
  refine j_gd (fun h4 => ?_)
  refine j_OL (j_callV (av := [vI a1, vI a2]) (st := []) hx hr (Or.inl q1678) q1679 q1680 rfl md_fco_of np_fco_of (cco_of (jR W 109 t) a1 a2 W) (by decide) (Nat.le_of_ble_eq_true rfl) h4 (by decide) (by decide +kernel)) (fun q5 _ => ?_)
  refine j_goto hx (off := 4) (by decide +kernel) (tgt := 29) (by decide) ?_
  exact j_lret hx hm (by decide +kernel) (he _)
theorem ccl_calls (t : Nat) (a1 : Int32) (a2 : Int32) (W : jW) : jM yX0_calls cX0_calls 3 (Option.some Jvm.ClassFile.FieldType.long) [] 2 31 [vR t, vI a1, vI a2] W ((fcl_calls t a1 a2 W).bind (fun q => some (.returned (some (.long q)), W))) := 
  jM.of (Nat.le_of_ble_eq_true rfl) (fun x hx hm hr => wcl_calls ⟨hx, hm, hr, fun _ => rfl⟩)
def hog_roomForRows (x : jCx) (en : (jW) → Option (Outcome × jW)) (t : Nat) : Prop :=
  jOK x RX13 cX13_roomForRows 2 ∧
  jMt x "roomForRows" (Option.none : Option Jvm.ClassFile.FieldType) [] ∧
  jRm x 1 12 ∧
  (∀ q : jW, en q = some (.returned none, q))
theorem wog_roomForRows_67 {x : jCx} {en : (jW) → Option (Outcome × jW)} {t : Nat} (h : hog_roomForRows x en t) (W : jW) : jJ x 2 67 [(0, vR t)] [] W (fog_roomForRows_67 t W) en := by
  have h0 := h
  obtain ⟨hx, hm, hr, he⟩ := h0
  unfold fog_roomForRows_67
  refine j_runA hx 1 (tb := [(67, .aload_n 0)]) (jtb_ok (by decide +kernel)) (pc' := 68) (lv' := [(0, vR t)]) (st' := [vR t]) rfl ?_
  refine j_gd (fun h38 => ?_)
  refine j_getR hx flX13_91 kl800 h38 (by decide) (by decide +kernel) ?_
  refine j_gd (fun h39 => ?_)
  refine j_OI (j_callV (av := []) (st := []) hx hr (Or.inl q1594) q1558 q1559 rfl md_fpg_functionCount np_fpg_functionCount (cpg_functionCount (jR W 800 t) W) (by decide) (Nat.le_of_ble_eq_true rfl) h39 (by decide) (by decide +kernel)) (fun q40 _ => ?_)
  refine j_runA hx 2 (tb := [(74, .istore_n 1), (75, .aload_n 0)]) (jtb_ok (by decide +kernel)) (pc' := 76) (lv' := [(1, vI q40), (0, vR t)]) (st' := [vR t]) rfl ?_
  refine j_getR hx flX13_76 kl824 h38 (by decide) (by decide +kernel) ?_
  refine j_gd (fun h41 => ?_)
  refine j_alen hx (f := 824) (o := t) kg824 kh824 rfl (by decide +kernel) h41 ?_
  refine j_runA hx 1 (tb := [(80, .iload_n 1)]) (jtb_ok (by decide +kernel)) (pc' := 81) (lv' := [(1, vI q40), (0, vR t)]) (st' := [vI q40, vI (nI (jN W 824 t))]) rfl ?_
  refine j_icmp_ge hx (off := 31) (tgt := 112) (by decide +kernel) (by decide) (fun _ => ?_) (fun _ => ?_)
  · exact j_vret hx hm (by decide +kernel) (he _)
  refine j_runA hx 2 (tb := [(84, .aload_n 0), (85, .iload_n 1)]) (jtb_ok (by decide +kernel)) (pc' := 86) (lv' := [(1, vI q40), (0, vR t)]) (st' := [vI q40, vR t]) rfl ?_
  refine j_gd (fun h42 => ?_)
  refine j_nwB hx fwX13_76 wf824 kd824 ja824_6 h38 (by decide) nr824 fr824 (by decide +kernel) (by decide +kernel) h42 ?_
  refine j_ltw rfl (fun W43 hc44 => ?_)
  have h45 : jC W43 t = 8 := (congrFun hc44 _).trans h38
  have h46 : jC W43 (jR W 800 t) = 2 := (congrFun hc44 _).trans h39
  refine j_runA hx 2 (tb := [(91, .aload_n 0), (92, .iload_n 1)]) (jtb_ok (by decide +kernel)) (pc' := 93) (lv' := [(1, vI q40), (0, vR t)]) (st' := [vI q40, vR t]) rfl ?_
  refine j_gd (fun h48 => ?_)
  refine j_nwB hx fwX13_79 wf825 kd825 ja825_6 h45 (by decide) nr825 fr825 (by decide +kernel) (by decide +kernel) h48 ?_
  refine j_ltw rfl (fun W49 hc50 => ?_)
  have h51 : jC W49 t = 8 := (congrFun hc50 _).trans h45
  have h52 : jC W49 (jR W 800 t) = 2 := (congrFun hc50 _).trans h46
  refine j_runA hx 2 (tb := [(98, .aload_n 0), (99, .iload_n 1)]) (jtb_ok (by decide +kernel)) (pc' := 100) (lv' := [(1, vI q40), (0, vR t)]) (st' := [vI q40, vR t]) rfl ?_
  refine j_gd (fun h54 => ?_)
  refine j_nwB hx fwX13_82 wf826 kd826 ja826_6 h51 (by decide) nr826 fr826 (by decide +kernel) (by decide +kernel) h54 ?_
  refine j_ltw rfl (fun W55 hc56 => ?_)
  have h57 : jC W55 t = 8 := (congrFun hc56 _).trans h51
  have h58 : jC W55 (jR W 800 t) = 2 := (congrFun hc56 _).trans h52
  refine j_runA hx 2 (tb := [(105, .aload_n 0), (106, .iload_n 1)]) (jtb_ok (by decide +kernel)) (pc' := 107) (lv' := [(1, vI q40), (0, vR t)]) (st' := [vI q40, vR t]) rfl ?_
  refine j_gd (fun h60 => ?_)
  refine j_nwB hx fwX13_85 wf827 kd827 ja827_6 h57 (by decide) nr827 fr827 (by decide +kernel) (by decide +kernel) h60 ?_
  refine j_ltw rfl (fun W61 hc62 => ?_)
  have h63 : jC W61 t = 8 := (congrFun hc62 _).trans h57
  have h64 : jC W61 (jR W 800 t) = 2 := (congrFun hc62 _).trans h58
  exact j_vret hx hm (by decide +kernel) (he _)
theorem wog_roomForRows {x : jCx} {en : (jW) → Option (Outcome × jW)} {t : Nat} (h : hog_roomForRows x en t) (W : jW) : jJ x 2 0 [(0, vR t)] [] W (fog_roomForRows t W) en := by
  have h0 := h
  obtain ⟨hx, hm, hr, he⟩ := h0
  unfold fog_roomForRows
  refine j_runA hx 1 (tb := [(0, .aload_n 0)]) (jtb_ok (by decide +kernel)) (pc' := 1) (lv' := [(0, vR t)]) (st' := [vR t]) rfl ?_
  refine j_gd (fun h1 => ?_)
  refine j_getR hx flX13_64 kl820 h1 (by decide) (by decide +kernel) ?_
  refine j_gd (fun h2 => ?_)
  refine j_alen hx (f := 820) (o := t) kg820 kh820 rfl (by decide +kernel) h2 ?_
  refine j_runA hx 1 (tb := [(5, .aload_n 0)]) (jtb_ok (by decide +kernel)) (pc' := 6) (lv' := [(0, vR t)]) (st' := [vR t, vI (nI (jN W 820 t))]) rfl ?_
  refine j_getR hx flX13_91 kl800 h1 (by decide) (by decide +kernel) ?_
  refine j_gd (fun h3 => ?_)
  refine j_getI hx flX13_95 kd217 h3 (by decide) (by decide +kernel) ?_
  refine j_icmp_ge hx (off := 55) (tgt := 67) (by decide +kernel) (by decide) (fun _ => ?_) (fun _ => ?_)
  · exact wog_roomForRows_67 h W
  refine j_runA hx 2 (tb := [(15, .aload_n 0), (16, .aload_n 0)]) (jtb_ok (by decide +kernel)) (pc' := 17) (lv' := [(0, vR t)]) (st' := [vR t, vR t]) rfl ?_
  refine j_getR hx flX13_91 kl800 h1 (by decide) (by decide +kernel) ?_
  refine j_getI hx flX13_95 kd217 h3 (by decide) (by decide +kernel) ?_
  refine j_gd (fun h4 => ?_)
  refine j_nwA hx fwX13_64 wf820 ka820 ja820_3 h1 (by decide) nr820 fr820 (by decide +kernel) (by decide +kernel) h4 ?_
  refine j_ltw rfl (fun W5 hc6 => ?_)
  have h7 : jC W5 t = 8 := (congrFun hc6 _).trans h1
  have h8 : jC W5 (jR W 800 t) = 2 := (congrFun hc6 _).trans h3
  refine j_runA hx 2 (tb := [(28, .aload_n 0), (29, .aload_n 0)]) (jtb_ok (by decide +kernel)) (pc' := 30) (lv' := [(0, vR t)]) (st' := [vR t, vR t]) rfl ?_
  refine j_getR hx flX13_91 kl800 h7 (by decide) (by decide +kernel) ?_
  refine j_gd (fun h10 => ?_)
  refine j_getI hx flX13_95 kd217 h10 (by decide) (by decide +kernel) ?_
  refine j_gd (fun h11 => ?_)
  refine j_nwA hx fwX13_67 wf821 ka821 ja821_3 h7 (by decide) nr821 fr821 (by decide +kernel) (by decide +kernel) h11 ?_
  refine j_ltw rfl (fun W12 hc13 => ?_)
  have h14 : jC W12 t = 8 := (congrFun hc13 _).trans h7
  have h15 : jC W12 (jR W 800 t) = 2 := (congrFun hc13 _).trans h8
  have h16 : jC W12 (jR W5 800 t) = 2 := (congrFun hc13 _).trans h10
  refine j_runA hx 2 (tb := [(41, .aload_n 0), (42, .aload_n 0)]) (jtb_ok (by decide +kernel)) (pc' := 43) (lv' := [(0, vR t)]) (st' := [vR t, vR t]) rfl ?_
  refine j_getR hx flX13_91 kl800 h14 (by decide) (by decide +kernel) ?_
  refine j_gd (fun h18 => ?_)
  refine j_getI hx flX13_95 kd217 h18 (by decide) (by decide +kernel) ?_
  refine j_gd (fun h19 => ?_)
  refine j_nwA hx fwX13_70 wf822 ka822 ja822_3 h14 (by decide) nr822 fr822 (by decide +kernel) (by decide +kernel) h19 ?_
  refine j_ltw rfl (fun W20 hc21 => ?_)
  have h22 : jC W20 t = 8 := (congrFun hc21 _).trans h14
  have h23 : jC W20 (jR W 800 t) = 2 := (congrFun hc21 _).trans h15
  have h24 : jC W20 (jR W5 800 t) = 2 := (congrFun hc21 _).trans h16
  have h25 : jC W20 (jR W12 800 t) = 2 := (congrFun hc21 _).trans h18
  refine j_runA hx 2 (tb := [(54, .aload_n 0), (55, .aload_n 0)]) (jtb_ok (by decide +kernel)) (pc' := 56) (lv' := [(0, vR t)]) (st' := [vR t, vR t]) rfl ?_
  refine j_getR hx flX13_91 kl800 h22 (by decide) (by decide +kernel) ?_
  refine j_gd (fun h27 => ?_)
  refine j_getI hx flX13_95 kd217 h27 (by decide) (by decide +kernel) ?_
  refine j_gd (fun h28 => ?_)
  refine j_nwB hx fwX13_73 wf823 kd823 ja823_6 h22 (by decide) nr823 fr823 (by decide +kernel) (by decide +kernel) h28 ?_
  refine j_ltw rfl (fun W29 hc30 => ?_)
  have h31 : jC W29 t = 8 := (congrFun hc30 _).trans h22
  have h32 : jC W29 (jR W 800 t) = 2 := (congrFun hc30 _).trans h23
  have h33 : jC W29 (jR W5 800 t) = 2 := (congrFun hc30 _).trans h24
  have h34 : jC W29 (jR W12 800 t) = 2 := (congrFun hc30 _).trans h25
  have h35 : jC W29 (jR W20 800 t) = 2 := (congrFun hc30 _).trans h27
  exact wog_roomForRows_67 h W29
theorem cog_roomForRows (t : Nat) (W : jW) : jM yX13_roomForRows cX13_roomForRows 2 (Option.none : Option Jvm.ClassFile.FieldType) [] 1 12 [vR t] W ((fog_roomForRows t W).bind (fun q => some (.returned none, q))) := 
  jM.of (Nat.le_of_ble_eq_true rfl) (fun x hx hm hr => wog_roomForRows ⟨hx, hm, hr, fun _ => rfl⟩ W)
