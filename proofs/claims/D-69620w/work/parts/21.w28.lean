/-! ===== walks: frn_step frn_go fhd_init fmo_init fmo_four fmo_feed fmo_end fhd_is fhd_has fhd_big ===== -/
set_option maxRecDepth 100000
def hrn_step (x : jCx) (en : (jW) → Option (Outcome × jW)) (t : Nat) : Prop :=
  jOK x RX11 cX11_step 4 ∧
  jMt x "step" (Option.none : Option Jvm.ClassFile.FieldType) [] ∧
  jRm x 7 138 ∧
  (∀ q : jW, en q = some (.returned none, q))
theorem wrn_step_130 {x : jCx} {en : (jW) → Option (Outcome × jW)} {t : Nat} (h : hrn_step x en t) (W : jW) : jJ x 4 130 [(0, vR t)] [] W (frn_step_130 t W) en := by
  have h0 := h
  obtain ⟨hx, hm, hr, he⟩ := h0
  unfold frn_step_130
  refine j_runA hx 2 (tb := [(130, .aload_n 0), (131, .iconst 0)]) (jtb_ok (by decide +kernel)) (pc' := 132) (lv' := [(0, vR t)]) (st' := [vI (kI 0), vR t]) rfl ?_
  refine j_gd (fun h33 => ?_)
  refine j_putI hx fwX11_115 wf1618 kd1618 h33 (by decide) (by decide +kernel) (ni1618 _) (fi1618 _) ?_
  refine j_ltw rfl (fun W34 hc35 => ?_)
  have h36 : jC W34 t = 16 := (congrFun hc35 _).trans h33
  exact j_vret hx hm (by decide +kernel) (he _)
theorem wrn_step_174 {x : jCx} {en : (jW) → Option (Outcome × jW)} {t : Nat} (h : hrn_step x en t) (l1 : Int64) (W : jW) : jJ x 4 174 [(0, vR t), (1, vL l1)] [] W (frn_step_174 t l1 W) en := by
  have h0 := h
  obtain ⟨hx, hm, hr, he⟩ := h0
  unfold frn_step_174
  refine j_runA hx 2 (tb := [(174, .aload_n 0), (175, .lload_n 1)]) (jtb_ok (by decide +kernel)) (pc' := 176) (lv' := [(0, vR t), (1, vL l1)]) (st' := [vL l1, vR t]) rfl ?_
  refine j_gd (fun h39 => ?_)
  refine j_WV (j_callV (av := [vL l1]) (st := []) hx hr (Or.inl q3380) q3382 qs187 rfl md_frn_runOne np_frn_runOne (crn_runOne t l1 W) (by decide) (Nat.le_of_ble_eq_true rfl) h39 (by decide) (by decide +kernel)) (fun q40 _ => ?_)
  exact j_vret hx hm (by decide +kernel) (he _)
theorem wrn_step_94 {x : jCx} {en : (jW) → Option (Outcome × jW)} {t : Nat} (h : hrn_step x en t) (l1 : Int64) (s0 : Int32) (W : jW) : jJ x 4 94 [(0, vR t), (1, vL l1)] [vI s0] W (frn_step_94 t l1 s0 W) en := by
  have h0 := h
  obtain ⟨hx, hm, hr, he⟩ := h0
  unfold frn_step_94
  refine j_runA hx 2 (tb := [(94, .istore_n 3), (95, .iload_n 3)]) (jtb_ok (by decide +kernel)) (pc' := 96) (lv' := [(3, vI s0), (0, vR t), (1, vL l1)]) (st' := [vI s0]) rfl ?_
  refine j_if_lt hx (off := 78) (tgt := 174) (by decide +kernel) (by decide) (fun _ => ?_) (fun _ => ?_)
  · refine j_lv (lv' := [(0, vR t), (1, vL l1)]) ⟨rfl, rfl, trivial⟩ ?_
    exact wrn_step_174 h l1 W
  refine j_runA hx 1 (tb := [(99, .aload_n 0)]) (jtb_ok (by decide +kernel)) (pc' := 100) (lv' := [(3, vI s0), (0, vR t), (1, vL l1)]) (st' := [vR t]) rfl ?_
  refine j_gd (fun h10 => ?_)
  refine j_getI hx flX11_77 kd1614 h10 (by decide) (by decide +kernel) ?_
  refine j_runA hx 1 (tb := [(103, .aload_n 0)]) (jtb_ok (by decide +kernel)) (pc' := 104) (lv' := [(3, vI s0), (0, vR t), (1, vL l1)]) (st' := [vR t, vI (jI W 1614 t)]) rfl ?_
  refine j_getI hx flX11_80 kd1615 h10 (by decide) (by decide +kernel) ?_
  refine j_icmp_eq hx (off := 23) (tgt := 130) (by decide +kernel) (by decide) (fun _ => ?_) (fun _ => ?_)
  · refine j_lv (lv' := [(0, vR t)]) ⟨rfl, trivial⟩ ?_
    exact wrn_step_130 h W
  refine j_runA hx 1 (tb := [(110, .aload_n 0)]) (jtb_ok (by decide +kernel)) (pc' := 111) (lv' := [(3, vI s0), (0, vR t), (1, vL l1)]) (st' := [vR t]) rfl ?_
  refine j_getI hx flX11_83 kd1616 h10 (by decide) (by decide +kernel) ?_
  refine j_runA hx 1 (tb := [(114, .aload_n 0)]) (jtb_ok (by decide +kernel)) (pc' := 115) (lv' := [(3, vI s0), (0, vR t), (1, vL l1)]) (st' := [vR t, vI (jI W 1616 t)]) rfl ?_
  refine j_getR hx flX11_42 kl1600 h10 (by decide) (by decide +kernel) ?_
  refine j_gd (fun h11 => ?_)
  refine j_getR hx flX11_262 kl1323 h11 (by decide) (by decide +kernel) ?_
  refine j_runA hx 1 (tb := [(121, .iload_n 3)]) (jtb_ok (by decide +kernel)) (pc' := 122) (lv' := [(3, vI s0), (0, vR t), (1, vL l1)]) (st' := [vI s0, vR (jR W 1323 (jR W 1600 t)), vI (jI W 1616 t)]) rfl ?_
  refine j_gd (fun h12 => ?_)
  refine j_iald hx (f := 1323) (o := (jR W 1600 t)) kd1323 rfl (by decide +kernel) h12 ?_
  refine j_runA hx 2 (tb := [(123, .iadd), (124, .sipush 20000)]) (jtb_ok (by decide +kernel)) (pc' := 127) (lv' := [(3, vI s0), (0, vR t), (1, vL l1)]) (st' := [vI (kI 20000), vI ((jI W 1616 t) + (jA W 1323 (jR W 1600 t) (ix s0)))]) rfl ?_
  refine j_icmp_le hx (off := 9) (tgt := 136) (by decide +kernel) (by decide) (fun _ => ?_) (fun _ => ?_)
  · refine j_runA hx 1 (tb := [(136, .aload_n 0)]) (jtb_ok (by decide +kernel)) (pc' := 137) (lv' := [(3, vI s0), (0, vR t), (1, vL l1)]) (st' := [vR t]) rfl ?_
    refine j_getR hx flX11_33 kl1613 h10 (by decide) (by decide +kernel) ?_
    refine j_runA hx 1 (tb := [(140, .aload_n 0)]) (jtb_ok (by decide +kernel)) (pc' := 141) (lv' := [(3, vI s0), (0, vR t), (1, vL l1)]) (st' := [vR t, vR (jR W 1613 t)]) rfl ?_
    refine j_getI hx flX11_77 kd1614 h10 (by decide) (by decide +kernel) ?_
    refine j_runA hx 1 (tb := [(144, .iload_n 3)]) (jtb_ok (by decide +kernel)) (pc' := 145) (lv' := [(3, vI s0), (0, vR t), (1, vL l1)]) (st' := [vI s0, vI (jI W 1614 t), vR (jR W 1613 t)]) rfl ?_
    refine j_gd (fun h13 => ?_)
    refine j_iast hx (f := 1613) (o := t) kd1613 rfl (by decide +kernel) h13 ?_
    refine j_ltw rfl (fun W14 hc15 => ?_)
    have h16 : jC W14 t = 16 := (congrFun hc15 _).trans h10
    have h17 : jC W14 (jR W 1600 t) = 13 := (congrFun hc15 _).trans h11
    refine j_runA hx 2 (tb := [(146, .aload_n 0), (147, .dup)]) (jtb_ok (by decide +kernel)) (pc' := 148) (lv' := [(3, vI s0), (0, vR t), (1, vL l1)]) (st' := [vR t, vR t]) rfl ?_
    refine j_getI hx flX11_77 kd1614 h16 (by decide) (by decide +kernel) ?_
    refine j_runA hx 2 (tb := [(151, .iconst 1), (152, .iadd)]) (jtb_ok (by decide +kernel)) (pc' := 153) (lv' := [(3, vI s0), (0, vR t), (1, vL l1)]) (st' := [vI ((jI W14 1614 t) + (kI 1)), vR t]) rfl ?_
    refine j_putI hx fwX11_77 wf1614 kd1614 h16 (by decide) (by decide +kernel) (ni1614 _) (fi1614 _) ?_
    refine j_ltw rfl (fun W19 hc20 => ?_)
    have h21 : jC W19 t = 16 := (congrFun hc20 _).trans h16
    have h22 : jC W19 (jR W 1600 t) = 13 := (congrFun hc20 _).trans h17
    refine j_runA hx 2 (tb := [(156, .aload_n 0), (157, .dup)]) (jtb_ok (by decide +kernel)) (pc' := 158) (lv' := [(3, vI s0), (0, vR t), (1, vL l1)]) (st' := [vR t, vR t]) rfl ?_
    refine j_getI hx flX11_83 kd1616 h21 (by decide) (by decide +kernel) ?_
    refine j_runA hx 1 (tb := [(161, .aload_n 0)]) (jtb_ok (by decide +kernel)) (pc' := 162) (lv' := [(3, vI s0), (0, vR t), (1, vL l1)]) (st' := [vR t, vI (jI W19 1616 t), vR t]) rfl ?_
    refine j_getR hx flX11_42 kl1600 h21 (by decide) (by decide +kernel) ?_
    refine j_gd (fun h24 => ?_)
    refine j_getR hx flX11_262 kl1323 h24 (by decide) (by decide +kernel) ?_
    refine j_runA hx 1 (tb := [(168, .iload_n 3)]) (jtb_ok (by decide +kernel)) (pc' := 169) (lv' := [(3, vI s0), (0, vR t), (1, vL l1)]) (st' := [vI s0, vR (jR W19 1323 (jR W19 1600 t)), vI (jI W19 1616 t), vR t]) rfl ?_
    refine j_gd (fun h25 => ?_)
    refine j_iald hx (f := 1323) (o := (jR W19 1600 t)) kd1323 rfl (by decide +kernel) h25 ?_
    refine j_runA hx 1 (tb := [(170, .iadd)]) (jtb_ok (by decide +kernel)) (pc' := 171) (lv' := [(3, vI s0), (0, vR t), (1, vL l1)]) (st' := [vI ((jI W19 1616 t) + (jA W19 1323 (jR W19 1600 t) (ix s0))), vR t]) rfl ?_
    refine j_putI hx fwX11_83 wf1616 kd1616 h21 (by decide) (by decide +kernel) (ni1616 _) (fi1616 _) ?_
    refine j_ltw rfl (fun W26 hc27 => ?_)
    have h28 : jC W26 t = 16 := (congrFun hc27 _).trans h21
    have h29 : jC W26 (jR W 1600 t) = 13 := (congrFun hc27 _).trans h22
    have h30 : jC W26 (jR W19 1600 t) = 13 := (congrFun hc27 _).trans h24
    refine j_lv (lv' := [(0, vR t), (1, vL l1)]) ⟨rfl, rfl, trivial⟩ ?_
    exact wrn_step_174 h l1 W26
  refine j_lv (lv' := [(0, vR t)]) ⟨rfl, trivial⟩ ?_
  exact wrn_step_130 h W
theorem wrn_step {x : jCx} {en : (jW) → Option (Outcome × jW)} {t : Nat} (h : hrn_step x en t) (W : jW) : jJ x 4 0 [(0, vR t)] [] W (frn_step t W) en := by
  have h0 := h
  obtain ⟨hx, hm, hr, he⟩ := h0
  unfold frn_step
  refine j_runA hx 2 (tb := [(0, .aload_n 0), (1, .aload_n 0)]) (jtb_ok (by decide +kernel)) (pc' := 2) (lv' := [(0, vR t)]) (st' := [vR t, vR t]) rfl ?_
  refine j_gd (fun h1 => ?_)
  refine j_getL hx flX11_107 kd1623 h1 (by decide) (by decide +kernel) ?_
  refine j_runA hx 1 (tb := [(5, .iconst 4)]) (jtb_ok (by decide +kernel)) (pc' := 6) (lv' := [(0, vR t)]) (st' := [vI (kI 4), vL (jL W 1623 t), vR t]) rfl ?_
  refine j_OL (j_callV (av := [vL (jL W 1623 t), vI (kI 4)]) (st := []) hx hr (Or.inl q3361) q3363 qs183 rfl md_frn_inText np_frn_inText (crn_inText t (jL W 1623 t) (kI 4) W) (by decide) (Nat.le_of_ble_eq_true rfl) h1 (by decide) (by decide +kernel)) (fun q2 _ => ?_)
  refine j_runA hx 3 (tb := [(9, .lstore_n 1), (10, .lload_n 1), (11, .lconst 0)]) (jtb_ok (by decide +kernel)) (pc' := 12) (lv' := [(1, vL q2), (0, vR t)]) (st' := [vL (kJ 0), vL q2]) rfl ?_
  refine j_lcmp_lt hx (off := 161) (tgt := 174) (by decide +kernel) (by decide +kernel) (by decide) (fun _ => ?_) (fun _ => ?_)
  · refine j_lv (lv' := [(0, vR t), (1, vL q2)]) ⟨rfl, rfl, trivial⟩ ?_
    exact wrn_step_174 h q2 W
  refine j_runA hx 1 (tb := [(16, .lload_n 1)]) (jtb_ok (by decide +kernel)) (pc' := 17) (lv' := [(1, vL q2), (0, vR t)]) (st' := [vL q2]) rfl ?_
  refine j_ldc2 hx (v := (kJ 3)) (jkd2 q3371 (by decide +kernel)) (by decide +kernel) ?_
  refine j_runA hx 2 (tb := [(20, .land), (21, .lconst 0)]) (jtb_ok (by decide +kernel)) (pc' := 22) (lv' := [(1, vL q2), (0, vR t)]) (st' := [vL (kJ 0), vL (q2 &&& (kJ 3))]) rfl ?_
  refine j_lcmp_ne hx (off := 151) (tgt := 174) (by decide +kernel) (by decide +kernel) (by decide) (fun _ => ?_) (fun _ => ?_)
  · refine j_lv (lv' := [(0, vR t), (1, vL q2)]) ⟨rfl, rfl, trivial⟩ ?_
    exact wrn_step_174 h q2 W
  refine j_runA hx 1 (tb := [(26, .aload_n 0)]) (jtb_ok (by decide +kernel)) (pc' := 27) (lv' := [(1, vL q2), (0, vR t)]) (st' := [vR t]) rfl ?_
  refine j_getI hx flX11_46 kd1601 h1 (by decide) (by decide +kernel) ?_
  refine j_runA hx 1 (tb := [(30, .iconst 2)]) (jtb_ok (by decide +kernel)) (pc' := 31) (lv' := [(1, vL q2), (0, vR t)]) (st' := [vI (kI 2), vI (jI W 1601 t)]) rfl ?_
  refine j_icmp_ne hx (off := 17) (tgt := 48) (by decide +kernel) (by decide) (fun _ => ?_) (fun _ => ?_)
  · refine j_runA hx 1 (tb := [(48, .aload_n 0)]) (jtb_ok (by decide +kernel)) (pc' := 49) (lv' := [(1, vL q2), (0, vR t)]) (st' := [vR t]) rfl ?_
    refine j_getR hx flX11_42 kl1600 h1 (by decide) (by decide +kernel) ?_
    refine j_gd (fun h3 => ?_)
    refine j_getR hx flX11_259 kl1322 h3 (by decide) (by decide +kernel) ?_
    refine j_runA hx 1 (tb := [(55, .aload_n 0)]) (jtb_ok (by decide +kernel)) (pc' := 56) (lv' := [(1, vL q2), (0, vR t)]) (st' := [vR t, vR (jR W 1322 (jR W 1600 t))]) rfl ?_
    refine j_getR hx flX11_42 kl1600 h1 (by decide) (by decide +kernel) ?_
    refine j_getR hx flX11_156 kl1317 h3 (by decide) (by decide +kernel) ?_
    refine j_runA hx 3 (tb := [(62, .lload_n 1), (63, .l2i), (64, .iconst 4)]) (jtb_ok (by decide +kernel)) (pc' := 65) (lv' := [(1, vL q2), (0, vR t)]) (st' := [vI (kI 4), vI q2.toInt32, vR (jR W 1317 (jR W 1600 t)), vR (jR W 1322 (jR W 1600 t))]) rfl ?_
    refine j_idiv hx (by decide +kernel) (by decide +kernel) ?_
    refine j_gd (fun h4 => ?_)
    refine j_iald hx (f := 1317) (o := (jR W 1600 t)) kd1317 rfl (by decide +kernel) h4 ?_
    refine j_gd (fun h5 => ?_)
    refine j_iald hx (f := 1322) (o := (jR W 1600 t)) kd1322 rfl (by decide +kernel) h5 ?_
    refine j_runA hx 2 (tb := [(68, .i2l), (69, .lload_n 1)]) (jtb_ok (by decide +kernel)) (pc' := 70) (lv' := [(1, vL q2), (0, vR t)]) (st' := [vL q2, vL ((jA W 1322 (jR W 1600 t) (ix (jA W 1317 (jR W 1600 t) (ix (q2.toInt32 / (kI 4)))))).toInt64)]) rfl ?_
    refine j_ldc2 hx (v := (kJ 4)) (jkd2 q3365 (by decide +kernel)) (by decide +kernel) ?_
    refine j_ldiv hx (by decide +kernel) (by decide +kernel) ?_
    refine j_lcmp_ne hx (off := 18) (tgt := 93) (by decide +kernel) (by decide +kernel) (by decide) (fun _ => ?_) (fun _ => ?_)
    · refine j_runA hx 1 (tb := [(93, .iconst (-1))]) (jtb_ok (by decide +kernel)) (pc' := 94) (lv' := [(1, vL q2), (0, vR t)]) (st' := [vI (kI (-1))]) rfl ?_
      refine j_lv (lv' := [(0, vR t), (1, vL q2)]) ⟨rfl, rfl, trivial⟩ ?_
      exact wrn_step_94 h q2 (kI (-1)) W
    refine j_runA hx 1 (tb := [(78, .aload_n 0)]) (jtb_ok (by decide +kernel)) (pc' := 79) (lv' := [(1, vL q2), (0, vR t)]) (st' := [vR t]) rfl ?_
    refine j_getR hx flX11_42 kl1600 h1 (by decide) (by decide +kernel) ?_
    refine j_getR hx flX11_156 kl1317 h3 (by decide) (by decide +kernel) ?_
    refine j_runA hx 3 (tb := [(85, .lload_n 1), (86, .l2i), (87, .iconst 4)]) (jtb_ok (by decide +kernel)) (pc' := 88) (lv' := [(1, vL q2), (0, vR t)]) (st' := [vI (kI 4), vI q2.toInt32, vR (jR W 1317 (jR W 1600 t))]) rfl ?_
    refine j_idiv hx (by decide +kernel) (by decide +kernel) ?_
    refine j_gd (fun h6 => ?_)
    refine j_iald hx (f := 1317) (o := (jR W 1600 t)) kd1317 rfl (by decide +kernel) h6 ?_
    refine j_goto hx (off := 4) (by decide +kernel) (tgt := 94) (by decide) ?_
    refine j_lv (lv' := [(0, vR t), (1, vL q2)]) ⟨rfl, rfl, trivial⟩ ?_
    exact wrn_step_94 h q2 (jA W 1317 (jR W 1600 t) (ix (q2.toInt32 / (kI 4)))) W
  refine j_runA hx 1 (tb := [(34, .aload_n 0)]) (jtb_ok (by decide +kernel)) (pc' := 35) (lv' := [(1, vL q2), (0, vR t)]) (st' := [vR t]) rfl ?_
  refine j_getR hx flX11_42 kl1600 h1 (by decide) (by decide +kernel) ?_
  refine j_runA hx 3 (tb := [(38, .lload_n 1), (39, .l2i), (40, .iconst 4)]) (jtb_ok (by decide +kernel)) (pc' := 41) (lv' := [(1, vL q2), (0, vR t)]) (st' := [vI (kI 4), vI q2.toInt32, vR (jR W 1600 t)]) rfl ?_
  refine j_idiv hx (by decide +kernel) (by decide +kernel) ?_
  refine j_gd (fun h7 => ?_)
  refine j_OI (j_callV (av := [vI (q2.toInt32 / (kI 4))]) (st := []) hx hr (Or.inr ⟨_, q3372⟩) q3374 qs185 rfl md_fmo_blockAtNew np_fmo_blockAtNew (cmo_blockAtNew (jR W 1600 t) (q2.toInt32 / (kI 4)) W) (by decide) (Nat.le_of_ble_eq_true rfl) h7 (by decide) (by decide +kernel)) (fun q8 _ => ?_)
  refine j_goto hx (off := 49) (by decide +kernel) (tgt := 94) (by decide) ?_
  refine j_lv (lv' := [(0, vR t), (1, vL q2)]) ⟨rfl, rfl, trivial⟩ ?_
  exact wrn_step_94 h q2 q8 W
theorem crn_step (t : Nat) (W : jW) : jM yX11_step cX11_step 4 (Option.none : Option Jvm.ClassFile.FieldType) [] 7 138 [vR t] W ((frn_step t W).bind (fun q => some (.returned none, q))) := 
  jM.of (Nat.le_of_ble_eq_true rfl) (fun x hx hm hr => wrn_step ⟨hx, hm, hr, fun _ => rfl⟩ W)
def hrn_go (x : jCx) (en : (frn_go_S ⊕ (Int32 × jW)) → Option (Outcome × jW)) (t : Nat) (a1 : Int32) : Prop :=
  jOK x RX11 cX11_go 3 ∧
  jMt x "go" (Option.some Jvm.ClassFile.FieldType.int) [] ∧
  jRm x 8 153 ∧
  (∀ q : Int32 × jW, en (.inr q) = some (.returned (some (.int q.1)), q.2)) ∧
  (∀ (l2 : Int32) (W : jW), jJ x 3 7 [(0, vR t), (1, vI a1), (2, vI l2)] [] W (some (.inl (.inl (l2, W)))) en) ∧
  (∀ (l2 : Int32) (W : jW), jJ x 3 72 [(0, vR t), (1, vI a1), (2, vI l2)] [] W (some (.inl (.inr (.inl (l2, W))))) en) ∧
  (∀ (l2 : Int32) (W : jW), jJ x 3 119 [(0, vR t), (1, vI a1), (2, vI l2)] [] W (some (.inl (.inr (.inr (.inl (l2, W)))))) en) ∧
  (∀ (W : jW), jJ x 3 229 [(0, vR t), (1, vI a1)] [] W (some (.inl (.inr (.inr (.inr W))))) en)
theorem wrn_go_110 {x : jCx} {en : (frn_go_S ⊕ (Int32 × jW)) → Option (Outcome × jW)} {t : Nat} {a1 : Int32} (h : hrn_go x en t a1) (l2 : Int32) (s0 : Int32) (s1 : Int32) (s2 : Nat) (W : jW) : jJ x 3 110 [(0, vR t), (1, vI a1), (2, vI l2)] [vI s0, vI s1, vR s2] W (frn_go_110 t a1 l2 s0 s1 s2 W) en := by
  have h0 := h
  obtain ⟨hx, hm, hr, he, k7, k72, k119, k229⟩ := h0
  unfold frn_go_110
  refine j_gd (fun h53 => ?_)
  refine j_gd (fun h54 => ?_)
  refine j_bast hx (f := 1610) (o := t) kd1610 h53 (by decide +kernel) h54 ?_
  refine j_ltw rfl (fun W55 hc56 => ?_)
  refine j_runA hx 1 (tb := [(111, .iinc 2 1)]) (jtb_ok (by decide +kernel)) (pc' := 114) (lv' := [(2, vI (l2 + (kI 1))), (0, vR t), (1, vI a1)]) (st' := []) rfl ?_
  refine j_let (v := (l2 + (kI 1))) (lv := fun v58 => [(2, vI v58), (0, vR t), (1, vI a1)]) (st := fun _ => []) (fun v58 => ?_)
  refine j_goto hx (off := -42) (by decide +kernel) (tgt := 72) (by decide) ?_
  refine j_lv (lv' := [(0, vR t), (1, vI a1), (2, vI v58)]) ⟨rfl, rfl, rfl, trivial⟩ ?_
  exact k72 v58 W55
theorem wrn_go_229 {x : jCx} {en : (frn_go_S ⊕ (Int32 × jW)) → Option (Outcome × jW)} {t : Nat} {a1 : Int32} (h : hrn_go x en t a1) (W : jW) : jJ x 3 229 [(0, vR t), (1, vI a1)] [] W (frn_go_229 t a1 W) en := by
  have h0 := h
  obtain ⟨hx, hm, hr, he, k7, k72, k119, k229⟩ := h0
  unfold frn_go_229
  refine j_runA hx 1 (tb := [(229, .aload_n 0)]) (jtb_ok (by decide +kernel)) (pc' := 230) (lv' := [(0, vR t), (1, vI a1)]) (st' := [vR t]) rfl ?_
  refine j_gd (fun h121 => ?_)
  refine j_getI hx flX11_115 kd1618 h121 (by decide) (by decide +kernel) ?_
  refine j_runA hx 1 (tb := [(233, .iconst (-1))]) (jtb_ok (by decide +kernel)) (pc' := 234) (lv' := [(0, vR t), (1, vI a1)]) (st' := [vI (kI (-1)), vI (jI W 1618 t)]) rfl ?_
  refine j_icmp_ne hx (off := 10) (tgt := 244) (by decide +kernel) (by decide) (fun _ => ?_) (fun _ => ?_)
  · refine j_runA hx 1 (tb := [(244, .aload_n 0)]) (jtb_ok (by decide +kernel)) (pc' := 245) (lv' := [(0, vR t), (1, vI a1)]) (st' := [vR t]) rfl ?_
    refine j_getI hx flX11_115 kd1618 h121 (by decide) (by decide +kernel) ?_
    exact j_iret hx hm (by decide +kernel) rfl (he _)
  refine j_runA hx 1 (tb := [(237, .aload_n 0)]) (jtb_ok (by decide +kernel)) (pc' := 238) (lv' := [(0, vR t), (1, vI a1)]) (st' := [vR t]) rfl ?_
  refine j_WV (j_callV (av := []) (st := []) hx hr (Or.inl q3357) q3359 qs182 rfl md_frn_step np_frn_step (crn_step t W) (by decide) (Nat.le_of_ble_eq_true rfl) h121 (by decide) (by decide +kernel)) (fun q122 _ => ?_)
  refine j_goto hx (off := -12) (by decide +kernel) (tgt := 229) (by decide) ?_
  exact k229 q122
theorem wrn_go_224 {x : jCx} {en : (frn_go_S ⊕ (Int32 × jW)) → Option (Outcome × jW)} {t : Nat} {a1 : Int32} (h : hrn_go x en t a1) (W : jW) : jJ x 3 224 [(0, vR t), (1, vI a1)] [] W (frn_go_224 t a1 W) en := by
  have h0 := h
  obtain ⟨hx, hm, hr, he, k7, k72, k119, k229⟩ := h0
  unfold frn_go_224
  refine j_runA hx 2 (tb := [(224, .aload_n 0), (225, .iconst (-1))]) (jtb_ok (by decide +kernel)) (pc' := 226) (lv' := [(0, vR t), (1, vI a1)]) (st' := [vI (kI (-1)), vR t]) rfl ?_
  refine j_gd (fun h115 => ?_)
  refine j_putI hx fwX11_115 wf1618 kd1618 h115 (by decide) (by decide +kernel) (ni1618 _) (fi1618 _) ?_
  refine j_ltw rfl (fun W116 hc117 => ?_)
  have h118 : jC W116 t = 16 := (congrFun hc117 _).trans h115
  exact k229 W116
theorem wrn_go_152 {x : jCx} {en : (frn_go_S ⊕ (Int32 × jW)) → Option (Outcome × jW)} {t : Nat} {a1 : Int32} (h : hrn_go x en t a1) (W : jW) : jJ x 3 152 [(0, vR t), (1, vI a1)] [] W (frn_go_152 t a1 W) en := by
  have h0 := h
  obtain ⟨hx, hm, hr, he, k7, k72, k119, k229⟩ := h0
  unfold frn_go_152
  refine j_runA hx 2 (tb := [(152, .aload_n 0), (153, .iconst 0)]) (jtb_ok (by decide +kernel)) (pc' := 154) (lv' := [(0, vR t), (1, vI a1)]) (st' := [vI (kI 0), vR t]) rfl ?_
  refine j_gd (fun h71 => ?_)
  refine j_putI hx fwX11_77 wf1614 kd1614 h71 (by decide) (by decide +kernel) (ni1614 _) (fi1614 _) ?_
  refine j_ltw rfl (fun W72 hc73 => ?_)
  have h74 : jC W72 t = 16 := (congrFun hc73 _).trans h71
  refine j_runA hx 2 (tb := [(157, .aload_n 0), (158, .iload_n 1)]) (jtb_ok (by decide +kernel)) (pc' := 159) (lv' := [(0, vR t), (1, vI a1)]) (st' := [vI a1, vR t]) rfl ?_
  refine j_putI hx fwX11_80 wf1615 kd1615 h74 (by decide) (by decide +kernel) (ni1615 _) (fi1615 _) ?_
  refine j_ltw rfl (fun W76 hc77 => ?_)
  have h78 : jC W76 t = 16 := (congrFun hc77 _).trans h74
  refine j_runA hx 2 (tb := [(162, .aload_n 0), (163, .iconst 0)]) (jtb_ok (by decide +kernel)) (pc' := 164) (lv' := [(0, vR t), (1, vI a1)]) (st' := [vI (kI 0), vR t]) rfl ?_
  refine j_putI hx fwX11_83 wf1616 kd1616 h78 (by decide) (by decide +kernel) (ni1616 _) (fi1616 _) ?_
  refine j_ltw rfl (fun W80 hc81 => ?_)
  have h82 : jC W80 t = 16 := (congrFun hc81 _).trans h78
  refine j_runA hx 2 (tb := [(167, .aload_n 0), (168, .iconst 0)]) (jtb_ok (by decide +kernel)) (pc' := 169) (lv' := [(0, vR t), (1, vI a1)]) (st' := [vI (kI 0), vR t]) rfl ?_
  refine j_putI hx fwX11_86 wf1617 kd1617 h82 (by decide) (by decide +kernel) (ni1617 _) (fi1617 _) ?_
  refine j_ltw rfl (fun W84 hc85 => ?_)
  have h86 : jC W84 t = 16 := (congrFun hc85 _).trans h82
  refine j_runA hx 2 (tb := [(172, .aload_n 0), (173, .iconst 0)]) (jtb_ok (by decide +kernel)) (pc' := 174) (lv' := [(0, vR t), (1, vI a1)]) (st' := [vI (kI 0), vR t]) rfl ?_
  refine j_putI hx fwX11_89 wf1619 kd1619 h86 (by decide) (by decide +kernel) (ni1619 _) (fi1619 _) ?_
  refine j_ltw rfl (fun W88 hc89 => ?_)
  have h90 : jC W88 t = 16 := (congrFun hc89 _).trans h86
  refine j_runA hx 2 (tb := [(177, .aload_n 0), (178, .iconst 0)]) (jtb_ok (by decide +kernel)) (pc' := 179) (lv' := [(0, vR t), (1, vI a1)]) (st' := [vI (kI 0), vR t]) rfl ?_
  refine j_putI hx fwX11_92 wf1620 kd1620 h90 (by decide) (by decide +kernel) (ni1620 _) (fi1620 _) ?_
  refine j_ltw rfl (fun W92 hc93 => ?_)
  have h94 : jC W92 t = 16 := (congrFun hc93 _).trans h90
  refine j_runA hx 2 (tb := [(182, .aload_n 0), (183, .aload_n 0)]) (jtb_ok (by decide +kernel)) (pc' := 184) (lv' := [(0, vR t), (1, vI a1)]) (st' := [vR t, vR t]) rfl ?_
  refine j_getR hx flX11_42 kl1600 h94 (by decide) (by decide +kernel) ?_
  refine j_gd (fun h96 => ?_)
  refine j_getR hx flX11_95 kl1305 h96 (by decide) (by decide +kernel) ?_
  refine j_ldc2 hx (v := (kJ 24)) (jkd2 q3356 (by decide +kernel)) (by decide +kernel) ?_
  refine j_runA hx 1 (tb := [(193, .bipush 8)]) (jtb_ok (by decide +kernel)) (pc' := 195) (lv' := [(0, vR t), (1, vI a1)]) (st' := [vI (kI 8), vL (kJ 24), vR (jR W92 1305 (jR W92 1600 t)), vR t]) rfl ?_
  refine j_gd (fun h97 => ?_)
  refine j_OL (j_callV (av := [vL (kJ 24), vI (kI 8)]) (st := [vR t]) hx hr (Or.inl q3350) q2823 q2824 rfl md_fhd_num np_fhd_num (chd_num (jR W92 1305 (jR W92 1600 t)) (kJ 24) (kI 8) W92) (by decide) (Nat.le_of_ble_eq_true rfl) h97 (by decide) (by decide +kernel)) (fun q98 _ => ?_)
  refine j_putL hx fwX11_107 wf1623 kd1623 h94 (by decide) (by decide +kernel) (nl1623 _) (ff1623 _) ?_
  refine j_ltw rfl (fun W99 hc100 => ?_)
  have h101 : jC W99 t = 16 := (congrFun hc100 _).trans h94
  have h102 : jC W99 (jR W92 1600 t) = 13 := (congrFun hc100 _).trans h96
  have h103 : jC W99 (jR W92 1305 (jR W92 1600 t)) = 14 := (congrFun hc100 _).trans h97
  refine j_runA hx 1 (tb := [(201, .aload_n 0)]) (jtb_ok (by decide +kernel)) (pc' := 202) (lv' := [(0, vR t), (1, vI a1)]) (st' := [vR t]) rfl ?_
  refine j_getI hx flX11_46 kd1601 h101 (by decide) (by decide +kernel) ?_
  refine j_runA hx 1 (tb := [(205, .iconst 2)]) (jtb_ok (by decide +kernel)) (pc' := 206) (lv' := [(0, vR t), (1, vI a1)]) (st' := [vI (kI 2), vI (jI W99 1601 t)]) rfl ?_
  refine j_icmp_ne hx (off := 18) (tgt := 224) (by decide +kernel) (by decide) (fun _ => ?_) (fun _ => ?_)
  · exact wrn_go_224 h W99
  refine j_runA hx 2 (tb := [(209, .aload_n 0), (210, .aload_n 0)]) (jtb_ok (by decide +kernel)) (pc' := 211) (lv' := [(0, vR t), (1, vI a1)]) (st' := [vR t, vR t]) rfl ?_
  refine j_getR hx flX11_42 kl1600 h101 (by decide) (by decide +kernel) ?_
  refine j_runA hx 1 (tb := [(214, .aload_n 0)]) (jtb_ok (by decide +kernel)) (pc' := 215) (lv' := [(0, vR t), (1, vI a1)]) (st' := [vR t, vR (jR W99 1600 t), vR t]) rfl ?_
  refine j_getL hx flX11_107 kd1623 h101 (by decide) (by decide +kernel) ?_
  refine j_gd (fun h105 => ?_)
  refine j_OL (j_callV (av := [vL (jL W99 1623 t)]) (st := [vR t]) hx hr (Or.inr ⟨_, q3351⟩) q3274 qs175 rfl md_fmo_newAddress np_fmo_newAddress (cmo_newAddress (jR W99 1600 t) (jL W99 1623 t) W99) (by decide) (Nat.le_of_ble_eq_true rfl) h105 (by decide) (by decide +kernel)) (fun q106 _ => ?_)
  refine j_putL hx fwX11_107 wf1623 kd1623 h101 (by decide) (by decide +kernel) (nl1623 _) (ff1623 _) ?_
  refine j_ltw rfl (fun W107 hc108 => ?_)
  have h109 : jC W107 t = 16 := (congrFun hc108 _).trans h101
  have h110 : jC W107 (jR W92 1600 t) = 13 := (congrFun hc108 _).trans h102
  have h111 : jC W107 (jR W92 1305 (jR W92 1600 t)) = 14 := (congrFun hc108 _).trans h103
  have h112 : jC W107 (jR W99 1600 t) = 13 := (congrFun hc108 _).trans h105
  exact wrn_go_224 h W107
theorem wrn_go_119 {x : jCx} {en : (frn_go_S ⊕ (Int32 × jW)) → Option (Outcome × jW)} {t : Nat} {a1 : Int32} (h : hrn_go x en t a1) (l2 : Int32) (W : jW) : jJ x 3 119 [(0, vR t), (1, vI a1), (2, vI l2)] [] W (frn_go_119 t a1 l2 W) en := by
  have h0 := h
  obtain ⟨hx, hm, hr, he, k7, k72, k119, k229⟩ := h0
  unfold frn_go_119
  refine j_runA hx 2 (tb := [(119, .iload_n 2), (120, .aload_n 0)]) (jtb_ok (by decide +kernel)) (pc' := 121) (lv' := [(0, vR t), (1, vI a1), (2, vI l2)]) (st' := [vR t, vI l2]) rfl ?_
  refine j_gd (fun h60 => ?_)
  refine j_getR hx flX11_27 kl1611 h60 (by decide) (by decide +kernel) ?_
  refine j_gd (fun h61 => ?_)
  refine j_alen hx (f := 1611) (o := t) kg1611 kh1611 rfl (by decide +kernel) h61 ?_
  refine j_icmp_ge hx (off := 16) (tgt := 141) (by decide +kernel) (by decide) (fun _ => ?_) (fun _ => ?_)
  · refine j_runA hx 1 (tb := [(141, .aload_n 0)]) (jtb_ok (by decide +kernel)) (pc' := 142) (lv' := [(0, vR t), (1, vI a1), (2, vI l2)]) (st' := [vR t]) rfl ?_
    refine j_getI hx flX11_46 kd1601 h60 (by decide) (by decide +kernel) ?_
    refine j_if_le hx (off := 7) (tgt := 152) (by decide +kernel) (by decide) (fun _ => ?_) (fun _ => ?_)
    · refine j_lv (lv' := [(0, vR t), (1, vI a1)]) ⟨rfl, rfl, trivial⟩ ?_
      exact wrn_go_152 h W
    refine j_runA hx 1 (tb := [(148, .aload_n 0)]) (jtb_ok (by decide +kernel)) (pc' := 149) (lv' := [(0, vR t), (1, vI a1), (2, vI l2)]) (st' := [vR t]) rfl ?_
    refine j_WV (j_callV (av := []) (st := []) hx hr (Or.inl q3341) q3343 qs180 rfl md_frn_prepare np_frn_prepare (crn_prepare t W) (by decide) (Nat.le_of_ble_eq_true rfl) h60 (by decide) (by decide +kernel)) (fun q62 _ => ?_)
    refine j_lv (lv' := [(0, vR t), (1, vI a1)]) ⟨rfl, rfl, trivial⟩ ?_
    exact wrn_go_152 h q62
  refine j_runA hx 1 (tb := [(128, .aload_n 0)]) (jtb_ok (by decide +kernel)) (pc' := 129) (lv' := [(0, vR t), (1, vI a1), (2, vI l2)]) (st' := [vR t]) rfl ?_
  refine j_getR hx flX11_27 kl1611 h60 (by decide) (by decide +kernel) ?_
  refine j_runA hx 2 (tb := [(132, .iload_n 2), (133, .iconst 0)]) (jtb_ok (by decide +kernel)) (pc' := 134) (lv' := [(0, vR t), (1, vI a1), (2, vI l2)]) (st' := [vI (kI 0), vI l2, vR (jR W 1611 t)]) rfl ?_
  refine j_gd (fun h64 => ?_)
  refine j_bast hx (f := 1611) (o := t) kd1611 rfl (by decide +kernel) h64 ?_
  refine j_ltw rfl (fun W65 hc66 => ?_)
  have h67 : jC W65 t = 16 := (congrFun hc66 _).trans h60
  refine j_runA hx 1 (tb := [(135, .iinc 2 1)]) (jtb_ok (by decide +kernel)) (pc' := 138) (lv' := [(2, vI (l2 + (kI 1))), (0, vR t), (1, vI a1)]) (st' := []) rfl ?_
  refine j_let (v := (l2 + (kI 1))) (lv := fun v69 => [(2, vI v69), (0, vR t), (1, vI a1)]) (st := fun _ => []) (fun v69 => ?_)
  refine j_goto hx (off := -19) (by decide +kernel) (tgt := 119) (by decide) ?_
  refine j_lv (lv' := [(0, vR t), (1, vI a1), (2, vI v69)]) ⟨rfl, rfl, rfl, trivial⟩ ?_
  exact k119 v69 W65
theorem wrn_go_72 {x : jCx} {en : (frn_go_S ⊕ (Int32 × jW)) → Option (Outcome × jW)} {t : Nat} {a1 : Int32} (h : hrn_go x en t a1) (l2 : Int32) (W : jW) : jJ x 3 72 [(0, vR t), (1, vI a1), (2, vI l2)] [] W (frn_go_72 t a1 l2 W) en := by
  have h0 := h
  obtain ⟨hx, hm, hr, he, k7, k72, k119, k229⟩ := h0
  unfold frn_go_72
  refine j_runA hx 2 (tb := [(72, .iload_n 2), (73, .aload_n 0)]) (jtb_ok (by decide +kernel)) (pc' := 74) (lv' := [(0, vR t), (1, vI a1), (2, vI l2)]) (st' := [vR t, vI l2]) rfl ?_
  refine j_gd (fun h47 => ?_)
  refine j_getR hx flX11_24 kl1610 h47 (by decide) (by decide +kernel) ?_
  refine j_gd (fun h48 => ?_)
  refine j_alen hx (f := 1610) (o := t) kg1610 kh1610 rfl (by decide +kernel) h48 ?_
  refine j_icmp_ge hx (off := 39) (tgt := 117) (by decide +kernel) (by decide) (fun _ => ?_) (fun _ => ?_)
  · refine j_runA hx 2 (tb := [(117, .iconst 0), (118, .istore_n 2)]) (jtb_ok (by decide +kernel)) (pc' := 119) (lv' := [(2, vI (kI 0)), (0, vR t), (1, vI a1)]) (st' := []) rfl ?_
    refine j_lv (lv' := [(0, vR t), (1, vI a1), (2, vI (kI 0))]) ⟨rfl, rfl, rfl, trivial⟩ ?_
    exact k119 (kI 0) W
  refine j_runA hx 1 (tb := [(81, .aload_n 0)]) (jtb_ok (by decide +kernel)) (pc' := 82) (lv' := [(0, vR t), (1, vI a1), (2, vI l2)]) (st' := [vR t]) rfl ?_
  refine j_getR hx flX11_24 kl1610 h47 (by decide) (by decide +kernel) ?_
  refine j_runA hx 3 (tb := [(85, .iload_n 2), (86, .iload_n 2), (87, .aload_n 0)]) (jtb_ok (by decide +kernel)) (pc' := 88) (lv' := [(0, vR t), (1, vI a1), (2, vI l2)]) (st' := [vR t, vI l2, vI l2, vR (jR W 1610 t)]) rfl ?_
  refine j_getR hx flX11_42 kl1600 h47 (by decide) (by decide +kernel) ?_
  refine j_gd (fun h49 => ?_)
  refine j_getI hx flX11_68 kd1309 h49 (by decide) (by decide +kernel) ?_
  refine j_icmp_ge hx (off := 15) (tgt := 109) (by decide +kernel) (by decide) (fun _ => ?_) (fun _ => ?_)
  · refine j_runA hx 1 (tb := [(109, .iconst 0)]) (jtb_ok (by decide +kernel)) (pc' := 110) (lv' := [(0, vR t), (1, vI a1), (2, vI l2)]) (st' := [vI (kI 0), vI l2, vR (jR W 1610 t)]) rfl ?_
    exact wrn_go_110 h l2 (kI 0) l2 (jR W 1610 t) W
  refine j_runA hx 1 (tb := [(97, .aload_n 0)]) (jtb_ok (by decide +kernel)) (pc' := 98) (lv' := [(0, vR t), (1, vI a1), (2, vI l2)]) (st' := [vR t, vI l2, vR (jR W 1610 t)]) rfl ?_
  refine j_getR hx flX11_42 kl1600 h47 (by decide) (by decide +kernel) ?_
  refine j_getR hx flX11_71 kl1303 h49 (by decide) (by decide +kernel) ?_
  refine j_runA hx 1 (tb := [(104, .iload_n 2)]) (jtb_ok (by decide +kernel)) (pc' := 105) (lv' := [(0, vR t), (1, vI a1), (2, vI l2)]) (st' := [vI l2, vR (jR W 1303 (jR W 1600 t)), vI l2, vR (jR W 1610 t)]) rfl ?_
  refine j_gd (fun h50 => ?_)
  refine j_gd (fun h51 => ?_)
  refine j_bald hx (f := 9004) (o := (jR W 1303 (jR W 1600 t))) kd9004 h50 (by decide +kernel) h51 ?_
  refine j_goto hx (off := 4) (by decide +kernel) (tgt := 110) (by decide) ?_
  exact wrn_go_110 h l2 (jA W 9004 (jR W 1303 (jR W 1600 t)) (ix l2)) l2 (jR W 1610 t) W
theorem wrn_go_7 {x : jCx} {en : (frn_go_S ⊕ (Int32 × jW)) → Option (Outcome × jW)} {t : Nat} {a1 : Int32} (h : hrn_go x en t a1) (l2 : Int32) (W : jW) : jJ x 3 7 [(0, vR t), (1, vI a1), (2, vI l2)] [] W (frn_go_7 t a1 l2 W) en := by
  have h0 := h
  obtain ⟨hx, hm, hr, he, k7, k72, k119, k229⟩ := h0
  unfold frn_go_7
  refine j_runA hx 2 (tb := [(7, .iload_n 2), (8, .bipush 32)]) (jtb_ok (by decide +kernel)) (pc' := 10) (lv' := [(0, vR t), (1, vI a1), (2, vI l2)]) (st' := [vI (kI 32), vI l2]) rfl ?_
  refine j_icmp_ge hx (off := 30) (tgt := 40) (by decide +kernel) (by decide) (fun _ => ?_) (fun _ => ?_)
  · refine j_runA hx 1 (tb := [(40, .aload_n 0)]) (jtb_ok (by decide +kernel)) (pc' := 41) (lv' := [(0, vR t), (1, vI a1), (2, vI l2)]) (st' := [vR t]) rfl ?_
    refine j_gd (fun h7 => ?_)
    refine j_getR hx flX11_9 kl1603 h7 (by decide) (by decide +kernel) ?_
    refine j_runA hx 1 (tb := [(44, .bipush 31)]) (jtb_ok (by decide +kernel)) (pc' := 46) (lv' := [(0, vR t), (1, vI a1), (2, vI l2)]) (st' := [vI (kI 31), vR (jR W 1603 t)]) rfl ?_
    refine j_ldc2 hx (v := (kJ 2147483648)) (jkd2 q3340 (by decide +kernel)) (by decide +kernel) ?_
    refine j_gd (fun h8 => ?_)
    refine j_last hx (f := 1603) (o := t) kd1603 rfl (by decide +kernel) h8 ?_
    refine j_ltw rfl (fun W9 hc10 => ?_)
    have h11 : jC W9 t = 16 := (congrFun hc10 _).trans h7
    refine j_runA hx 2 (tb := [(50, .aload_n 0), (51, .iconst 0)]) (jtb_ok (by decide +kernel)) (pc' := 52) (lv' := [(0, vR t), (1, vI a1), (2, vI l2)]) (st' := [vI (kI 0), vR t]) rfl ?_
    refine j_putI hx fwX11_56 wf1606 kd1606 h11 (by decide) (by decide +kernel) (nz1606 jz0) (fz1606 jz0) ?_
    refine j_ltw rfl (fun W13 hc14 => ?_)
    have h15 : jC W13 t = 16 := (congrFun hc14 _).trans h11
    refine j_runA hx 2 (tb := [(55, .aload_n 0), (56, .iconst 0)]) (jtb_ok (by decide +kernel)) (pc' := 57) (lv' := [(0, vR t), (1, vI a1), (2, vI l2)]) (st' := [vI (kI 0), vR t]) rfl ?_
    refine j_putI hx fwX11_59 wf1607 kd1607 h15 (by decide) (by decide +kernel) (nz1607 jz0) (fz1607 jz0) ?_
    refine j_ltw rfl (fun W17 hc18 => ?_)
    have h19 : jC W17 t = 16 := (congrFun hc18 _).trans h15
    refine j_runA hx 2 (tb := [(60, .aload_n 0), (61, .iconst 0)]) (jtb_ok (by decide +kernel)) (pc' := 62) (lv' := [(0, vR t), (1, vI a1), (2, vI l2)]) (st' := [vI (kI 0), vR t]) rfl ?_
    refine j_putI hx fwX11_62 wf1608 kd1608 h19 (by decide) (by decide +kernel) (nz1608 jz0) (fz1608 jz0) ?_
    refine j_ltw rfl (fun W21 hc22 => ?_)
    have h23 : jC W21 t = 16 := (congrFun hc22 _).trans h19
    refine j_runA hx 2 (tb := [(65, .aload_n 0), (66, .iconst 0)]) (jtb_ok (by decide +kernel)) (pc' := 67) (lv' := [(0, vR t), (1, vI a1), (2, vI l2)]) (st' := [vI (kI 0), vR t]) rfl ?_
    refine j_putI hx fwX11_65 wf1609 kd1609 h23 (by decide) (by decide +kernel) (nz1609 jz0) (fz1609 jz0) ?_
    refine j_ltw rfl (fun W25 hc26 => ?_)
    have h27 : jC W25 t = 16 := (congrFun hc26 _).trans h23
    refine j_runA hx 2 (tb := [(70, .iconst 0), (71, .istore_n 2)]) (jtb_ok (by decide +kernel)) (pc' := 72) (lv' := [(2, vI (kI 0)), (0, vR t), (1, vI a1)]) (st' := []) rfl ?_
    refine j_lv (lv' := [(0, vR t), (1, vI a1), (2, vI (kI 0))]) ⟨rfl, rfl, rfl, trivial⟩ ?_
    exact k72 (kI 0) W25
  refine j_runA hx 1 (tb := [(13, .aload_n 0)]) (jtb_ok (by decide +kernel)) (pc' := 14) (lv' := [(0, vR t), (1, vI a1), (2, vI l2)]) (st' := [vR t]) rfl ?_
  refine j_gd (fun h29 => ?_)
  refine j_getR hx flX11_9 kl1603 h29 (by decide) (by decide +kernel) ?_
  refine j_runA hx 2 (tb := [(17, .iload_n 2), (18, .lconst 0)]) (jtb_ok (by decide +kernel)) (pc' := 19) (lv' := [(0, vR t), (1, vI a1), (2, vI l2)]) (st' := [vL (kJ 0), vI l2, vR (jR W 1603 t)]) rfl ?_
  refine j_gd (fun h30 => ?_)
  refine j_last hx (f := 1603) (o := t) kd1603 rfl (by decide +kernel) h30 ?_
  refine j_ltw rfl (fun W31 hc32 => ?_)
  have h33 : jC W31 t = 16 := (congrFun hc32 _).trans h29
  refine j_runA hx 1 (tb := [(20, .aload_n 0)]) (jtb_ok (by decide +kernel)) (pc' := 21) (lv' := [(0, vR t), (1, vI a1), (2, vI l2)]) (st' := [vR t]) rfl ?_
  refine j_getR hx flX11_15 kl1604 h33 (by decide) (by decide +kernel) ?_
  refine j_runA hx 2 (tb := [(24, .iload_n 2), (25, .iconst 0)]) (jtb_ok (by decide +kernel)) (pc' := 26) (lv' := [(0, vR t), (1, vI a1), (2, vI l2)]) (st' := [vI (kI 0), vI l2, vR (jR W31 1604 t)]) rfl ?_
  refine j_gd (fun h35 => ?_)
  refine j_bast hx (f := 1604) (o := t) kd1604 rfl (by decide +kernel) h35 ?_
  refine j_ltw rfl (fun W36 hc37 => ?_)
  have h38 : jC W36 t = 16 := (congrFun hc37 _).trans h33
  refine j_runA hx 1 (tb := [(27, .aload_n 0)]) (jtb_ok (by decide +kernel)) (pc' := 28) (lv' := [(0, vR t), (1, vI a1), (2, vI l2)]) (st' := [vR t]) rfl ?_
  refine j_getR hx flX11_19 kl1605 h38 (by decide) (by decide +kernel) ?_
  refine j_runA hx 2 (tb := [(31, .iload_n 2), (32, .iconst 0)]) (jtb_ok (by decide +kernel)) (pc' := 33) (lv' := [(0, vR t), (1, vI a1), (2, vI l2)]) (st' := [vI (kI 0), vI l2, vR (jR W36 1605 t)]) rfl ?_
  refine j_gd (fun h40 => ?_)
  refine j_iast hx (f := 1605) (o := t) kd1605 rfl (by decide +kernel) h40 ?_
  refine j_ltw rfl (fun W41 hc42 => ?_)
  have h43 : jC W41 t = 16 := (congrFun hc42 _).trans h38
  refine j_runA hx 1 (tb := [(34, .iinc 2 1)]) (jtb_ok (by decide +kernel)) (pc' := 37) (lv' := [(2, vI (l2 + (kI 1))), (0, vR t), (1, vI a1)]) (st' := []) rfl ?_
  refine j_let (v := (l2 + (kI 1))) (lv := fun v45 => [(2, vI v45), (0, vR t), (1, vI a1)]) (st := fun _ => []) (fun v45 => ?_)
  refine j_goto hx (off := -30) (by decide +kernel) (tgt := 7) (by decide) ?_
  refine j_lv (lv' := [(0, vR t), (1, vI a1), (2, vI v45)]) ⟨rfl, rfl, rfl, trivial⟩ ?_
  exact k7 v45 W41
theorem wrn_go {x : jCx} {en : (frn_go_S ⊕ (Int32 × jW)) → Option (Outcome × jW)} {t : Nat} {a1 : Int32} (h : hrn_go x en t a1) (W : jW) : jJ x 3 0 [(0, vR t), (1, vI a1)] [] W (frn_go_0 t a1 W) en := by
  have h0 := h
  obtain ⟨hx, hm, hr, he, k7, k72, k119, k229⟩ := h0
  unfold frn_go_0
  refine j_runA hx 2 (tb := [(0, .aload_n 0), (1, .iconst 1)]) (jtb_ok (by decide +kernel)) (pc' := 2) (lv' := [(0, vR t), (1, vI a1)]) (st' := [vI (kI 1), vR t]) rfl ?_
  refine j_gd (fun h1 => ?_)
  refine j_putI hx fwX11_50 wf1602 kd1602 h1 (by decide) (by decide +kernel) (nz1602 jz1) (fz1602 jz1) ?_
  refine j_ltw rfl (fun W2 hc3 => ?_)
  have h4 : jC W2 t = 16 := (congrFun hc3 _).trans h1
  refine j_runA hx 2 (tb := [(5, .iconst 0), (6, .istore_n 2)]) (jtb_ok (by decide +kernel)) (pc' := 7) (lv' := [(2, vI (kI 0)), (0, vR t), (1, vI a1)]) (st' := []) rfl ?_
  refine j_lv (lv' := [(0, vR t), (1, vI a1), (2, vI (kI 0))]) ⟨rfl, rfl, rfl, trivial⟩ ?_
  exact k7 (kI 0) W2
theorem crn_go (t : Nat) (a1 : Int32) (W : jW) : jM yX11_go cX11_go 3 (Option.some Jvm.ClassFile.FieldType.int) [] 8 153 [vR t, vI a1] W ((frn_go t a1 W).bind (fun q => some (.returned (some (.int q.1)), q.2))) := by
  refine jM.of (Nat.le_of_ble_eq_true rfl) (fun x hx hm hr => ?_)
  refine j_begin (P := (Sum.elim (fun s => (7, [(0, vR t), (1, vI a1), (2, vI s.1)], s.2)) (Sum.elim (fun s => (72, [(0, vR t), (1, vI a1), (2, vI s.1)], s.2)) (Sum.elim (fun s => (119, [(0, vR t), (1, vI a1), (2, vI s.1)], s.2)) (fun s => (229, [(0, vR t), (1, vI a1)], s)))))) (fun en he hk => ?_)
  have h : hrn_go x en t a1 := ⟨hx, hm, hr, fun q => he _, fun l2 W => hk (.inl (l2, W)), fun l2 W => hk (.inr (.inl (l2, W))), fun l2 W => hk (.inr (.inr (.inl (l2, W)))), fun W => hk (.inr (.inr (.inr W)))⟩
  refine ⟨fun s => ?_, wrn_go h W⟩
  rcases s with s | s | s | s
  · exact wrn_go_7 h s.1 s.2
  · exact wrn_go_72 h s.1 s.2
  · exact wrn_go_119 h s.1 s.2
  · exact wrn_go_229 h s
def hhd_init (x : jCx) (en : (jW) → Option (Outcome × jW)) (t : Nat) : Prop :=
  jOK x RX9 cX9_init 1 ∧
  jMt x "<init>" (Option.none : Option Jvm.ClassFile.FieldType) [] ∧
  jRm x 1 12 ∧
  (∀ q : jW, en q = some (.returned none, q))
theorem whd_init {x : jCx} {en : (jW) → Option (Outcome × jW)} {t : Nat} (h : hhd_init x en t) (W : jW) : jJ x 1 0 [(0, vR t)] [] W (fhd_init t W) en := by
  have h0 := h
  obtain ⟨hx, hm, hr, he⟩ := h0
  unfold fhd_init
  refine j_runA hx 1 (tb := [(0, .aload_n 0)]) (jtb_ok (by decide +kernel)) (pc' := 1) (lv' := [(0, vR t)]) (st' := [vR t]) rfl ?_
  refine j_gd (fun h1 => ?_)
  refine j_obj hx hr q2341 h1 q264 q265 (by decide +kernel) (by decide) (Nat.le_of_ble_eq_true rfl) ?_
  refine j_runA hx 2 (tb := [(4, .aload_n 0), (5, .iconst 4)]) (jtb_ok (by decide +kernel)) (pc' := 6) (lv' := [(0, vR t)]) (st' := [vI (kI 4), vR t]) rfl ?_
  refine j_gd (fun h2 => ?_)
  refine j_gd (fun h3 => ?_)
  refine j_nwA hx fwX9_7 (wi1406 hm) ka1406 ja1406_3 h3 (by decide) nr1406 fr1406 (by decide +kernel) (by decide +kernel) h2 ?_
  refine j_ltw rfl (fun W4 hc5 => ?_)
  have h6 : jC W4 t = 14 := (congrFun hc5 _).trans h3
  refine j_runA hx 2 (tb := [(11, .aload_n 0), (12, .iconst 4)]) (jtb_ok (by decide +kernel)) (pc' := 13) (lv' := [(0, vR t)]) (st' := [vI (kI 4), vR t]) rfl ?_
  refine j_gd (fun h8 => ?_)
  refine j_nwA hx fwX9_13 (wi1407 hm) ka1407 ja1407_3 h6 (by decide) nr1407 fr1407 (by decide +kernel) (by decide +kernel) h8 ?_
  refine j_ltw rfl (fun W9 hc10 => ?_)
  have h11 : jC W9 t = 14 := (congrFun hc10 _).trans h6
  refine j_runA hx 2 (tb := [(18, .aload_n 0), (19, .iconst 4)]) (jtb_ok (by decide +kernel)) (pc' := 20) (lv' := [(0, vR t)]) (st' := [vI (kI 4), vR t]) rfl ?_
  refine j_gd (fun h13 => ?_)
  refine j_nwB hx fwX9_16 (wi1408 hm) kd1408 ja1408_6 h11 (by decide) nr1408 fr1408 (by decide +kernel) (by decide +kernel) h13 ?_
  refine j_ltw rfl (fun W14 hc15 => ?_)
  have h16 : jC W14 t = 14 := (congrFun hc15 _).trans h11
  refine j_runA hx 2 (tb := [(25, .aload_n 0), (26, .iconst 4)]) (jtb_ok (by decide +kernel)) (pc' := 27) (lv' := [(0, vR t)]) (st' := [vI (kI 4), vR t]) rfl ?_
  refine j_gd (fun h18 => ?_)
  refine j_nwA hx fwX9_20 (wi1409 hm) ka1409 ja1409_3 h16 (by decide) nr1409 fr1409 (by decide +kernel) (by decide +kernel) h18 ?_
  refine j_ltw rfl (fun W19 hc20 => ?_)
  have h21 : jC W19 t = 14 := (congrFun hc20 _).trans h16
  refine j_runA hx 2 (tb := [(32, .aload_n 0), (33, .bipush 16)]) (jtb_ok (by decide +kernel)) (pc' := 35) (lv' := [(0, vR t)]) (st' := [vI (kI 16), vR t]) rfl ?_
  refine j_gd (fun h23 => ?_)
  refine j_nwA hx fwX9_23 (wi1410 hm) ka1410 ja1410_3 h21 (by decide) nr1410 fr1410 (by decide +kernel) (by decide +kernel) h23 ?_
  refine j_ltw rfl (fun W24 hc25 => ?_)
  have h26 : jC W24 t = 14 := (congrFun hc25 _).trans h21
  refine j_runA hx 2 (tb := [(40, .aload_n 0), (41, .bipush 16)]) (jtb_ok (by decide +kernel)) (pc' := 43) (lv' := [(0, vR t)]) (st' := [vI (kI 16), vR t]) rfl ?_
  refine j_gd (fun h28 => ?_)
  refine j_nwA hx fwX9_26 (wi1411 hm) ka1411 ja1411_3 h26 (by decide) nr1411 fr1411 (by decide +kernel) (by decide +kernel) h28 ?_
  refine j_ltw rfl (fun W29 hc30 => ?_)
  have h31 : jC W29 t = 14 := (congrFun hc30 _).trans h26
  refine j_runA hx 2 (tb := [(48, .aload_n 0), (49, .bipush 16)]) (jtb_ok (by decide +kernel)) (pc' := 51) (lv' := [(0, vR t)]) (st' := [vI (kI 16), vR t]) rfl ?_
  refine j_gd (fun h33 => ?_)
  refine j_nwB hx fwX9_29 (wi1412 hm) kd1412 ja1412_6 h31 (by decide) nr1412 fr1412 (by decide +kernel) (by decide +kernel) h33 ?_
  refine j_ltw rfl (fun W34 hc35 => ?_)
  have h36 : jC W34 t = 14 := (congrFun hc35 _).trans h31
  refine j_runA hx 2 (tb := [(56, .aload_n 0), (57, .bipush 16)]) (jtb_ok (by decide +kernel)) (pc' := 59) (lv' := [(0, vR t)]) (st' := [vI (kI 16), vR t]) rfl ?_
  refine j_gd (fun h38 => ?_)
  refine j_nwB hx fwX9_32 (wi1413 hm) kd1413 ja1413_6 h36 (by decide) nr1413 fr1413 (by decide +kernel) (by decide +kernel) h38 ?_
  refine j_ltw rfl (fun W39 hc40 => ?_)
  have h41 : jC W39 t = 14 := (congrFun hc40 _).trans h36
  refine j_runA hx 2 (tb := [(64, .aload_n 0), (65, .bipush 16)]) (jtb_ok (by decide +kernel)) (pc' := 67) (lv' := [(0, vR t)]) (st' := [vI (kI 16), vR t]) rfl ?_
  refine j_gd (fun h43 => ?_)
  refine j_nwB hx fwX9_35 (wi1414 hm) kd1414 ja1414_6 h41 (by decide) nr1414 fr1414 (by decide +kernel) (by decide +kernel) h43 ?_
  refine j_ltw rfl (fun W44 hc45 => ?_)
  have h46 : jC W44 t = 14 := (congrFun hc45 _).trans h41
  exact j_vret hx hm (by decide +kernel) (he _)
theorem chd_init (t : Nat) (W : jW) : jM yX9_init cX9_init 1 (Option.none : Option Jvm.ClassFile.FieldType) [] 1 12 [vR t] W ((fhd_init t W).bind (fun q => some (.returned none, q))) := 
  jM.of (Nat.le_of_ble_eq_true rfl) (fun x hx hm hr => whd_init ⟨hx, hm, hr, fun _ => rfl⟩ W)
def hmo_init (x : jCx) (en : (jW) → Option (Outcome × jW)) (t : Nat) : Prop :=
  jOK x RX8 cX8_init 1 ∧
  jMt x "<init>" (Option.none : Option Jvm.ClassFile.FieldType) [] ∧
  jRm x 2 28 ∧
  (∀ q : jW, en q = some (.returned none, q))
theorem wmo_init {x : jCx} {en : (jW) → Option (Outcome × jW)} {t : Nat} (h : hmo_init x en t) (W : jW) : jJ x 1 0 [(0, vR t)] [] W (fmo_init t W) en := by
  have h0 := h
  obtain ⟨hx, hm, hr, he⟩ := h0
  unfold fmo_init
  refine j_runA hx 1 (tb := [(0, .aload_n 0)]) (jtb_ok (by decide +kernel)) (pc' := 1) (lv' := [(0, vR t)]) (st' := [vR t]) rfl ?_
  refine j_gd (fun h1 => ?_)
  refine j_obj hx hr q2334 h1 q264 q265 (by decide +kernel) (by decide) (Nat.le_of_ble_eq_true rfl) ?_
  refine j_runA hx 1 (tb := [(4, .aload_n 0)]) (jtb_ok (by decide +kernel)) (pc' := 5) (lv' := [(0, vR t)]) (st' := [vR t]) rfl ?_
  refine j_ldc hx (v := (kI 60000)) (jkc q2335 (by decide +kernel)) (by decide +kernel) ?_
  refine j_gd (fun h2 => ?_)
  refine j_gd (fun h3 => ?_)
  refine j_nwA hx fwX8_10 (wi1300 hm) ka1300 ja1300_4 h3 (by decide) nr1300 fr1300 (by decide +kernel) (by decide +kernel) h2 ?_
  refine j_ltw rfl (fun W4 hc5 => ?_)
  have h6 : jC W4 t = 13 := (congrFun hc5 _).trans h3
  refine j_runA hx 1 (tb := [(12, .aload_n 0)]) (jtb_ok (by decide +kernel)) (pc' := 13) (lv' := [(0, vR t)]) (st' := [vR t]) rfl ?_
  refine j_ldc hx (v := (kI 60000)) (jkc q2335 (by decide +kernel)) (by decide +kernel) ?_
  refine j_gd (fun h8 => ?_)
  refine j_newA hx (f := 9004) (by decide) ka9004 ja9004_4 (by decide +kernel) h8 ?_
  refine j_ltw rfl (fun W9 hc10 => ?_)
  have h11 : jC W9 t = 13 := (congrFun hc10 _).trans h6
  refine j_putR hx fwX8_14 wf1303 kd1303 h11 (by decide) (by decide +kernel) nr1303 fr1303 ?_
  refine j_ltw rfl (fun W13 hc14 => ?_)
  have h15 : jC W13 t = 13 := (congrFun hc14 _).trans h11
  refine j_runA hx 1 (tb := [(20, .aload_n 0)]) (jtb_ok (by decide +kernel)) (pc' := 21) (lv' := [(0, vR t)]) (st' := [vR t]) rfl ?_
  refine j_ldc hx (v := (kI 60000)) (jkc q2335 (by decide +kernel)) (by decide +kernel) ?_
  refine j_gd (fun h17 => ?_)
  refine j_newA hx (f := 9004) (by decide) ka9004 ja9004_4 (by decide +kernel) h17 ?_
  refine j_ltw rfl (fun W18 hc19 => ?_)
  have h20 : jC W18 t = 13 := (congrFun hc19 _).trans h15
  refine j_putR hx fwX8_17 wf1304 kd1304 h20 (by decide) (by decide +kernel) nr1304 fr1304 ?_
  refine j_ltw rfl (fun W22 hc23 => ?_)
  have h24 : jC W22 t = 13 := (congrFun hc23 _).trans h20
  refine j_runA hx 1 (tb := [(28, .aload_n 0)]) (jtb_ok (by decide +kernel)) (pc' := 29) (lv' := [(0, vR t)]) (st' := [vR t]) rfl ?_
  refine j_gd (fun h26 => ?_)
  refine j_new hx nlX8_20 (N := 18) rfl (by decide +kernel) h26 ?_
  refine j_ltn (fun W27 => ?_)
  refine j_runA hx 1 (tb := [(32, .dup)]) (jtb_ok (by decide +kernel)) (pc' := 33) (lv' := [(0, vR t)]) (st' := [vR (jX W22), vR (jX W22), vR t]) rfl ?_
  refine j_gd (fun h29 => ?_)
  refine j_WV (j_callI (av := []) (st := [vR (jX W22), vR t]) hx hr (Or.inr ⟨_, q2338⟩) q2339 rfl q2340 md_fhd_init np_fhd_init (chd_init (jX W22) W27) (by decide) (Nat.le_of_ble_eq_true rfl) h29 (by decide) (by decide +kernel)) (fun q30 _ => ?_)
  refine j_gd (fun h32 => ?_)
  refine j_putR hx fwX8_23 wf1305 kd1305 h32 (by decide) (by decide +kernel) nr1305 fr1305 ?_
  refine j_ltw rfl (fun W33 hc34 => ?_)
  have h35 : jC W33 t = 13 := (congrFun hc34 _).trans h32
  refine j_runA hx 1 (tb := [(39, .aload_n 0)]) (jtb_ok (by decide +kernel)) (pc' := 40) (lv' := [(0, vR t)]) (st' := [vR t]) rfl ?_
  refine j_gd (fun h37 => ?_)
  refine j_new hx nlX8_20 (N := 18) rfl (by decide +kernel) h37 ?_
  refine j_ltn (fun W38 => ?_)
  refine j_runA hx 1 (tb := [(43, .dup)]) (jtb_ok (by decide +kernel)) (pc' := 44) (lv' := [(0, vR t)]) (st' := [vR (jX W33), vR (jX W33), vR t]) rfl ?_
  refine j_gd (fun h40 => ?_)
  refine j_WV (j_callI (av := []) (st := [vR (jX W33), vR t]) hx hr (Or.inr ⟨_, q2338⟩) q2339 rfl q2340 md_fhd_init np_fhd_init (chd_init (jX W33) W38) (by decide) (Nat.le_of_ble_eq_true rfl) h40 (by decide) (by decide +kernel)) (fun q41 _ => ?_)
  refine j_gd (fun h43 => ?_)
  refine j_putR hx fwX8_27 wf1306 kd1306 h43 (by decide) (by decide +kernel) nr1306 fr1306 ?_
  refine j_ltw rfl (fun W44 hc45 => ?_)
  have h46 : jC W44 t = 13 := (congrFun hc45 _).trans h43
  refine j_runA hx 1 (tb := [(50, .aload_n 0)]) (jtb_ok (by decide +kernel)) (pc' := 51) (lv' := [(0, vR t)]) (st' := [vR t]) rfl ?_
  refine j_ldc2 hx (v := (kJ (-1))) (jkd2 q2417 (by decide +kernel)) (by decide +kernel) ?_
  refine j_putL hx fwX8_32 wf1314 kd1314 h46 (by decide) (by decide +kernel) (nl1314 _) (ff1314 _) ?_
  refine j_ltw rfl (fun W48 hc49 => ?_)
  have h50 : jC W48 t = 13 := (congrFun hc49 _).trans h46
  refine j_runA hx 2 (tb := [(57, .aload_n 0), (58, .sipush 15002)]) (jtb_ok (by decide +kernel)) (pc' := 61) (lv' := [(0, vR t)]) (st' := [vI (kI 15002), vR t]) rfl ?_
  refine j_gd (fun h52 => ?_)
  refine j_nwA hx fwX8_36 (wi1315 hm) ka1315 ja1315_3 h50 (by decide) nr1315 fr1315 (by decide +kernel) (by decide +kernel) h52 ?_
  refine j_ltw rfl (fun W53 hc54 => ?_)
  have h55 : jC W53 t = 13 := (congrFun hc54 _).trans h50
  refine j_runA hx 2 (tb := [(66, .aload_n 0), (67, .sipush 15002)]) (jtb_ok (by decide +kernel)) (pc' := 70) (lv' := [(0, vR t)]) (st' := [vI (kI 15002), vR t]) rfl ?_
  refine j_gd (fun h57 => ?_)
  refine j_nwA hx fwX8_40 (wi1316 hm) ka1316 ja1316_3 h55 (by decide) nr1316 fr1316 (by decide +kernel) (by decide +kernel) h57 ?_
  refine j_ltw rfl (fun W58 hc59 => ?_)
  have h60 : jC W58 t = 13 := (congrFun hc59 _).trans h55
  refine j_runA hx 2 (tb := [(75, .aload_n 0), (76, .sipush 15002)]) (jtb_ok (by decide +kernel)) (pc' := 79) (lv' := [(0, vR t)]) (st' := [vI (kI 15002), vR t]) rfl ?_
  refine j_gd (fun h62 => ?_)
  refine j_nwA hx fwX8_43 (wi1317 hm) ka1317 ja1317_3 h60 (by decide) nr1317 fr1317 (by decide +kernel) (by decide +kernel) h62 ?_
  refine j_ltw rfl (fun W63 hc64 => ?_)
  have h65 : jC W63 t = 13 := (congrFun hc64 _).trans h60
  refine j_runA hx 2 (tb := [(84, .aload_n 0), (85, .sipush 15002)]) (jtb_ok (by decide +kernel)) (pc' := 88) (lv' := [(0, vR t)]) (st' := [vI (kI 15002), vR t]) rfl ?_
  refine j_gd (fun h67 => ?_)
  refine j_nwA hx fwX8_46 (wi1318 hm) ka1318 ja1318_5 h65 (by decide) nr1318 fr1318 (by decide +kernel) (by decide +kernel) h67 ?_
  refine j_ltw rfl (fun W68 hc69 => ?_)
  have h70 : jC W68 t = 13 := (congrFun hc69 _).trans h65
  refine j_runA hx 2 (tb := [(93, .aload_n 0), (94, .sipush 15002)]) (jtb_ok (by decide +kernel)) (pc' := 97) (lv' := [(0, vR t)]) (st' := [vI (kI 15002), vR t]) rfl ?_
  refine j_gd (fun h72 => ?_)
  refine j_nwA hx fwX8_50 (wi1319 hm) ka1319 ja1319_3 h70 (by decide) nr1319 fr1319 (by decide +kernel) (by decide +kernel) h72 ?_
  refine j_ltw rfl (fun W73 hc74 => ?_)
  have h75 : jC W73 t = 13 := (congrFun hc74 _).trans h70
  refine j_runA hx 2 (tb := [(102, .aload_n 0), (103, .sipush 15002)]) (jtb_ok (by decide +kernel)) (pc' := 106) (lv' := [(0, vR t)]) (st' := [vI (kI 15002), vR t]) rfl ?_
  refine j_gd (fun h77 => ?_)
  refine j_nwA hx fwX8_53 (wi1320 hm) ka1320 ja1320_3 h75 (by decide) nr1320 fr1320 (by decide +kernel) (by decide +kernel) h77 ?_
  refine j_ltw rfl (fun W78 hc79 => ?_)
  have h80 : jC W78 t = 13 := (congrFun hc79 _).trans h75
  refine j_runA hx 2 (tb := [(111, .aload_n 0), (112, .sipush 15002)]) (jtb_ok (by decide +kernel)) (pc' := 115) (lv' := [(0, vR t)]) (st' := [vI (kI 15002), vR t]) rfl ?_
  refine j_gd (fun h82 => ?_)
  refine j_nwA hx fwX8_56 (wi1321 hm) ka1321 ja1321_3 h80 (by decide) nr1321 fr1321 (by decide +kernel) (by decide +kernel) h82 ?_
  refine j_ltw rfl (fun W83 hc84 => ?_)
  have h85 : jC W83 t = 13 := (congrFun hc84 _).trans h80
  refine j_runA hx 2 (tb := [(120, .aload_n 0), (121, .sipush 15002)]) (jtb_ok (by decide +kernel)) (pc' := 124) (lv' := [(0, vR t)]) (st' := [vI (kI 15002), vR t]) rfl ?_
  refine j_gd (fun h87 => ?_)
  refine j_nwA hx fwX8_59 (wi1322 hm) ka1322 ja1322_3 h85 (by decide) nr1322 fr1322 (by decide +kernel) (by decide +kernel) h87 ?_
  refine j_ltw rfl (fun W88 hc89 => ?_)
  have h90 : jC W88 t = 13 := (congrFun hc89 _).trans h85
  refine j_runA hx 2 (tb := [(129, .aload_n 0), (130, .sipush 15002)]) (jtb_ok (by decide +kernel)) (pc' := 133) (lv' := [(0, vR t)]) (st' := [vI (kI 15002), vR t]) rfl ?_
  refine j_gd (fun h92 => ?_)
  refine j_nwA hx fwX8_62 (wi1323 hm) ka1323 ja1323_3 h90 (by decide) nr1323 fr1323 (by decide +kernel) (by decide +kernel) h92 ?_
  refine j_ltw rfl (fun W93 hc94 => ?_)
  have h95 : jC W93 t = 13 := (congrFun hc94 _).trans h90
  refine j_runA hx 2 (tb := [(138, .aload_n 0), (139, .sipush 15002)]) (jtb_ok (by decide +kernel)) (pc' := 142) (lv' := [(0, vR t)]) (st' := [vI (kI 15002), vR t]) rfl ?_
  refine j_gd (fun h97 => ?_)
  refine j_nwA hx fwX8_65 (wi1324 hm) ka1324 ja1324_3 h95 (by decide) nr1324 fr1324 (by decide +kernel) (by decide +kernel) h97 ?_
  refine j_ltw rfl (fun W98 hc99 => ?_)
  have h100 : jC W98 t = 13 := (congrFun hc99 _).trans h95
  refine j_runA hx 2 (tb := [(147, .aload_n 0), (148, .sipush 15002)]) (jtb_ok (by decide +kernel)) (pc' := 151) (lv' := [(0, vR t)]) (st' := [vI (kI 15002), vR t]) rfl ?_
  refine j_gd (fun h102 => ?_)
  refine j_nwA hx fwX8_68 (wi1325 hm) ka1325 ja1325_3 h100 (by decide) nr1325 fr1325 (by decide +kernel) (by decide +kernel) h102 ?_
  refine j_ltw rfl (fun W103 hc104 => ?_)
  have h105 : jC W103 t = 13 := (congrFun hc104 _).trans h100
  refine j_runA hx 2 (tb := [(156, .aload_n 0), (157, .sipush 15002)]) (jtb_ok (by decide +kernel)) (pc' := 160) (lv' := [(0, vR t)]) (st' := [vI (kI 15002), vR t]) rfl ?_
  refine j_gd (fun h107 => ?_)
  refine j_nwA hx fwX8_71 (wi1326 hm) ka1326 ja1326_3 h105 (by decide) nr1326 fr1326 (by decide +kernel) (by decide +kernel) h107 ?_
  refine j_ltw rfl (fun W108 hc109 => ?_)
  have h110 : jC W108 t = 13 := (congrFun hc109 _).trans h105
  refine j_runA hx 2 (tb := [(165, .aload_n 0), (166, .sipush 15002)]) (jtb_ok (by decide +kernel)) (pc' := 169) (lv' := [(0, vR t)]) (st' := [vI (kI 15002), vR t]) rfl ?_
  refine j_gd (fun h112 => ?_)
  refine j_nwA hx fwX8_74 (wi1327 hm) ka1327 ja1327_5 h110 (by decide) nr1327 fr1327 (by decide +kernel) (by decide +kernel) h112 ?_
  refine j_ltw rfl (fun W113 hc114 => ?_)
  have h115 : jC W113 t = 13 := (congrFun hc114 _).trans h110
  refine j_runA hx 2 (tb := [(174, .aload_n 0), (175, .bipush 64)]) (jtb_ok (by decide +kernel)) (pc' := 177) (lv' := [(0, vR t)]) (st' := [vI (kI 64), vR t]) rfl ?_
  refine j_gd (fun h117 => ?_)
  refine j_nwA hx fwX8_77 wf1330 ka1330 ja1330_3 h115 (by decide) nr1330 fr1330 (by decide +kernel) (by decide +kernel) h117 ?_
  refine j_ltw rfl (fun W118 hc119 => ?_)
  have h120 : jC W118 t = 13 := (congrFun hc119 _).trans h115
  refine j_runA hx 2 (tb := [(182, .aload_n 0), (183, .bipush 64)]) (jtb_ok (by decide +kernel)) (pc' := 185) (lv' := [(0, vR t)]) (st' := [vI (kI 64), vR t]) rfl ?_
  refine j_gd (fun h122 => ?_)
  refine j_nwA hx fwX8_80 wf1331 ka1331 ja1331_3 h120 (by decide) nr1331 fr1331 (by decide +kernel) (by decide +kernel) h122 ?_
  refine j_ltw rfl (fun W123 hc124 => ?_)
  have h125 : jC W123 t = 13 := (congrFun hc124 _).trans h120
  refine j_runA hx 2 (tb := [(190, .aload_n 0), (191, .bipush 64)]) (jtb_ok (by decide +kernel)) (pc' := 193) (lv' := [(0, vR t)]) (st' := [vI (kI 64), vR t]) rfl ?_
  refine j_gd (fun h127 => ?_)
  refine j_nwA hx fwX8_83 wf1332 ka1332 ja1332_5 h125 (by decide) nr1332 fr1332 (by decide +kernel) (by decide +kernel) h127 ?_
  refine j_ltw rfl (fun W128 hc129 => ?_)
  have h130 : jC W128 t = 13 := (congrFun hc129 _).trans h125
  refine j_runA hx 2 (tb := [(198, .aload_n 0), (199, .bipush 64)]) (jtb_ok (by decide +kernel)) (pc' := 201) (lv' := [(0, vR t)]) (st' := [vI (kI 64), vR t]) rfl ?_
  refine j_gd (fun h132 => ?_)
  refine j_nwB hx fwX8_86 wf1333 kd1333 ja1333_6 h130 (by decide) nr1333 fr1333 (by decide +kernel) (by decide +kernel) h132 ?_
  refine j_ltw rfl (fun W133 hc134 => ?_)
  have h135 : jC W133 t = 13 := (congrFun hc134 _).trans h130
  refine j_runA hx 2 (tb := [(206, .aload_n 0), (207, .sipush 15002)]) (jtb_ok (by decide +kernel)) (pc' := 210) (lv' := [(0, vR t)]) (st' := [vI (kI 15002), vR t]) rfl ?_
  refine j_gd (fun h137 => ?_)
  refine j_nwA hx fwX8_90 (wi1334 hm) ka1334 ja1334_5 h135 (by decide) nr1334 fr1334 (by decide +kernel) (by decide +kernel) h137 ?_
  refine j_ltw rfl (fun W138 hc139 => ?_)
  have h140 : jC W138 t = 13 := (congrFun hc139 _).trans h135
  refine j_runA hx 2 (tb := [(215, .aload_n 0), (216, .sipush 15002)]) (jtb_ok (by decide +kernel)) (pc' := 219) (lv' := [(0, vR t)]) (st' := [vI (kI 15002), vR t]) rfl ?_
  refine j_gd (fun h142 => ?_)
  refine j_nwA hx fwX8_93 (wi1335 hm) ka1335 ja1335_3 h140 (by decide) nr1335 fr1335 (by decide +kernel) (by decide +kernel) h142 ?_
  refine j_ltw rfl (fun W143 hc144 => ?_)
  have h145 : jC W143 t = 13 := (congrFun hc144 _).trans h140
  refine j_runA hx 2 (tb := [(224, .aload_n 0), (225, .sipush 15002)]) (jtb_ok (by decide +kernel)) (pc' := 228) (lv' := [(0, vR t)]) (st' := [vI (kI 15002), vR t]) rfl ?_
  refine j_gd (fun h147 => ?_)
  refine j_nwA hx fwX8_96 (wi1336 hm) ka1336 ja1336_3 h145 (by decide) nr1336 fr1336 (by decide +kernel) (by decide +kernel) h147 ?_
  refine j_ltw rfl (fun W148 hc149 => ?_)
  have h150 : jC W148 t = 13 := (congrFun hc149 _).trans h145
  refine j_runA hx 2 (tb := [(233, .aload_n 0), (234, .sipush 15002)]) (jtb_ok (by decide +kernel)) (pc' := 237) (lv' := [(0, vR t)]) (st' := [vI (kI 15002), vR t]) rfl ?_
  refine j_gd (fun h152 => ?_)
  refine j_nwA hx fwX8_99 (wi1337 hm) ka1337 ja1337_5 h150 (by decide) nr1337 fr1337 (by decide +kernel) (by decide +kernel) h152 ?_
  refine j_ltw rfl (fun W153 hc154 => ?_)
  have h155 : jC W153 t = 13 := (congrFun hc154 _).trans h150
  refine j_runA hx 2 (tb := [(242, .aload_n 0), (243, .sipush 15002)]) (jtb_ok (by decide +kernel)) (pc' := 246) (lv' := [(0, vR t)]) (st' := [vI (kI 15002), vR t]) rfl ?_
  refine j_gd (fun h157 => ?_)
  refine j_nwA hx fwX8_102 (wi1338 hm) ka1338 ja1338_3 h155 (by decide) nr1338 fr1338 (by decide +kernel) (by decide +kernel) h157 ?_
  refine j_ltw rfl (fun W158 hc159 => ?_)
  have h160 : jC W158 t = 13 := (congrFun hc159 _).trans h155
  refine j_runA hx 2 (tb := [(251, .aload_n 0), (252, .sipush 15002)]) (jtb_ok (by decide +kernel)) (pc' := 255) (lv' := [(0, vR t)]) (st' := [vI (kI 15002), vR t]) rfl ?_
  refine j_gd (fun h162 => ?_)
  refine j_newA hx (f := 9003) (by decide) ka9003 ja9003_3 (by decide +kernel) h162 ?_
  refine j_ltw rfl (fun W163 hc164 => ?_)
  have h165 : jC W163 t = 13 := (congrFun hc164 _).trans h160
  refine j_putR hx fwX8_105 (wi1339 hm) kd1339 h165 (by decide) (by decide +kernel) nr1339 fr1339 ?_
  refine j_ltw rfl (fun W167 hc168 => ?_)
  have h169 : jC W167 t = 13 := (congrFun hc168 _).trans h165
  refine j_runA hx 2 (tb := [(260, .aload_n 0), (261, .sipush 15002)]) (jtb_ok (by decide +kernel)) (pc' := 264) (lv' := [(0, vR t)]) (st' := [vI (kI 15002), vR t]) rfl ?_
  refine j_gd (fun h171 => ?_)
  refine j_nwB hx fwX8_108 (wi1340 hm) kd1340 ja1340_6 h169 (by decide) nr1340 fr1340 (by decide +kernel) (by decide +kernel) h171 ?_
  refine j_ltw rfl (fun W172 hc173 => ?_)
  have h174 : jC W172 t = 13 := (congrFun hc173 _).trans h169
  refine j_runA hx 2 (tb := [(269, .aload_n 0), (270, .sipush 15002)]) (jtb_ok (by decide +kernel)) (pc' := 273) (lv' := [(0, vR t)]) (st' := [vI (kI 15002), vR t]) rfl ?_
  refine j_gd (fun h176 => ?_)
  refine j_nwB hx fwX8_111 (wi1341 hm) kd1341 ja1341_6 h174 (by decide) nr1341 fr1341 (by decide +kernel) (by decide +kernel) h176 ?_
  refine j_ltw rfl (fun W177 hc178 => ?_)
  have h179 : jC W177 t = 13 := (congrFun hc178 _).trans h174
  refine j_runA hx 2 (tb := [(278, .aload_n 0), (279, .sipush 15002)]) (jtb_ok (by decide +kernel)) (pc' := 282) (lv' := [(0, vR t)]) (st' := [vI (kI 15002), vR t]) rfl ?_
  refine j_gd (fun h181 => ?_)
  refine j_nwA hx fwX8_114 (wi1342 hm) ka1342 ja1342_3 h179 (by decide) nr1342 fr1342 (by decide +kernel) (by decide +kernel) h181 ?_
  refine j_ltw rfl (fun W182 hc183 => ?_)
  have h184 : jC W182 t = 13 := (congrFun hc183 _).trans h179
  refine j_runA hx 2 (tb := [(287, .aload_n 0), (288, .sipush 15002)]) (jtb_ok (by decide +kernel)) (pc' := 291) (lv' := [(0, vR t)]) (st' := [vI (kI 15002), vR t]) rfl ?_
  refine j_gd (fun h186 => ?_)
  refine j_nwA hx fwX8_117 (wi1343 hm) ka1343 ja1343_3 h184 (by decide) nr1343 fr1343 (by decide +kernel) (by decide +kernel) h186 ?_
  refine j_ltw rfl (fun W187 hc188 => ?_)
  have h189 : jC W187 t = 13 := (congrFun hc188 _).trans h184
  refine j_runA hx 2 (tb := [(296, .aload_n 0), (297, .sipush 15002)]) (jtb_ok (by decide +kernel)) (pc' := 300) (lv' := [(0, vR t)]) (st' := [vI (kI 15002), vR t]) rfl ?_
  refine j_gd (fun h191 => ?_)
  refine j_nwA hx fwX8_120 (wi1344 hm) ka1344 ja1344_3 h189 (by decide) nr1344 fr1344 (by decide +kernel) (by decide +kernel) h191 ?_
  refine j_ltw rfl (fun W192 hc193 => ?_)
  have h194 : jC W192 t = 13 := (congrFun hc193 _).trans h189
  refine j_runA hx 2 (tb := [(305, .aload_n 0), (306, .sipush 15002)]) (jtb_ok (by decide +kernel)) (pc' := 309) (lv' := [(0, vR t)]) (st' := [vI (kI 15002), vR t]) rfl ?_
  refine j_gd (fun h196 => ?_)
  refine j_nwB hx fwX8_123 (wi1345 hm) kd1345 ja1345_6 h194 (by decide) nr1345 fr1345 (by decide +kernel) (by decide +kernel) h196 ?_
  refine j_ltw rfl (fun W197 hc198 => ?_)
  have h199 : jC W197 t = 13 := (congrFun hc198 _).trans h194
  refine j_runA hx 2 (tb := [(314, .aload_n 0), (315, .sipush 15002)]) (jtb_ok (by decide +kernel)) (pc' := 318) (lv' := [(0, vR t)]) (st' := [vI (kI 15002), vR t]) rfl ?_
  refine j_gd (fun h201 => ?_)
  refine j_nwB hx fwX8_126 (wi1346 hm) kd1346 ja1346_6 h199 (by decide) nr1346 fr1346 (by decide +kernel) (by decide +kernel) h201 ?_
  refine j_ltw rfl (fun W202 hc203 => ?_)
  have h204 : jC W202 t = 13 := (congrFun hc203 _).trans h199
  refine j_runA hx 2 (tb := [(323, .aload_n 0), (324, .sipush 15002)]) (jtb_ok (by decide +kernel)) (pc' := 327) (lv' := [(0, vR t)]) (st' := [vI (kI 15002), vR t]) rfl ?_
  refine j_gd (fun h206 => ?_)
  refine j_nwB hx fwX8_129 (wi1347 hm) kd1347 ja1347_6 h204 (by decide) nr1347 fr1347 (by decide +kernel) (by decide +kernel) h206 ?_
  refine j_ltw rfl (fun W207 hc208 => ?_)
  have h209 : jC W207 t = 13 := (congrFun hc208 _).trans h204
  refine j_runA hx 2 (tb := [(332, .aload_n 0), (333, .sipush 15002)]) (jtb_ok (by decide +kernel)) (pc' := 336) (lv' := [(0, vR t)]) (st' := [vI (kI 15002), vR t]) rfl ?_
  refine j_gd (fun h211 => ?_)
  refine j_newA hx (f := 9003) (by decide) ka9003 ja9003_3 (by decide +kernel) h211 ?_
  refine j_ltw rfl (fun W212 hc213 => ?_)
  have h214 : jC W212 t = 13 := (congrFun hc213 _).trans h209
  refine j_putR hx fwX8_132 (wi1348 hm) kd1348 h214 (by decide) (by decide +kernel) nr1348 fr1348 ?_
  refine j_ltw rfl (fun W216 hc217 => ?_)
  have h218 : jC W216 t = 13 := (congrFun hc217 _).trans h214
  refine j_runA hx 2 (tb := [(341, .aload_n 0), (342, .sipush 15002)]) (jtb_ok (by decide +kernel)) (pc' := 345) (lv' := [(0, vR t)]) (st' := [vI (kI 15002), vR t]) rfl ?_
  refine j_gd (fun h220 => ?_)
  refine j_nwB hx fwX8_135 (wi1349 hm) kd1349 ja1349_6 h218 (by decide) nr1349 fr1349 (by decide +kernel) (by decide +kernel) h220 ?_
  refine j_ltw rfl (fun W221 hc222 => ?_)
  have h223 : jC W221 t = 13 := (congrFun hc222 _).trans h218
  refine j_runA hx 1 (tb := [(350, .aload_n 0)]) (jtb_ok (by decide +kernel)) (pc' := 351) (lv' := [(0, vR t)]) (st' := [vR t]) rfl ?_
  refine j_gd (fun h225 => ?_)
  refine j_new hx nlX8_138 (N := 14) rfl (by decide +kernel) h225 ?_
  refine j_ltn (fun W226 => ?_)
  refine j_runA hx 2 (tb := [(354, .dup), (355, .aload_n 0)]) (jtb_ok (by decide +kernel)) (pc' := 356) (lv' := [(0, vR t)]) (st' := [vR t, vR (jX W221), vR (jX W221), vR t]) rfl ?_
  refine j_gd (fun h228 => ?_)
  refine j_WV (j_callI (av := [vR t]) (st := [vR (jX W221), vR t]) hx hr (Or.inl q2420) q2421 rfl q2422 md_fwn_init np_fwn_init (cwn_init (jX W221) t W226) (by decide) (Nat.le_of_ble_eq_true rfl) h228 (by decide) (by decide +kernel)) (fun q229 _ => ?_)
  refine j_gd (fun h231 => ?_)
  refine j_putR hx fwX8_143 (wi1350 hm) kd1350 h231 (by decide) (by decide +kernel) nr1350 fr1350 ?_
  refine j_ltw rfl (fun W232 hc233 => ?_)
  have h234 : jC W232 t = 13 := (congrFun hc233 _).trans h231
  refine j_runA hx 1 (tb := [(362, .aload_n 0)]) (jtb_ok (by decide +kernel)) (pc' := 363) (lv' := [(0, vR t)]) (st' := [vR t]) rfl ?_
  refine j_gd (fun h236 => ?_)
  refine j_new hx nlX8_138 (N := 14) rfl (by decide +kernel) h236 ?_
  refine j_ltn (fun W237 => ?_)
  refine j_runA hx 2 (tb := [(366, .dup), (367, .aload_n 0)]) (jtb_ok (by decide +kernel)) (pc' := 368) (lv' := [(0, vR t)]) (st' := [vR t, vR (jX W232), vR (jX W232), vR t]) rfl ?_
  refine j_gd (fun h239 => ?_)
  refine j_WV (j_callI (av := [vR t]) (st := [vR (jX W232), vR t]) hx hr (Or.inl q2420) q2421 rfl q2422 md_fwn_init np_fwn_init (cwn_init (jX W232) t W237) (by decide) (Nat.le_of_ble_eq_true rfl) h239 (by decide) (by decide +kernel)) (fun q240 _ => ?_)
  refine j_gd (fun h242 => ?_)
  refine j_putR hx fwX8_147 (wi1351 hm) kd1351 h242 (by decide) (by decide +kernel) nr1351 fr1351 ?_
  refine j_ltw rfl (fun W243 hc244 => ?_)
  have h245 : jC W243 t = 13 := (congrFun hc244 _).trans h242
  refine j_runA hx 1 (tb := [(374, .aload_n 0)]) (jtb_ok (by decide +kernel)) (pc' := 375) (lv' := [(0, vR t)]) (st' := [vR t]) rfl ?_
  refine j_ldc hx (v := (kI 2400000)) (jkc q2477 (by decide +kernel)) (by decide +kernel) ?_
  refine j_gd (fun h247 => ?_)
  refine j_newA hx (f := 9004) (by decide) ka9004 ja9004_4 (by decide +kernel) h247 ?_
  refine j_ltw rfl (fun W248 hc249 => ?_)
  have h250 : jC W248 t = 13 := (congrFun hc249 _).trans h245
  refine j_putR hx fwX8_151 (wi1354 hm) kd1354 h250 (by decide) (by decide +kernel) nr1354 fr1354 ?_
  refine j_ltw rfl (fun W252 hc253 => ?_)
  have h254 : jC W252 t = 13 := (congrFun hc253 _).trans h250
  refine j_runA hx 2 (tb := [(382, .aload_n 0), (383, .sipush 15002)]) (jtb_ok (by decide +kernel)) (pc' := 386) (lv' := [(0, vR t)]) (st' := [vI (kI 15002), vR t]) rfl ?_
  refine j_gd (fun h256 => ?_)
  refine j_nwA hx fwX8_154 (wi1358 hm) ka1358 ja1358_5 h254 (by decide) nr1358 fr1358 (by decide +kernel) (by decide +kernel) h256 ?_
  refine j_ltw rfl (fun W257 hc258 => ?_)
  have h259 : jC W257 t = 13 := (congrFun hc258 _).trans h254
  refine j_runA hx 2 (tb := [(391, .aload_n 0), (392, .sipush 15002)]) (jtb_ok (by decide +kernel)) (pc' := 395) (lv' := [(0, vR t)]) (st' := [vI (kI 15002), vR t]) rfl ?_
  refine j_gd (fun h261 => ?_)
  refine j_nwA hx fwX8_157 (wi1359 hm) ka1359 ja1359_5 h259 (by decide) nr1359 fr1359 (by decide +kernel) (by decide +kernel) h261 ?_
  refine j_ltw rfl (fun W262 hc263 => ?_)
  have h264 : jC W262 t = 13 := (congrFun hc263 _).trans h259
  refine j_runA hx 1 (tb := [(400, .aload_n 0)]) (jtb_ok (by decide +kernel)) (pc' := 401) (lv' := [(0, vR t)]) (st' := [vR t]) rfl ?_
  refine j_gd (fun h266 => ?_)
  refine j_new hx nlX8_20 (N := 18) rfl (by decide +kernel) h266 ?_
  refine j_ltn (fun W267 => ?_)
  refine j_runA hx 1 (tb := [(404, .dup)]) (jtb_ok (by decide +kernel)) (pc' := 405) (lv' := [(0, vR t)]) (st' := [vR (jX W262), vR (jX W262), vR t]) rfl ?_
  refine j_gd (fun h269 => ?_)
  refine j_WV (j_callI (av := []) (st := [vR (jX W262), vR t]) hx hr (Or.inr ⟨_, q2338⟩) q2339 rfl q2340 md_fhd_init np_fhd_init (chd_init (jX W262) W267) (by decide) (Nat.le_of_ble_eq_true rfl) h269 (by decide) (by decide +kernel)) (fun q270 _ => ?_)
  refine j_gd (fun h272 => ?_)
  refine j_putR hx fwX8_160 (wi1360 hm) kd1360 h272 (by decide) (by decide +kernel) nr1360 fr1360 ?_
  refine j_ltw rfl (fun W273 hc274 => ?_)
  have h275 : jC W273 t = 13 := (congrFun hc274 _).trans h272
  refine j_runA hx 1 (tb := [(411, .aload_n 0)]) (jtb_ok (by decide +kernel)) (pc' := 412) (lv' := [(0, vR t)]) (st' := [vR t]) rfl ?_
  refine j_gd (fun h277 => ?_)
  refine j_new hx nlX8_163 (N := 24) rfl (by decide +kernel) h277 ?_
  refine j_ltn (fun W278 => ?_)
  refine j_runA hx 3 (tb := [(415, .dup), (416, .aload_n 0), (417, .iconst 0)]) (jtb_ok (by decide +kernel)) (pc' := 418) (lv' := [(0, vR t)]) (st' := [vI (kI 0), vR t, vR (jX W273), vR (jX W273), vR t]) rfl ?_
  refine j_gd (fun h280 => ?_)
  refine j_WV (j_callI (av := [vR t, vI (kI 0)]) (st := [vR (jX W273), vR t]) hx hr (Or.inl q2480) q2481 rfl q2482 md_frn_init np_frn_init (crn_init (jX W273) t (kI 0) W278) (by decide) (Nat.le_of_ble_eq_true rfl) h280 (by decide) (by decide +kernel)) (fun q281 _ => ?_)
  refine j_gd (fun h283 => ?_)
  refine j_putR hx fwX8_168 (wi1361 hm) kd1361 h283 (by decide) (by decide +kernel) nr1361 fr1361 ?_
  refine j_ltw rfl (fun W284 hc285 => ?_)
  have h286 : jC W284 t = 13 := (congrFun hc285 _).trans h283
  refine j_runA hx 1 (tb := [(424, .aload_n 0)]) (jtb_ok (by decide +kernel)) (pc' := 425) (lv' := [(0, vR t)]) (st' := [vR t]) rfl ?_
  refine j_gd (fun h288 => ?_)
  refine j_new hx nlX8_163 (N := 24) rfl (by decide +kernel) h288 ?_
  refine j_ltn (fun W289 => ?_)
  refine j_runA hx 3 (tb := [(428, .dup), (429, .aload_n 0), (430, .iconst 1)]) (jtb_ok (by decide +kernel)) (pc' := 431) (lv' := [(0, vR t)]) (st' := [vI (kI 1), vR t, vR (jX W284), vR (jX W284), vR t]) rfl ?_
  refine j_gd (fun h291 => ?_)
  refine j_WV (j_callI (av := [vR t, vI (kI 1)]) (st := [vR (jX W284), vR t]) hx hr (Or.inl q2480) q2481 rfl q2482 md_frn_init np_frn_init (crn_init (jX W284) t (kI 1) W289) (by decide) (Nat.le_of_ble_eq_true rfl) h291 (by decide) (by decide +kernel)) (fun q292 _ => ?_)
  refine j_gd (fun h294 => ?_)
  refine j_putR hx fwX8_172 (wi1362 hm) kd1362 h294 (by decide) (by decide +kernel) nr1362 fr1362 ?_
  refine j_ltw rfl (fun W295 hc296 => ?_)
  have h297 : jC W295 t = 13 := (congrFun hc296 _).trans h294
  refine j_runA hx 1 (tb := [(437, .aload_n 0)]) (jtb_ok (by decide +kernel)) (pc' := 438) (lv' := [(0, vR t)]) (st' := [vR t]) rfl ?_
  refine j_gd (fun h299 => ?_)
  refine j_new hx nlX8_163 (N := 24) rfl (by decide +kernel) h299 ?_
  refine j_ltn (fun W300 => ?_)
  refine j_runA hx 3 (tb := [(441, .dup), (442, .aload_n 0), (443, .iconst 2)]) (jtb_ok (by decide +kernel)) (pc' := 444) (lv' := [(0, vR t)]) (st' := [vI (kI 2), vR t, vR (jX W295), vR (jX W295), vR t]) rfl ?_
  refine j_gd (fun h302 => ?_)
  refine j_WV (j_callI (av := [vR t, vI (kI 2)]) (st := [vR (jX W295), vR t]) hx hr (Or.inl q2480) q2481 rfl q2482 md_frn_init np_frn_init (crn_init (jX W295) t (kI 2) W300) (by decide) (Nat.le_of_ble_eq_true rfl) h302 (by decide) (by decide +kernel)) (fun q303 _ => ?_)
  refine j_gd (fun h305 => ?_)
  refine j_putR hx fwX8_175 (wi1363 hm) kd1363 h305 (by decide) (by decide +kernel) nr1363 fr1363 ?_
  refine j_ltw rfl (fun W306 hc307 => ?_)
  have h308 : jC W306 t = 13 := (congrFun hc307 _).trans h305
  exact j_vret hx hm (by decide +kernel) (he _)
theorem cmo_init (t : Nat) (W : jW) : jM yX8_init cX8_init 1 (Option.none : Option Jvm.ClassFile.FieldType) [] 2 28 [vR t] W ((fmo_init t W).bind (fun q => some (.returned none, q))) := 
  jM.of (Nat.le_of_ble_eq_true rfl) (fun x hx hm hr => wmo_init ⟨hx, hm, hr, fun _ => rfl⟩ W)
def hmo_four (x : jCx) (en : (fmo_four_S ⊕ (jW)) → Option (Outcome × jW)) (t : Nat) (a1 : Int32) : Prop :=
  jOK x RX8 cX8_four 3 ∧
  jMt x "four" (Option.none : Option Jvm.ClassFile.FieldType) [] ∧
  jRm x 0 0 ∧
  (∀ q : jW, en (.inr q) = some (.returned none, q)) ∧
  (∀ (l2 : Int32) (W : jW), jJ x 3 3 [(0, vR t), (1, vI a1), (2, vI l2)] [] W (some (.inl (l2, W))) en)
theorem wmo_four_3 {x : jCx} {en : (fmo_four_S ⊕ (jW)) → Option (Outcome × jW)} {t : Nat} {a1 : Int32} (h : hmo_four x en t a1) (l2 : Int32) (W : jW) : jJ x 3 3 [(0, vR t), (1, vI a1), (2, vI l2)] [] W (fmo_four_3 t a1 l2 W) en := by
  have h0 := h
  obtain ⟨hx, hm, hr, he, k3⟩ := h0
  unfold fmo_four_3
  refine j_runA hx 1 (tb := [(3, .iload_n 2)]) (jtb_ok (by decide +kernel)) (pc' := 4) (lv' := [(0, vR t), (1, vI a1), (2, vI l2)]) (st' := [vI l2]) rfl ?_
  refine j_if_lt hx (off := 32) (tgt := 36) (by decide +kernel) (by decide) (fun _ => ?_) (fun _ => ?_)
  · exact j_vret hx hm (by decide +kernel) (he _)
  refine j_runA hx 1 (tb := [(7, .aload_n 0)]) (jtb_ok (by decide +kernel)) (pc' := 8) (lv' := [(0, vR t), (1, vI a1), (2, vI l2)]) (st' := [vR t]) rfl ?_
  refine j_gd (fun h2 => ?_)
  refine j_getR hx flX8_10 kl1300 h2 (by decide) (by decide +kernel) ?_
  refine j_runA hx 1 (tb := [(11, .aload_n 0)]) (jtb_ok (by decide +kernel)) (pc' := 12) (lv' := [(0, vR t), (1, vI a1), (2, vI l2)]) (st' := [vR t, vR (jR W 1300 t)]) rfl ?_
  refine j_getI hx flX8_178 kd1301 h2 (by decide) (by decide +kernel) ?_
  refine j_runA hx 4 (tb := [(15, .iload_n 1), (16, .iload_n 2), (17, .ishr), (18, .i2b)]) (jtb_ok (by decide +kernel)) (pc' := 19) (lv' := [(0, vR t), (1, vI a1), (2, vI l2)]) (st' := [vI (i2b (ixr a1 l2)), vI (jI W 1301 t), vR (jR W 1300 t)]) rfl ?_
  refine j_gd (fun h3 => ?_)
  refine j_bast hx (f := 1300) (o := t) kd1300 rfl (by decide +kernel) h3 ?_
  refine j_ltw rfl (fun W4 hc5 => ?_)
  have h6 : jC W4 t = 13 := (congrFun hc5 _).trans h2
  refine j_runA hx 2 (tb := [(20, .aload_n 0), (21, .dup)]) (jtb_ok (by decide +kernel)) (pc' := 22) (lv' := [(0, vR t), (1, vI a1), (2, vI l2)]) (st' := [vR t, vR t]) rfl ?_
  refine j_getI hx flX8_178 kd1301 h6 (by decide) (by decide +kernel) ?_
  refine j_runA hx 2 (tb := [(25, .iconst 1), (26, .iadd)]) (jtb_ok (by decide +kernel)) (pc' := 27) (lv' := [(0, vR t), (1, vI a1), (2, vI l2)]) (st' := [vI ((jI W4 1301 t) + (kI 1)), vR t]) rfl ?_
  refine j_putI hx fwX8_178 wf1301 kd1301 h6 (by decide) (by decide +kernel) (ni1301 _) (fi1301 _) ?_
  refine j_ltw rfl (fun W8 hc9 => ?_)
  have h10 : jC W8 t = 13 := (congrFun hc9 _).trans h6
  refine j_runA hx 1 (tb := [(30, .iinc 2 (-8))]) (jtb_ok (by decide +kernel)) (pc' := 33) (lv' := [(2, vI (l2 + (kI (-8)))), (0, vR t), (1, vI a1)]) (st' := []) rfl ?_
  refine j_let (v := (l2 + (kI (-8)))) (lv := fun v12 => [(2, vI v12), (0, vR t), (1, vI a1)]) (st := fun _ => []) (fun v12 => ?_)
  refine j_goto hx (off := -30) (by decide +kernel) (tgt := 3) (by decide) ?_
  refine j_lv (lv' := [(0, vR t), (1, vI a1), (2, vI v12)]) ⟨rfl, rfl, rfl, trivial⟩ ?_
  exact k3 v12 W8
theorem wmo_four {x : jCx} {en : (fmo_four_S ⊕ (jW)) → Option (Outcome × jW)} {t : Nat} {a1 : Int32} (h : hmo_four x en t a1) (W : jW) : jJ x 3 0 [(0, vR t), (1, vI a1)] [] W (fmo_four_0 t a1 W) en := by
  have h0 := h
  obtain ⟨hx, hm, hr, he, k3⟩ := h0
  unfold fmo_four_0
  refine j_runA hx 2 (tb := [(0, .bipush 24), (2, .istore_n 2)]) (jtb_ok (by decide +kernel)) (pc' := 3) (lv' := [(2, vI (kI 24)), (0, vR t), (1, vI a1)]) (st' := []) rfl ?_
  refine j_lv (lv' := [(0, vR t), (1, vI a1), (2, vI (kI 24))]) ⟨rfl, rfl, rfl, trivial⟩ ?_
  exact k3 (kI 24) W
theorem cmo_four (t : Nat) (a1 : Int32) (W : jW) : jM yX8_four cX8_four 3 (Option.none : Option Jvm.ClassFile.FieldType) [] 0 0 [vR t, vI a1] W ((fmo_four t a1 W).bind (fun q => some (.returned none, q))) := by
  refine jM.of (Nat.le_of_ble_eq_true rfl) (fun x hx hm hr => ?_)
  refine j_begin (P := (fun s => (3, [(0, vR t), (1, vI a1), (2, vI s.1)], s.2))) (fun en he hk => ?_)
  have h : hmo_four x en t a1 := ⟨hx, hm, hr, fun q => he _, fun l2 W => hk (l2, W)⟩
  exact ⟨fun s => wmo_four_3 h s.1 s.2, wmo_four h W⟩
def hmo_feed (x : jCx) (en : (Int32 × jW) → Option (Outcome × jW)) (t : Nat) (a1 : Int32) (a2 : Int32) (a3 : Int32) (a4 : Int32) (a5 : Int32) : Prop :=
  jOK x RX8 cX8_feed 6 ∧
  jMt x "feed" (Option.some Jvm.ClassFile.FieldType.int) [] ∧
  jRm x 1 14 ∧
  (∀ q : Int32 × jW, en q = some (.returned (some (.int q.1)), q.2))
theorem wmo_feed_24 {x : jCx} {en : (Int32 × jW) → Option (Outcome × jW)} {t : Nat} {a1 : Int32} {a2 : Int32} {a3 : Int32} {a4 : Int32} {a5 : Int32} (h : hmo_feed x en t a1 a2 a3 a4 a5) (W : jW) : jJ x 6 24 [(0, vR t), (1, vI a1), (2, vI a2), (3, vI a3), (4, vI a4), (5, vI a5)] [] W (fmo_feed_24 t a1 a2 a3 a4 a5 W) en := by
  have h0 := h
  obtain ⟨hx, hm, hr, he⟩ := h0
  unfold fmo_feed_24
  refine j_runA hx 1 (tb := [(24, .iconst (-1))]) (jtb_ok (by decide +kernel)) (pc' := 25) (lv' := [(0, vR t), (1, vI a1), (2, vI a2), (3, vI a3), (4, vI a4), (5, vI a5)]) (st' := [vI (kI (-1))]) rfl ?_
  exact j_iret hx hm (by decide +kernel) rfl (he _)
theorem wmo_feed {x : jCx} {en : (Int32 × jW) → Option (Outcome × jW)} {t : Nat} {a1 : Int32} {a2 : Int32} {a3 : Int32} {a4 : Int32} {a5 : Int32} (h : hmo_feed x en t a1 a2 a3 a4 a5) (W : jW) : jJ x 6 0 [(0, vR t), (1, vI a1), (2, vI a2), (3, vI a3), (4, vI a4), (5, vI a5)] [] W (fmo_feed t a1 a2 a3 a4 a5 W) en := by
  have h0 := h
  obtain ⟨hx, hm, hr, he⟩ := h0
  unfold fmo_feed
  refine j_runA hx 1 (tb := [(0, .aload_n 0)]) (jtb_ok (by decide +kernel)) (pc' := 1) (lv' := [(0, vR t), (1, vI a1), (2, vI a2), (3, vI a3), (4, vI a4), (5, vI a5)]) (st' := [vR t]) rfl ?_
  refine j_gd (fun h1 => ?_)
  refine j_getI hx flX8_178 kd1301 h1 (by decide) (by decide +kernel) ?_
  refine j_runA hx 2 (tb := [(4, .bipush 20), (6, .iadd)]) (jtb_ok (by decide +kernel)) (pc' := 7) (lv' := [(0, vR t), (1, vI a1), (2, vI a2), (3, vI a3), (4, vI a4), (5, vI a5)]) (st' := [vI ((jI W 1301 t) + (kI 20))]) rfl ?_
  refine j_ldc hx (v := (kI 60000)) (jkc q2335 (by decide +kernel)) (by decide +kernel) ?_
  refine j_icmp_gt hx (off := 15) (tgt := 24) (by decide +kernel) (by decide) (fun _ => ?_) (fun _ => ?_)
  · exact wmo_feed_24 h W
  refine j_runA hx 1 (tb := [(12, .aload_n 0)]) (jtb_ok (by decide +kernel)) (pc' := 13) (lv' := [(0, vR t), (1, vI a1), (2, vI a2), (3, vI a3), (4, vI a4), (5, vI a5)]) (st' := [vR t]) rfl ?_
  refine j_getI hx flX8_182 kd1302 h1 (by decide) (by decide +kernel) ?_
  refine j_runA hx 2 (tb := [(16, .bipush 20), (18, .iadd)]) (jtb_ok (by decide +kernel)) (pc' := 19) (lv' := [(0, vR t), (1, vI a1), (2, vI a2), (3, vI a3), (4, vI a4), (5, vI a5)]) (st' := [vI ((jI W 1302 t) + (kI 20))]) rfl ?_
  refine j_ldc hx (v := (kI 131072)) (jkc q2797 (by decide +kernel)) (by decide +kernel) ?_
  refine j_icmp_le hx (off := 5) (tgt := 26) (by decide +kernel) (by decide) (fun _ => ?_) (fun _ => ?_)
  · refine j_runA hx 2 (tb := [(26, .aload_n 0), (27, .iload_n 1)]) (jtb_ok (by decide +kernel)) (pc' := 28) (lv' := [(0, vR t), (1, vI a1), (2, vI a2), (3, vI a3), (4, vI a4), (5, vI a5)]) (st' := [vI a1, vR t]) rfl ?_
    refine j_WV (j_callV (av := [vI a1]) (st := []) hx hr (Or.inl q2798) q2800 qs122 rfl md_fmo_four np_fmo_four (cmo_four t a1 W) (by decide) (Nat.le_of_ble_eq_true rfl) h1 (by decide) (by decide +kernel)) (fun q2 _ => ?_)
    refine j_runA hx 2 (tb := [(31, .aload_n 0), (32, .iload_n 2)]) (jtb_ok (by decide +kernel)) (pc' := 33) (lv' := [(0, vR t), (1, vI a1), (2, vI a2), (3, vI a3), (4, vI a4), (5, vI a5)]) (st' := [vI a2, vR t]) rfl ?_
    refine j_gd (fun h4 => ?_)
    refine j_WV (j_callV (av := [vI a2]) (st := []) hx hr (Or.inl q2798) q2800 qs122 rfl md_fmo_four np_fmo_four (cmo_four t a2 q2) (by decide) (Nat.le_of_ble_eq_true rfl) h4 (by decide) (by decide +kernel)) (fun q5 _ => ?_)
    refine j_runA hx 2 (tb := [(36, .aload_n 0), (37, .iload_n 3)]) (jtb_ok (by decide +kernel)) (pc' := 38) (lv' := [(0, vR t), (1, vI a1), (2, vI a2), (3, vI a3), (4, vI a4), (5, vI a5)]) (st' := [vI a3, vR t]) rfl ?_
    refine j_gd (fun h7 => ?_)
    refine j_WV (j_callV (av := [vI a3]) (st := []) hx hr (Or.inl q2798) q2800 qs122 rfl md_fmo_four np_fmo_four (cmo_four t a3 q5) (by decide) (Nat.le_of_ble_eq_true rfl) h7 (by decide) (by decide +kernel)) (fun q8 _ => ?_)
    refine j_runA hx 2 (tb := [(41, .aload_n 0), (42, .iload 4)]) (jtb_ok (by decide +kernel)) (pc' := 44) (lv' := [(0, vR t), (1, vI a1), (2, vI a2), (3, vI a3), (4, vI a4), (5, vI a5)]) (st' := [vI a4, vR t]) rfl ?_
    refine j_gd (fun h10 => ?_)
    refine j_WV (j_callV (av := [vI a4]) (st := []) hx hr (Or.inl q2798) q2800 qs122 rfl md_fmo_four np_fmo_four (cmo_four t a4 q8) (by decide) (Nat.le_of_ble_eq_true rfl) h10 (by decide) (by decide +kernel)) (fun q11 _ => ?_)
    refine j_runA hx 2 (tb := [(47, .aload_n 0), (48, .iload 5)]) (jtb_ok (by decide +kernel)) (pc' := 50) (lv' := [(0, vR t), (1, vI a1), (2, vI a2), (3, vI a3), (4, vI a4), (5, vI a5)]) (st' := [vI a5, vR t]) rfl ?_
    refine j_gd (fun h13 => ?_)
    refine j_WV (j_callV (av := [vI a5]) (st := []) hx hr (Or.inl q2798) q2800 qs122 rfl md_fmo_four np_fmo_four (cmo_four t a5 q11) (by decide) (Nat.le_of_ble_eq_true rfl) h13 (by decide) (by decide +kernel)) (fun q14 _ => ?_)
    refine j_runA hx 2 (tb := [(53, .aload_n 0), (54, .dup)]) (jtb_ok (by decide +kernel)) (pc' := 55) (lv' := [(0, vR t), (1, vI a1), (2, vI a2), (3, vI a3), (4, vI a4), (5, vI a5)]) (st' := [vR t, vR t]) rfl ?_
    refine j_gd (fun h16 => ?_)
    refine j_getI hx flX8_182 kd1302 h16 (by decide) (by decide +kernel) ?_
    refine j_runA hx 2 (tb := [(58, .bipush 20), (60, .iadd)]) (jtb_ok (by decide +kernel)) (pc' := 61) (lv' := [(0, vR t), (1, vI a1), (2, vI a2), (3, vI a3), (4, vI a4), (5, vI a5)]) (st' := [vI ((jI q14 1302 t) + (kI 20)), vR t]) rfl ?_
    refine j_putI hx fwX8_182 wf1302 kd1302 h16 (by decide) (by decide +kernel) (ni1302 _) (fi1302 _) ?_
    refine j_ltw rfl (fun W17 hc18 => ?_)
    have h19 : jC W17 t = 13 := (congrFun hc18 _).trans h16
    refine j_runA hx 1 (tb := [(64, .aload_n 0)]) (jtb_ok (by decide +kernel)) (pc' := 65) (lv' := [(0, vR t), (1, vI a1), (2, vI a2), (3, vI a3), (4, vI a4), (5, vI a5)]) (st' := [vR t]) rfl ?_
    refine j_getI hx flX8_178 kd1301 h19 (by decide) (by decide +kernel) ?_
    exact j_iret hx hm (by decide +kernel) rfl (he _)
  exact wmo_feed_24 h W
theorem cmo_feed (t : Nat) (a1 : Int32) (a2 : Int32) (a3 : Int32) (a4 : Int32) (a5 : Int32) (W : jW) : jM yX8_feed cX8_feed 6 (Option.some Jvm.ClassFile.FieldType.int) [] 1 14 [vR t, vI a1, vI a2, vI a3, vI a4, vI a5] W ((fmo_feed t a1 a2 a3 a4 a5 W).bind (fun q => some (.returned (some (.int q.1)), q.2))) := 
  jM.of (Nat.le_of_ble_eq_true rfl) (fun x hx hm hr => wmo_feed ⟨hx, hm, hr, fun _ => rfl⟩ W)
def hmo_end (x : jCx) (en : (Int32 × jW) → Option (Outcome × jW)) (t : Nat) (a1 : Int32) : Prop :=
  jOK x RX8 cX8_end 2 ∧
  jMt x "end" (Option.some Jvm.ClassFile.FieldType.boolean) [] ∧
  jRm x 0 0 ∧
  (∀ q : Int32 × jW, en q = some (.returned (some (.int q.1)), q.2))
theorem wmo_end_12 {x : jCx} {en : (Int32 × jW) → Option (Outcome × jW)} {t : Nat} {a1 : Int32} (h : hmo_end x en t a1) (W : jW) : jJ x 2 12 [(0, vR t), (1, vI a1)] [] W (fmo_end_12 t a1 W) en := by
  have h0 := h
  obtain ⟨hx, hm, hr, he⟩ := h0
  unfold fmo_end_12
  refine j_runA hx 1 (tb := [(12, .iconst 0)]) (jtb_ok (by decide +kernel)) (pc' := 13) (lv' := [(0, vR t), (1, vI a1)]) (st' := [vI (kI 0)]) rfl ?_
  exact j_iret hx hm (by decide +kernel) jz0n (he _)
theorem wmo_end {x : jCx} {en : (Int32 × jW) → Option (Outcome × jW)} {t : Nat} {a1 : Int32} (h : hmo_end x en t a1) (W : jW) : jJ x 2 0 [(0, vR t), (1, vI a1)] [] W (fmo_end t a1 W) en := by
  have h0 := h
  obtain ⟨hx, hm, hr, he⟩ := h0
  unfold fmo_end
  refine j_runA hx 1 (tb := [(0, .iload_n 1)]) (jtb_ok (by decide +kernel)) (pc' := 1) (lv' := [(0, vR t), (1, vI a1)]) (st' := [vI a1]) rfl ?_
  refine j_if_lt hx (off := 11) (tgt := 12) (by decide +kernel) (by decide) (fun _ => ?_) (fun _ => ?_)
  · exact wmo_end_12 h W
  refine j_runA hx 2 (tb := [(4, .iload_n 1), (5, .aload_n 0)]) (jtb_ok (by decide +kernel)) (pc' := 6) (lv' := [(0, vR t), (1, vI a1)]) (st' := [vR t, vI a1]) rfl ?_
  refine j_gd (fun h1 => ?_)
  refine j_getI hx flX8_178 kd1301 h1 (by decide) (by decide +kernel) ?_
  refine j_icmp_le hx (off := 5) (tgt := 14) (by decide +kernel) (by decide) (fun _ => ?_) (fun _ => ?_)
  · refine j_runA hx 2 (tb := [(14, .aload_n 0), (15, .iload_n 1)]) (jtb_ok (by decide +kernel)) (pc' := 16) (lv' := [(0, vR t), (1, vI a1)]) (st' := [vI a1, vR t]) rfl ?_
    refine j_putI hx fwX8_178 wf1301 kd1301 h1 (by decide) (by decide +kernel) (ni1301 _) (fi1301 _) ?_
    refine j_ltw rfl (fun W2 hc3 => ?_)
    have h4 : jC W2 t = 13 := (congrFun hc3 _).trans h1
    refine j_runA hx 1 (tb := [(19, .iconst 1)]) (jtb_ok (by decide +kernel)) (pc' := 20) (lv' := [(0, vR t), (1, vI a1)]) (st' := [vI (kI 1)]) rfl ?_
    exact j_iret hx hm (by decide +kernel) jz1n (he _)
  exact wmo_end_12 h W
theorem cmo_end (t : Nat) (a1 : Int32) (W : jW) : jM yX8_end cX8_end 2 (Option.some Jvm.ClassFile.FieldType.boolean) [] 0 0 [vR t, vI a1] W ((fmo_end t a1 W).bind (fun q => some (.returned (some (.int q.1)), q.2))) := 
  jM.of (Nat.le_of_ble_eq_true rfl) (fun x hx hm hr => wmo_end ⟨hx, hm, hr, fun _ => rfl⟩ W)
def hhd_is (x : jCx) (en : (Int32 × jW) → Option (Outcome × jW)) (t : Nat) (a1 : Int32) (a2 : Int64) : Prop :=
  jOK x RX9 cX9_is 4 ∧
  jMt x "is" (Option.some Jvm.ClassFile.FieldType.boolean) [] ∧
  jRm x 0 0 ∧
  (∀ q : Int32 × jW, en q = some (.returned (some (.int q.1)), q.2))
theorem whd_is_9 {x : jCx} {en : (Int32 × jW) → Option (Outcome × jW)} {t : Nat} {a1 : Int32} {a2 : Int64} (h : hhd_is x en t a1 a2) (W : jW) : jJ x 4 9 [(0, vR t), (1, vI a1), (2, vL a2)] [] W (fhd_is_9 t a1 a2 W) en := by
  have h0 := h
  obtain ⟨hx, hm, hr, he⟩ := h0
  unfold fhd_is_9
  refine j_runA hx 1 (tb := [(9, .iload_n 1)]) (jtb_ok (by decide +kernel)) (pc' := 10) (lv' := [(0, vR t), (1, vI a1), (2, vL a2)]) (st' := [vI a1]) rfl ?_
  refine j_gd (fun h7 => ?_)
  exact j_iret hx hm (by decide +kernel) (jzn h7) (he _)
theorem whd_is {x : jCx} {en : (Int32 × jW) → Option (Outcome × jW)} {t : Nat} {a1 : Int32} {a2 : Int64} (h : hhd_is x en t a1 a2) (W : jW) : jJ x 4 0 [(0, vR t), (1, vI a1), (2, vL a2)] [] W (fhd_is t a1 a2 W) en := by
  have h0 := h
  obtain ⟨hx, hm, hr, he⟩ := h0
  unfold fhd_is
  refine j_runA hx 1 (tb := [(0, .iload_n 1)]) (jtb_ok (by decide +kernel)) (pc' := 1) (lv' := [(0, vR t), (1, vI a1), (2, vL a2)]) (st' := [vI a1]) rfl ?_
  refine j_if_ne hx (off := 8) (tgt := 9) (by decide +kernel) (by decide) (fun _ => ?_) (fun _ => ?_)
  · exact whd_is_9 h W
  refine j_runA hx 2 (tb := [(4, .aload_n 0), (5, .lload_n 2)]) (jtb_ok (by decide +kernel)) (pc' := 6) (lv' := [(0, vR t), (1, vI a1), (2, vL a2)]) (st' := [vL a2, vR t]) rfl ?_
  refine j_gd (fun h1 => ?_)
  refine j_putL hx fwX9_48 wf1417 kd1417 h1 (by decide) (by decide +kernel) (nl1417 _) (ff1417 _) ?_
  refine j_ltw rfl (fun W2 hc3 => ?_)
  have h4 : jC W2 t = 14 := (congrFun hc3 _).trans h1
  exact whd_is_9 h W2
theorem chd_is (t : Nat) (a1 : Int32) (a2 : Int64) (W : jW) : jM yX9_is cX9_is 4 (Option.some Jvm.ClassFile.FieldType.boolean) [] 0 0 [vR t, vI a1, vL a2] W ((fhd_is t a1 a2 W).bind (fun q => some (.returned (some (.int q.1)), q.2))) := 
  jM.of (Nat.le_of_ble_eq_true rfl) (fun x hx hm hr => whd_is ⟨hx, hm, hr, fun _ => rfl⟩ W)
def hhd_has (x : jCx) (en : (Int32 × jW) → Option (Outcome × jW)) (t : Nat) (a1 : Int64) (a3 : Int32) (a4 : Int64) : Prop :=
  jOK x RX9 cX9_has 6 ∧
  jMt x "has" (Option.some Jvm.ClassFile.FieldType.boolean) [] ∧
  jRm x 1 19 ∧
  (∀ q : Int32 × jW, en q = some (.returned (some (.int q.1)), q.2))
theorem whd_has_18 {x : jCx} {en : (Int32 × jW) → Option (Outcome × jW)} {t : Nat} {a1 : Int64} {a3 : Int32} {a4 : Int64} (h : hhd_has x en t a1 a3 a4) (s0 : Int32) (s1 : Nat) (W : jW) : jJ x 6 18 [(0, vR t), (1, vL a1), (3, vI a3), (4, vL a4)] [vI s0, vR s1] W (fhd_has_18 t a1 a3 a4 s0 s1 W) en := by
  have h0 := h
  obtain ⟨hx, hm, hr, he⟩ := h0
  unfold fhd_has_18
  refine j_runA hx 1 (tb := [(18, .lload_n 1)]) (jtb_ok (by decide +kernel)) (pc' := 19) (lv' := [(0, vR t), (1, vL a1), (3, vI a3), (4, vL a4)]) (st' := [vL a1, vI s0, vR s1]) rfl ?_
  refine j_gd (fun h4 => ?_)
  refine j_WI (j_callV (av := [vI s0, vL a1]) (st := []) hx hr (Or.inl q2818) q2820 qs124 rfl md_fhd_is np_fhd_is (chd_is s1 s0 a1 W) (by decide) (Nat.le_of_ble_eq_true rfl) h4 (by decide) (by decide +kernel)) (fun q5 _ => ?_)
  refine j_gd (fun h7 => ?_)
  exact j_iret hx hm (by decide +kernel) (jzn h7) (he _)
theorem whd_has {x : jCx} {en : (Int32 × jW) → Option (Outcome × jW)} {t : Nat} {a1 : Int64} {a3 : Int32} {a4 : Int64} (h : hhd_has x en t a1 a3 a4) (W : jW) : jJ x 6 0 [(0, vR t), (1, vL a1), (3, vI a3), (4, vL a4)] [] W (fhd_has t a1 a3 a4 W) en := by
  have h0 := h
  obtain ⟨hx, hm, hr, he⟩ := h0
  unfold fhd_has
  refine j_runA hx 4 (tb := [(0, .aload_n 0), (1, .aload_n 0), (2, .lload_n 1), (3, .iload_n 3)]) (jtb_ok (by decide +kernel)) (pc' := 4) (lv' := [(0, vR t), (1, vL a1), (3, vI a3), (4, vL a4)]) (st' := [vI a3, vL a1, vR t, vR t]) rfl ?_
  refine j_gd (fun h1 => ?_)
  refine j_OL (j_callV (av := [vL a1, vI a3]) (st := [vR t]) hx hr (Or.inl q2822) q2823 q2824 rfl md_fhd_num np_fhd_num (chd_num t a1 a3 W) (by decide) (Nat.le_of_ble_eq_true rfl) h1 (by decide) (by decide +kernel)) (fun q2 _ => ?_)
  refine j_runA hx 1 (tb := [(7, .lload 4)]) (jtb_ok (by decide +kernel)) (pc' := 9) (lv' := [(0, vR t), (1, vL a1), (3, vI a3), (4, vL a4)]) (st' := [vL a4, vL q2, vR t]) rfl ?_
  refine j_lcmp_ne hx (off := 7) (tgt := 17) (by decide +kernel) (by decide +kernel) (by decide) (fun _ => ?_) (fun _ => ?_)
  · refine j_runA hx 1 (tb := [(17, .iconst 0)]) (jtb_ok (by decide +kernel)) (pc' := 18) (lv' := [(0, vR t), (1, vL a1), (3, vI a3), (4, vL a4)]) (st' := [vI (kI 0), vR t]) rfl ?_
    exact whd_has_18 h (kI 0) t W
  refine j_runA hx 1 (tb := [(13, .iconst 1)]) (jtb_ok (by decide +kernel)) (pc' := 14) (lv' := [(0, vR t), (1, vL a1), (3, vI a3), (4, vL a4)]) (st' := [vI (kI 1), vR t]) rfl ?_
  refine j_goto hx (off := 4) (by decide +kernel) (tgt := 18) (by decide) ?_
  exact whd_has_18 h (kI 1) t W
theorem chd_has (t : Nat) (a1 : Int64) (a3 : Int32) (a4 : Int64) (W : jW) : jM yX9_has cX9_has 6 (Option.some Jvm.ClassFile.FieldType.boolean) [] 1 19 [vR t, vL a1, vI a3, vL a4] W ((fhd_has t a1 a3 a4 W).bind (fun q => some (.returned (some (.int q.1)), q.2))) := 
  jM.of (Nat.le_of_ble_eq_true rfl) (fun x hx hm hr => whd_has ⟨hx, hm, hr, fun _ => rfl⟩ W)
def hhd_big (x : jCx) (en : (Int64) → Option (Outcome × jW)) (t : Nat) (a1 : Int64) (a3 : Int32) (W : jW) : Prop :=
  jOK x RX9 cX9_big 6 ∧
  jMt x "big" (Option.some Jvm.ClassFile.FieldType.long) [] ∧
  jRm x 1 18 ∧
  (∀ q : Int64, en q = some (.returned (some (.long q)), W))
theorem whd_big_24 {x : jCx} {en : (Int64) → Option (Outcome × jW)} {W : jW} {t : Nat} {a1 : Int64} {a3 : Int32} (h : hhd_big x en t a1 a3 W) : jJ x 6 24 [(0, vR t), (1, vL a1), (3, vI a3)] [] W (fhd_big_24 t a1 a3 W) en := by
  have h0 := h
  obtain ⟨hx, hm, hr, he⟩ := h0
  unfold fhd_big_24
  refine j_ldc2 hx (v := (kJ 1099511627776)) (jkd2 q2853 (by decide +kernel)) (by decide +kernel) ?_
  refine j_goto hx (off := 5) (by decide +kernel) (tgt := 32) (by decide) ?_
  exact j_lret hx hm (by decide +kernel) (he _)
theorem whd_big {x : jCx} {en : (Int64) → Option (Outcome × jW)} {W : jW} {t : Nat} {a1 : Int64} {a3 : Int32} (h : hhd_big x en t a1 a3 W) : jJ x 6 0 [(0, vR t), (1, vL a1), (3, vI a3)] [] W (fhd_big t a1 a3 W) en := by
  have h0 := h
  obtain ⟨hx, hm, hr, he⟩ := h0
  unfold fhd_big
  refine j_runA hx 3 (tb := [(0, .aload_n 0), (1, .lload_n 1), (2, .iload_n 3)]) (jtb_ok (by decide +kernel)) (pc' := 3) (lv' := [(0, vR t), (1, vL a1), (3, vI a3)]) (st' := [vI a3, vL a1, vR t]) rfl ?_
  refine j_gd (fun h1 => ?_)
  refine j_OL (j_callV (av := [vL a1, vI a3]) (st := []) hx hr (Or.inl q2822) q2823 q2824 rfl md_fhd_num np_fhd_num (chd_num t a1 a3 W) (by decide) (Nat.le_of_ble_eq_true rfl) h1 (by decide) (by decide +kernel)) (fun q2 _ => ?_)
  refine j_runA hx 3 (tb := [(6, .lstore 4), (8, .lload 4), (10, .lconst 0)]) (jtb_ok (by decide +kernel)) (pc' := 11) (lv' := [(4, vL q2), (0, vR t), (1, vL a1), (3, vI a3)]) (st' := [vL (kJ 0), vL q2]) rfl ?_
  refine j_lcmp_lt hx (off := 12) (tgt := 24) (by decide +kernel) (by decide +kernel) (by decide) (fun _ => ?_) (fun _ => ?_)
  · refine j_lv (lv' := [(0, vR t), (1, vL a1), (3, vI a3)]) ⟨rfl, rfl, rfl, trivial⟩ ?_
    exact whd_big_24 h
  refine j_runA hx 1 (tb := [(15, .lload 4)]) (jtb_ok (by decide +kernel)) (pc' := 17) (lv' := [(4, vL q2), (0, vR t), (1, vL a1), (3, vI a3)]) (st' := [vL q2]) rfl ?_
  refine j_ldc2 hx (v := (kJ 1099511627776)) (jkd2 q2853 (by decide +kernel)) (by decide +kernel) ?_
  refine j_lcmp_le hx (off := 9) (tgt := 30) (by decide +kernel) (by decide +kernel) (by decide) (fun _ => ?_) (fun _ => ?_)
  · refine j_runA hx 1 (tb := [(30, .lload 4)]) (jtb_ok (by decide +kernel)) (pc' := 32) (lv' := [(4, vL q2), (0, vR t), (1, vL a1), (3, vI a3)]) (st' := [vL q2]) rfl ?_
    exact j_lret hx hm (by decide +kernel) (he _)
  refine j_lv (lv' := [(0, vR t), (1, vL a1), (3, vI a3)]) ⟨rfl, rfl, rfl, trivial⟩ ?_
  exact whd_big_24 h
theorem chd_big (t : Nat) (a1 : Int64) (a3 : Int32) (W : jW) : jM yX9_big cX9_big 6 (Option.some Jvm.ClassFile.FieldType.long) [] 1 18 [vR t, vL a1, vI a3] W ((fhd_big t a1 a3 W).bind (fun q => some (.returned (some (.long q)), W))) := 
  jM.of (Nat.le_of_ble_eq_true rfl) (fun x hx hm hr => whd_big ⟨hx, hm, hr, fun _ => rfl⟩)
