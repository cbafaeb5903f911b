/-! ===== walks: fmo_read fmo_place fmo_count fmo_heat fmo_function fmo_countOf fmo_block fmo_wordAt fmo_isWay fmo_isFirstBlock fmo_isCallOf fmo_more ===== -/
set_option maxRecDepth 100000
def hmo_read (x : jCx) (en : (fmo_read_S ⊕ (Int32 × jW)) → Option (Outcome × jW)) (t : Nat) : Prop :=
  jOK x RX8 cX8_read 7 ∧
  jMt x "read" (Option.some Jvm.ClassFile.FieldType.int) [] ∧
  jRm x 6 92 ∧
  (∀ q : Int32 × jW, en (.inr q) = some (.returned (some (.int q.1)), q.2)) ∧
  (∀ (l1 : Int32) (l2 : Int32) (W : jW), jJ x 7 12 [(0, vR t), (1, vI l1), (2, vI l2)] [] W (some (.inl (l1, l2, W))) en)
theorem wmo_read_132 {x : jCx} {en : (fmo_read_S ⊕ (Int32 × jW)) → Option (Outcome × jW)} {t : Nat} (h : hmo_read x en t) (l3 : Int32) (W : jW) : jJ x 7 132 [(0, vR t), (3, vI l3)] [] W (fmo_read_132 t l3 W) en := by
  have h0 := h
  obtain ⟨hx, hm, hr, he, k12⟩ := h0
  unfold fmo_read_132
  refine j_runA hx 2 (tb := [(132, .iload_n 3), (133, .ineg)]) (jtb_ok (by decide +kernel)) (pc' := 134) (lv' := [(0, vR t), (3, vI l3)]) (st' := [vI (-l3)]) rfl ?_
  exact j_iret hx hm (by decide +kernel) rfl (he _)
theorem wmo_read_12 {x : jCx} {en : (fmo_read_S ⊕ (Int32 × jW)) → Option (Outcome × jW)} {t : Nat} (h : hmo_read x en t) (l1 : Int32) (l2 : Int32) (W : jW) : jJ x 7 12 [(0, vR t), (1, vI l1), (2, vI l2)] [] W (fmo_read_12 t l1 l2 W) en := by
  have h0 := h
  obtain ⟨hx, hm, hr, he, k12⟩ := h0
  unfold fmo_read_12
  refine j_runA hx 2 (tb := [(12, .iload_n 2), (13, .iload_n 1)]) (jtb_ok (by decide +kernel)) (pc' := 14) (lv' := [(0, vR t), (1, vI l1), (2, vI l2)]) (st' := [vI l1, vI l2]) rfl ?_
  refine j_icmp_ge hx (off := 21) (tgt := 35) (by decide +kernel) (by decide) (fun _ => ?_) (fun _ => ?_)
  · refine j_runA hx 1 (tb := [(35, .aload_n 0)]) (jtb_ok (by decide +kernel)) (pc' := 36) (lv' := [(0, vR t), (1, vI l1), (2, vI l2)]) (st' := [vR t]) rfl ?_
    refine j_gd (fun h8 => ?_)
    refine j_getR hx flX8_27 kl1306 h8 (by decide) (by decide +kernel) ?_
    refine j_runA hx 1 (tb := [(39, .astore_n 2)]) (jtb_ok (by decide +kernel)) (pc' := 40) (lv' := [(2, vR (jR W 1306 t)), (0, vR t), (1, vI l1)]) (st' := []) rfl ?_
    refine j_let (v := (jR W 1306 t)) (lv := fun v9 => [(2, vR v9), (0, vR t), (1, vI l1)]) (st := fun _ => []) (fun v9 => ?_)
    refine j_runA hx 2 (tb := [(40, .aload_n 2), (41, .aload_n 0)]) (jtb_ok (by decide +kernel)) (pc' := 42) (lv' := [(2, vR v9), (0, vR t), (1, vI l1)]) (st' := [vR t, vR v9]) rfl ?_
    refine j_getR hx flX8_17 kl1304 h8 (by decide) (by decide +kernel) ?_
    refine j_gd (fun h10 => ?_)
    refine j_putR hx fwX8_251 wf1400 kd1400 h10 (by decide) (by decide +kernel) nr1400 fr1400 ?_
    refine j_ltw rfl (fun W11 hc12 => ?_)
    have h13 : jC W11 t = 13 := (congrFun hc12 _).trans h8
    have h14 : jC W11 v9 = 14 := (congrFun hc12 _).trans h10
    refine j_runA hx 2 (tb := [(48, .aload_n 2), (49, .iload_n 1)]) (jtb_ok (by decide +kernel)) (pc' := 50) (lv' := [(2, vR v9), (0, vR t), (1, vI l1)]) (st' := [vI l1, vR v9]) rfl ?_
    refine j_putI hx fwX8_254 wf1401 kd1401 h14 (by decide) (by decide +kernel) (ni1401 _) (fi1401 _) ?_
    refine j_ltw rfl (fun W16 hc17 => ?_)
    have h18 : jC W16 t = 13 := (congrFun hc17 _).trans h13
    have h19 : jC W16 v9 = 14 := (congrFun hc17 _).trans h14
    refine j_runA hx 1 (tb := [(53, .aload_n 2)]) (jtb_ok (by decide +kernel)) (pc' := 54) (lv' := [(2, vR v9), (0, vR t), (1, vI l1)]) (st' := [vR v9]) rfl ?_
    refine j_WI (j_callV (av := []) (st := []) hx hr (Or.inl q2810) q2811 q2812 rfl md_fhd_broken np_fhd_broken (chd_broken v9 W16) (by decide) (Nat.le_of_ble_eq_true rfl) h19 (by decide) (by decide +kernel)) (fun q21 _ => ?_)
    refine j_runA hx 2 (tb := [(57, .istore_n 3), (58, .iload_n 3)]) (jtb_ok (by decide +kernel)) (pc' := 59) (lv' := [(3, vI q21.1), (2, vR v9), (0, vR t), (1, vI l1)]) (st' := [vI q21.1]) rfl ?_
    refine j_if_le hx (off := 14) (tgt := 73) (by decide +kernel) (by decide) (fun _ => ?_) (fun _ => ?_)
    · refine j_runA hx 1 (tb := [(73, .aload_n 0)]) (jtb_ok (by decide +kernel)) (pc' := 74) (lv' := [(3, vI q21.1), (2, vR v9), (0, vR t), (1, vI l1)]) (st' := [vR t]) rfl ?_
      refine j_gd (fun h23 => ?_)
      refine j_getR hx flX8_23 kl1305 h23 (by decide) (by decide +kernel) ?_
      refine j_runA hx 1 (tb := [(77, .astore 4)]) (jtb_ok (by decide +kernel)) (pc' := 79) (lv' := [(4, vR (jR q21.2 1305 t)), (3, vI q21.1), (2, vR v9), (0, vR t), (1, vI l1)]) (st' := []) rfl ?_
      refine j_let (v := (jR q21.2 1305 t)) (lv := fun v24 => [(4, vR v24), (3, vI q21.1), (2, vR v9), (0, vR t), (1, vI l1)]) (st := fun _ => []) (fun v24 => ?_)
      refine j_runA hx 1 (tb := [(79, .aload_n 0)]) (jtb_ok (by decide +kernel)) (pc' := 80) (lv' := [(4, vR v24), (3, vI q21.1), (2, vR v9), (0, vR t), (1, vI l1)]) (st' := [vR t]) rfl ?_
      refine j_getR hx flX8_14 kl1303 h23 (by decide) (by decide +kernel) ?_
      refine j_runA hx 1 (tb := [(83, .astore 5)]) (jtb_ok (by decide +kernel)) (pc' := 85) (lv' := [(5, vR (jR q21.2 1303 t)), (4, vR v24), (3, vI q21.1), (2, vR v9), (0, vR t), (1, vI l1)]) (st' := []) rfl ?_
      refine j_let (v := (jR q21.2 1303 t)) (lv := fun v25 => [(5, vR v25), (4, vR v24), (3, vI q21.1), (2, vR v9), (0, vR t), (1, vI l1)]) (st := fun _ => []) (fun v25 => ?_)
      refine j_runA hx 2 (tb := [(85, .aload_n 0), (86, .aload_n 2)]) (jtb_ok (by decide +kernel)) (pc' := 87) (lv' := [(5, vR v25), (4, vR v24), (3, vI q21.1), (2, vR v9), (0, vR t), (1, vI l1)]) (st' := [vR v9, vR t]) rfl ?_
      refine j_putR hx fwX8_23 wf1305 kd1305 h23 (by decide) (by decide +kernel) nr1305 fr1305 ?_
      refine j_ltw rfl (fun W26 hc27 => ?_)
      have h28 : jC W26 t = 13 := (congrFun hc27 _).trans h23
      refine j_runA hx 2 (tb := [(90, .aload_n 0), (91, .aload_n 0)]) (jtb_ok (by decide +kernel)) (pc' := 92) (lv' := [(5, vR v25), (4, vR v24), (3, vI q21.1), (2, vR v9), (0, vR t), (1, vI l1)]) (st' := [vR t, vR t]) rfl ?_
      refine j_getR hx flX8_17 kl1304 h28 (by decide) (by decide +kernel) ?_
      refine j_putR hx fwX8_14 wf1303 kd1303 h28 (by decide) (by decide +kernel) nr1303 fr1303 ?_
      refine j_ltw rfl (fun W30 hc31 => ?_)
      have h32 : jC W30 t = 13 := (congrFun hc31 _).trans h28
      refine j_runA hx 1 (tb := [(98, .aload_n 0)]) (jtb_ok (by decide +kernel)) (pc' := 99) (lv' := [(5, vR v25), (4, vR v24), (3, vI q21.1), (2, vR v9), (0, vR t), (1, vI l1)]) (st' := [vR t]) rfl ?_
      refine j_WI (j_callV (av := []) (st := []) hx hr (Or.inl q2927) q2929 qs135 rfl md_fmo_apart np_fmo_apart (cmo_apart t W30) (by decide) (Nat.le_of_ble_eq_true rfl) h32 (by decide) (by decide +kernel)) (fun q34 _ => ?_)
      refine j_runA hx 2 (tb := [(102, .istore_n 3), (103, .iload_n 3)]) (jtb_ok (by decide +kernel)) (pc' := 104) (lv' := [(3, vI q34.1), (5, vR v25), (4, vR v24), (2, vR v9), (0, vR t), (1, vI l1)]) (st' := [vI q34.1]) rfl ?_
      refine j_if_le hx (off := 31) (tgt := 135) (by decide +kernel) (by decide) (fun _ => ?_) (fun _ => ?_)
      · refine j_runA hx 2 (tb := [(135, .aload_n 0), (136, .aload 4)]) (jtb_ok (by decide +kernel)) (pc' := 138) (lv' := [(3, vI q34.1), (5, vR v25), (4, vR v24), (2, vR v9), (0, vR t), (1, vI l1)]) (st' := [vR v24, vR t]) rfl ?_
        refine j_gd (fun h36 => ?_)
        refine j_putR hx fwX8_27 wf1306 kd1306 h36 (by decide) (by decide +kernel) nr1306 fr1306 ?_
        refine j_ltw rfl (fun W37 hc38 => ?_)
        have h39 : jC W37 t = 13 := (congrFun hc38 _).trans h36
        refine j_runA hx 2 (tb := [(141, .aload_n 0), (142, .aload 5)]) (jtb_ok (by decide +kernel)) (pc' := 144) (lv' := [(3, vI q34.1), (5, vR v25), (4, vR v24), (2, vR v9), (0, vR t), (1, vI l1)]) (st' := [vR v25, vR t]) rfl ?_
        refine j_putR hx fwX8_17 wf1304 kd1304 h39 (by decide) (by decide +kernel) nr1304 fr1304 ?_
        refine j_ltw rfl (fun W41 hc42 => ?_)
        have h43 : jC W41 t = 13 := (congrFun hc42 _).trans h39
        refine j_runA hx 1 (tb := [(147, .aload_n 0)]) (jtb_ok (by decide +kernel)) (pc' := 148) (lv' := [(3, vI q34.1), (5, vR v25), (4, vR v24), (2, vR v9), (0, vR t), (1, vI l1)]) (st' := [vR t]) rfl ?_
        refine j_ldc2 hx (v := (kJ (-1))) (jkd2 q2417 (by decide +kernel)) (by decide +kernel) ?_
        refine j_putL hx fwX8_32 wf1314 kd1314 h43 (by decide) (by decide +kernel) (nl1314 _) (ff1314 _) ?_
        refine j_ltw rfl (fun W45 hc46 => ?_)
        have h47 : jC W45 t = 13 := (congrFun hc46 _).trans h43
        refine j_runA hx 2 (tb := [(154, .aload_n 0), (155, .iconst 1)]) (jtb_ok (by decide +kernel)) (pc' := 156) (lv' := [(3, vI q34.1), (5, vR v25), (4, vR v24), (2, vR v9), (0, vR t), (1, vI l1)]) (st' := [vI (kI 1), vR t]) rfl ?_
        refine j_putI hx fwX8_265 wf1307 kd1307 h47 (by decide) (by decide +kernel) (nz1307 jz1) (fz1307 jz1) ?_
        refine j_ltw rfl (fun W49 hc50 => ?_)
        have h51 : jC W49 t = 13 := (congrFun hc50 _).trans h47
        refine j_runA hx 2 (tb := [(159, .aload_n 0), (160, .iload_n 1)]) (jtb_ok (by decide +kernel)) (pc' := 161) (lv' := [(3, vI q34.1), (5, vR v25), (4, vR v24), (2, vR v9), (0, vR t), (1, vI l1)]) (st' := [vI l1, vR t]) rfl ?_
        refine j_putI hx fwX8_269 wf1308 kd1308 h51 (by decide) (by decide +kernel) (ni1308 _) (fi1308 _) ?_
        refine j_ltw rfl (fun W53 hc54 => ?_)
        have h55 : jC W53 t = 13 := (congrFun hc54 _).trans h51
        refine j_runA hx 2 (tb := [(164, .aload_n 0), (165, .iconst 0)]) (jtb_ok (by decide +kernel)) (pc' := 166) (lv' := [(3, vI q34.1), (5, vR v25), (4, vR v24), (2, vR v9), (0, vR t), (1, vI l1)]) (st' := [vI (kI 0), vR t]) rfl ?_
        refine j_putI hx fwX8_272 wf1329 kd1329 h55 (by decide) (by decide +kernel) (ni1329 _) (fi1329 _) ?_
        refine j_ltw rfl (fun W57 hc58 => ?_)
        have h59 : jC W57 t = 13 := (congrFun hc58 _).trans h55
        refine j_runA hx 2 (tb := [(169, .aload_n 0), (170, .iconst 0)]) (jtb_ok (by decide +kernel)) (pc' := 171) (lv' := [(3, vI q34.1), (5, vR v25), (4, vR v24), (2, vR v9), (0, vR t), (1, vI l1)]) (st' := [vI (kI 0), vR t]) rfl ?_
        refine j_putI hx fwX8_275 wf1352 kd1352 h59 (by decide) (by decide +kernel) (nz1352 jz0) (fz1352 jz0) ?_
        refine j_ltw rfl (fun W61 hc62 => ?_)
        have h63 : jC W61 t = 13 := (congrFun hc62 _).trans h59
        refine j_runA hx 1 (tb := [(174, .aload_n 0)]) (jtb_ok (by decide +kernel)) (pc' := 175) (lv' := [(3, vI q34.1), (5, vR v25), (4, vR v24), (2, vR v9), (0, vR t), (1, vI l1)]) (st' := [vR t]) rfl ?_
        refine j_WV (j_callV (av := []) (st := []) hx hr (Or.inl q3067) q3069 qs148 rfl md_fmo_forget np_fmo_forget (cmo_forget t W61) (by decide) (Nat.le_of_ble_eq_true rfl) h63 (by decide) (by decide +kernel)) (fun q65 _ => ?_)
        refine j_runA hx 1 (tb := [(178, .aload_n 0)]) (jtb_ok (by decide +kernel)) (pc' := 179) (lv' := [(3, vI q34.1), (5, vR v25), (4, vR v24), (2, vR v9), (0, vR t), (1, vI l1)]) (st' := [vR t]) rfl ?_
        refine j_gd (fun h67 => ?_)
        refine j_getI hx flX8_281 kd1311 h67 (by decide) (by decide +kernel) ?_
        exact j_iret hx hm (by decide +kernel) rfl (he _)
      refine j_runA hx 2 (tb := [(107, .aload_n 0), (108, .aload 4)]) (jtb_ok (by decide +kernel)) (pc' := 110) (lv' := [(3, vI q34.1), (5, vR v25), (4, vR v24), (2, vR v9), (0, vR t), (1, vI l1)]) (st' := [vR v24, vR t]) rfl ?_
      refine j_gd (fun h68 => ?_)
      refine j_putR hx fwX8_23 wf1305 kd1305 h68 (by decide) (by decide +kernel) nr1305 fr1305 ?_
      refine j_ltw rfl (fun W69 hc70 => ?_)
      have h71 : jC W69 t = 13 := (congrFun hc70 _).trans h68
      refine j_runA hx 2 (tb := [(113, .aload_n 0), (114, .aload 5)]) (jtb_ok (by decide +kernel)) (pc' := 116) (lv' := [(3, vI q34.1), (5, vR v25), (4, vR v24), (2, vR v9), (0, vR t), (1, vI l1)]) (st' := [vR v25, vR t]) rfl ?_
      refine j_putR hx fwX8_14 wf1303 kd1303 h71 (by decide) (by decide +kernel) nr1303 fr1303 ?_
      refine j_ltw rfl (fun W73 hc74 => ?_)
      have h75 : jC W73 t = 13 := (congrFun hc74 _).trans h71
      refine j_runA hx 1 (tb := [(119, .aload_n 0)]) (jtb_ok (by decide +kernel)) (pc' := 120) (lv' := [(3, vI q34.1), (5, vR v25), (4, vR v24), (2, vR v9), (0, vR t), (1, vI l1)]) (st' := [vR t]) rfl ?_
      refine j_getI hx flX8_265 kd1307 h75 (by decide) (by decide +kernel) ?_
      refine j_if_eq hx (off := 9) (tgt := 132) (by decide +kernel) (by decide) (fun _ => ?_) (fun _ => ?_)
      · refine j_lv (lv' := [(0, vR t), (3, vI q34.1)]) ⟨rfl, rfl, trivial⟩ ?_
        exact wmo_read_132 h q34.1 W73
      refine j_runA hx 1 (tb := [(126, .aload_n 0)]) (jtb_ok (by decide +kernel)) (pc' := 127) (lv' := [(3, vI q34.1), (5, vR v25), (4, vR v24), (2, vR v9), (0, vR t), (1, vI l1)]) (st' := [vR t]) rfl ?_
      refine j_WI (j_callV (av := []) (st := []) hx hr (Or.inl q2927) q2929 qs135 rfl md_fmo_apart np_fmo_apart (cmo_apart t W73) (by decide) (Nat.le_of_ble_eq_true rfl) h75 (by decide) (by decide +kernel)) (fun q77 _ => ?_)
      refine j_runA hx 1 (tb := [(130, .istore 6)]) (jtb_ok (by decide +kernel)) (pc' := 132) (lv' := [(6, vI q77.1), (3, vI q34.1), (5, vR v25), (4, vR v24), (2, vR v9), (0, vR t), (1, vI l1)]) (st' := []) rfl ?_
      refine j_lv (lv' := [(0, vR t), (3, vI q34.1)]) ⟨rfl, rfl, trivial⟩ ?_
      exact wmo_read_132 h q34.1 q77.2
    refine j_runA hx 2 (tb := [(62, .aload_n 0), (63, .aload_n 2)]) (jtb_ok (by decide +kernel)) (pc' := 64) (lv' := [(3, vI q21.1), (2, vR v9), (0, vR t), (1, vI l1)]) (st' := [vR v9, vR t]) rfl ?_
    refine j_gd (fun h79 => ?_)
    refine j_getL hx flX8_261 kd1417 h79 (by decide) (by decide +kernel) ?_
    refine j_gd (fun h80 => ?_)
    refine j_putL hx fwX8_32 wf1314 kd1314 h80 (by decide) (by decide +kernel) (nl1314 _) (ff1314 _) ?_
    refine j_ltw rfl (fun W81 hc82 => ?_)
    have h83 : jC W81 v9 = 14 := (congrFun hc82 _).trans h79
    have h84 : jC W81 t = 13 := (congrFun hc82 _).trans h80
    refine j_runA hx 2 (tb := [(70, .iload_n 3), (71, .ineg)]) (jtb_ok (by decide +kernel)) (pc' := 72) (lv' := [(3, vI q21.1), (2, vR v9), (0, vR t), (1, vI l1)]) (st' := [vI (-q21.1)]) rfl ?_
    exact j_iret hx hm (by decide +kernel) rfl (he _)
  refine j_runA hx 1 (tb := [(17, .aload_n 0)]) (jtb_ok (by decide +kernel)) (pc' := 18) (lv' := [(0, vR t), (1, vI l1), (2, vI l2)]) (st' := [vR t]) rfl ?_
  refine j_gd (fun h86 => ?_)
  refine j_getR hx flX8_17 kl1304 h86 (by decide) (by decide +kernel) ?_
  refine j_runA hx 2 (tb := [(21, .iload_n 2), (22, .aload_n 0)]) (jtb_ok (by decide +kernel)) (pc' := 23) (lv' := [(0, vR t), (1, vI l1), (2, vI l2)]) (st' := [vR t, vI l2, vR (jR W 1304 t)]) rfl ?_
  refine j_getR hx flX8_10 kl1300 h86 (by decide) (by decide +kernel) ?_
  refine j_runA hx 1 (tb := [(26, .iload_n 2)]) (jtb_ok (by decide +kernel)) (pc' := 27) (lv' := [(0, vR t), (1, vI l1), (2, vI l2)]) (st' := [vI l2, vR (jR W 1300 t), vI l2, vR (jR W 1304 t)]) rfl ?_
  refine j_gd (fun h87 => ?_)
  refine j_bald hx (f := 1300) (o := t) kd1300 rfl (by decide +kernel) h87 ?_
  refine j_gd (fun h88 => ?_)
  refine j_gd (fun h89 => ?_)
  refine j_bast hx (f := 9004) (o := (jR W 1304 t)) kd9004 h88 (by decide +kernel) h89 ?_
  refine j_ltw rfl (fun W90 hc91 => ?_)
  have h92 : jC W90 t = 13 := (congrFun hc91 _).trans h86
  refine j_runA hx 1 (tb := [(29, .iinc 2 1)]) (jtb_ok (by decide +kernel)) (pc' := 32) (lv' := [(2, vI (l2 + (kI 1))), (0, vR t), (1, vI l1)]) (st' := []) rfl ?_
  refine j_let (v := (l2 + (kI 1))) (lv := fun v94 => [(2, vI v94), (0, vR t), (1, vI l1)]) (st := fun _ => []) (fun v94 => ?_)
  refine j_goto hx (off := -20) (by decide +kernel) (tgt := 12) (by decide) ?_
  refine j_lv (lv' := [(0, vR t), (1, vI l1), (2, vI v94)]) ⟨rfl, rfl, rfl, trivial⟩ ?_
  exact k12 l1 v94 W90
theorem wmo_read {x : jCx} {en : (fmo_read_S ⊕ (Int32 × jW)) → Option (Outcome × jW)} {t : Nat} (h : hmo_read x en t) (W : jW) : jJ x 7 0 [(0, vR t)] [] W (fmo_read_0 t W) en := by
  have h0 := h
  obtain ⟨hx, hm, hr, he, k12⟩ := h0
  unfold fmo_read_0
  refine j_runA hx 1 (tb := [(0, .aload_n 0)]) (jtb_ok (by decide +kernel)) (pc' := 1) (lv' := [(0, vR t)]) (st' := [vR t]) rfl ?_
  refine j_gd (fun h1 => ?_)
  refine j_getI hx flX8_178 kd1301 h1 (by decide) (by decide +kernel) ?_
  refine j_runA hx 1 (tb := [(4, .istore_n 1)]) (jtb_ok (by decide +kernel)) (pc' := 5) (lv' := [(1, vI (jI W 1301 t)), (0, vR t)]) (st' := []) rfl ?_
  refine j_let (v := (jI W 1301 t)) (lv := fun v2 => [(1, vI v2), (0, vR t)]) (st := fun _ => []) (fun v2 => ?_)
  refine j_runA hx 2 (tb := [(5, .aload_n 0), (6, .iconst 0)]) (jtb_ok (by decide +kernel)) (pc' := 7) (lv' := [(1, vI v2), (0, vR t)]) (st' := [vI (kI 0), vR t]) rfl ?_
  refine j_putI hx fwX8_178 wf1301 kd1301 h1 (by decide) (by decide +kernel) (ni1301 _) (fi1301 _) ?_
  refine j_ltw rfl (fun W3 hc4 => ?_)
  have h5 : jC W3 t = 13 := (congrFun hc4 _).trans h1
  refine j_runA hx 2 (tb := [(10, .iconst 0), (11, .istore_n 2)]) (jtb_ok (by decide +kernel)) (pc' := 12) (lv' := [(2, vI (kI 0)), (1, vI v2), (0, vR t)]) (st' := []) rfl ?_
  refine j_lv (lv' := [(0, vR t), (1, vI v2), (2, vI (kI 0))]) ⟨rfl, rfl, rfl, trivial⟩ ?_
  exact k12 v2 (kI 0) W3
theorem cmo_read (t : Nat) (W : jW) : jM yX8_read cX8_read 7 (Option.some Jvm.ClassFile.FieldType.int) [] 6 92 [vR t] W ((fmo_read t W).bind (fun q => some (.returned (some (.int q.1)), q.2))) := by
  refine jM.of (Nat.le_of_ble_eq_true rfl) (fun x hx hm hr => ?_)
  refine j_begin (P := (fun s => (12, [(0, vR t), (1, vI s.1), (2, vI s.2.1)], s.2.2))) (fun en he hk => ?_)
  have h : hmo_read x en t := ⟨hx, hm, hr, fun q => he _, fun l1 l2 W => hk (l1, l2, W)⟩
  exact ⟨fun s => wmo_read_12 h s.1 s.2.1 s.2.2, wmo_read h W⟩
def hmo_place (x : jCx) (en : (Int32) → Option (Outcome × jW)) (t : Nat) (W : jW) : Prop :=
  jOK x RX8 cX8_place 1 ∧
  jMt x "place" (Option.some Jvm.ClassFile.FieldType.int) [] ∧
  jRm x 0 0 ∧
  (∀ q : Int32, en q = some (.returned (some (.int q)), W))
theorem wmo_place {x : jCx} {en : (Int32) → Option (Outcome × jW)} {W : jW} {t : Nat} (h : hmo_place x en t W) : jJ x 1 0 [(0, vR t)] [] W (fmo_place t W) en := by
  have h0 := h
  obtain ⟨hx, hm, hr, he⟩ := h0
  unfold fmo_place
  refine j_runA hx 1 (tb := [(0, .aload_n 0)]) (jtb_ok (by decide +kernel)) (pc' := 1) (lv' := [(0, vR t)]) (st' := [vR t]) rfl ?_
  refine j_gd (fun h1 => ?_)
  refine j_getL hx flX8_32 kd1314 h1 (by decide) (by decide +kernel) ?_
  refine j_runA hx 1 (tb := [(4, .l2i)]) (jtb_ok (by decide +kernel)) (pc' := 5) (lv' := [(0, vR t)]) (st' := [vI ((jL W 1314 t).toInt32)]) rfl ?_
  exact j_iret hx hm (by decide +kernel) rfl (he _)
theorem cmo_place (t : Nat) (W : jW) : jM yX8_place cX8_place 1 (Option.some Jvm.ClassFile.FieldType.int) [] 0 0 [vR t] W ((fmo_place t W).bind (fun q => some (.returned (some (.int q)), W))) := 
  jM.of (Nat.le_of_ble_eq_true rfl) (fun x hx hm hr => wmo_place ⟨hx, hm, hr, fun _ => rfl⟩)
def hmo_count (x : jCx) (en : (Int32) → Option (Outcome × jW)) (t : Nat) (a1 : Int32) (W : jW) : Prop :=
  jOK x RX8 cX8_count 2 ∧
  jMt x "count" (Option.some Jvm.ClassFile.FieldType.int) [] ∧
  jRm x 0 0 ∧
  (∀ q : Int32, en q = some (.returned (some (.int q)), W))
theorem wmo_count_9 {x : jCx} {en : (Int32) → Option (Outcome × jW)} {W : jW} {t : Nat} {a1 : Int32} (h : hmo_count x en t a1 W) : jJ x 2 9 [(0, vR t), (1, vI a1)] [] W (fmo_count_9 t a1 W) en := by
  have h0 := h
  obtain ⟨hx, hm, hr, he⟩ := h0
  unfold fmo_count_9
  refine j_runA hx 1 (tb := [(9, .bipush (-14))]) (jtb_ok (by decide +kernel)) (pc' := 11) (lv' := [(0, vR t), (1, vI a1)]) (st' := [vI (kI (-14))]) rfl ?_
  exact j_iret hx hm (by decide +kernel) rfl (he _)
theorem wmo_count {x : jCx} {en : (Int32) → Option (Outcome × jW)} {W : jW} {t : Nat} {a1 : Int32} (h : hmo_count x en t a1 W) : jJ x 2 0 [(0, vR t), (1, vI a1)] [] W (fmo_count t a1 W) en := by
  have h0 := h
  obtain ⟨hx, hm, hr, he⟩ := h0
  unfold fmo_count
  refine j_runA hx 1 (tb := [(0, .iload_n 1)]) (jtb_ok (by decide +kernel)) (pc' := 1) (lv' := [(0, vR t), (1, vI a1)]) (st' := [vI a1]) rfl ?_
  refine j_if_lt hx (off := 8) (tgt := 9) (by decide +kernel) (by decide) (fun _ => ?_) (fun _ => ?_)
  · exact wmo_count_9 h
  refine j_runA hx 2 (tb := [(4, .iload_n 1), (5, .iconst 4)]) (jtb_ok (by decide +kernel)) (pc' := 6) (lv' := [(0, vR t), (1, vI a1)]) (st' := [vI (kI 4), vI a1]) rfl ?_
  refine j_icmp_le hx (off := 6) (tgt := 12) (by decide +kernel) (by decide) (fun _ => ?_) (fun _ => ?_)
  · refine j_runA hx 1 (tb := [(12, .aload_n 0)]) (jtb_ok (by decide +kernel)) (pc' := 13) (lv' := [(0, vR t), (1, vI a1)]) (st' := [vR t]) rfl ?_
    refine j_gd (fun h1 => ?_)
    refine j_getI hx flX8_265 kd1307 h1 (by decide) (by decide +kernel) ?_
    refine j_if_ne hx (off := 5) (tgt := 21) (by decide +kernel) (by decide) (fun _ => ?_) (fun _ => ?_)
    · refine j_runA hx 1 (tb := [(21, .iload_n 1)]) (jtb_ok (by decide +kernel)) (pc' := 22) (lv' := [(0, vR t), (1, vI a1)]) (st' := [vI a1]) rfl ?_
      refine j_if_ne hx (off := 10) (tgt := 32) (by decide +kernel) (by decide) (fun _ => ?_) (fun _ => ?_)
      · refine j_runA hx 2 (tb := [(32, .iload_n 1), (33, .iconst 1)]) (jtb_ok (by decide +kernel)) (pc' := 34) (lv' := [(0, vR t), (1, vI a1)]) (st' := [vI (kI 1), vI a1]) rfl ?_
        refine j_icmp_ne hx (off := 10) (tgt := 44) (by decide +kernel) (by decide) (fun _ => ?_) (fun _ => ?_)
        · refine j_runA hx 2 (tb := [(44, .iload_n 1), (45, .iconst 2)]) (jtb_ok (by decide +kernel)) (pc' := 46) (lv' := [(0, vR t), (1, vI a1)]) (st' := [vI (kI 2), vI a1]) rfl ?_
          refine j_icmp_ne hx (off := 12) (tgt := 58) (by decide +kernel) (by decide) (fun _ => ?_) (fun _ => ?_)
          · refine j_runA hx 2 (tb := [(58, .iload_n 1), (59, .iconst 3)]) (jtb_ok (by decide +kernel)) (pc' := 60) (lv' := [(0, vR t), (1, vI a1)]) (st' := [vI (kI 3), vI a1]) rfl ?_
            refine j_icmp_ne hx (off := 10) (tgt := 70) (by decide +kernel) (by decide) (fun _ => ?_) (fun _ => ?_)
            · refine j_runA hx 1 (tb := [(70, .aload_n 0)]) (jtb_ok (by decide +kernel)) (pc' := 71) (lv' := [(0, vR t), (1, vI a1)]) (st' := [vR t]) rfl ?_
              refine j_getI hx flX8_330 kd1328 h1 (by decide) (by decide +kernel) ?_
              exact j_iret hx hm (by decide +kernel) rfl (he _)
            refine j_runA hx 1 (tb := [(63, .aload_n 0)]) (jtb_ok (by decide +kernel)) (pc' := 64) (lv' := [(0, vR t), (1, vI a1)]) (st' := [vR t]) rfl ?_
            refine j_getI hx flX8_269 kd1308 h1 (by decide) (by decide +kernel) ?_
            refine j_goto hx (off := 7) (by decide +kernel) (tgt := 74) (by decide) ?_
            exact j_iret hx hm (by decide +kernel) rfl (he _)
          refine j_runA hx 2 (tb := [(49, .iconst 4), (50, .aload_n 0)]) (jtb_ok (by decide +kernel)) (pc' := 51) (lv' := [(0, vR t), (1, vI a1)]) (st' := [vR t, vI (kI 4)]) rfl ?_
          refine j_getI hx flX8_316 kd1310 h1 (by decide) (by decide +kernel) ?_
          refine j_runA hx 1 (tb := [(54, .imul)]) (jtb_ok (by decide +kernel)) (pc' := 55) (lv' := [(0, vR t), (1, vI a1)]) (st' := [vI ((kI 4) * (jI W 1310 t))]) rfl ?_
          refine j_goto hx (off := 19) (by decide +kernel) (tgt := 74) (by decide) ?_
          exact j_iret hx hm (by decide +kernel) rfl (he _)
        refine j_runA hx 1 (tb := [(37, .aload_n 0)]) (jtb_ok (by decide +kernel)) (pc' := 38) (lv' := [(0, vR t), (1, vI a1)]) (st' := [vR t]) rfl ?_
        refine j_getI hx flX8_399 kd1312 h1 (by decide) (by decide +kernel) ?_
        refine j_goto hx (off := 33) (by decide +kernel) (tgt := 74) (by decide) ?_
        exact j_iret hx hm (by decide +kernel) rfl (he _)
      refine j_runA hx 1 (tb := [(25, .aload_n 0)]) (jtb_ok (by decide +kernel)) (pc' := 26) (lv' := [(0, vR t), (1, vI a1)]) (st' := [vR t]) rfl ?_
      refine j_getI hx flX8_281 kd1311 h1 (by decide) (by decide +kernel) ?_
      refine j_goto hx (off := 45) (by decide +kernel) (tgt := 74) (by decide) ?_
      exact j_iret hx hm (by decide +kernel) rfl (he _)
    refine j_runA hx 1 (tb := [(19, .iconst 0)]) (jtb_ok (by decide +kernel)) (pc' := 20) (lv' := [(0, vR t), (1, vI a1)]) (st' := [vI (kI 0)]) rfl ?_
    exact j_iret hx hm (by decide +kernel) rfl (he _)
  exact wmo_count_9 h
theorem cmo_count (t : Nat) (a1 : Int32) (W : jW) : jM yX8_count cX8_count 2 (Option.some Jvm.ClassFile.FieldType.int) [] 0 0 [vR t, vI a1] W ((fmo_count t a1 W).bind (fun q => some (.returned (some (.int q)), W))) := 
  jM.of (Nat.le_of_ble_eq_true rfl) (fun x hx hm hr => wmo_count ⟨hx, hm, hr, fun _ => rfl⟩)
def hmo_heat (x : jCx) (en : (fmo_heat_S ⊕ (Int64)) → Option (Outcome × jW)) (t : Nat) (a1 : Int32) (W : jW) : Prop :=
  jOK x RX8 cX8_heat 5 ∧
  jMt x "heat" (Option.some Jvm.ClassFile.FieldType.long) [] ∧
  jRm x 0 0 ∧
  (∀ q : Int64, en (.inr q) = some (.returned (some (.long q)), W)) ∧
  (∀ (l2 : Int64) (l4 : Int32), jJ x 5 5 [(0, vR t), (1, vI a1), (2, vL l2), (4, vI l4)] [] W (some (.inl (l2, l4))) en)
theorem wmo_heat_50 {x : jCx} {en : (fmo_heat_S ⊕ (Int64)) → Option (Outcome × jW)} {W : jW} {t : Nat} {a1 : Int32} (h : hmo_heat x en t a1 W) (l2 : Int64) (l4 : Int32) : jJ x 5 50 [(0, vR t), (1, vI a1), (2, vL l2), (4, vI l4)] [] W (fmo_heat_50 t a1 l2 l4 W) en := by
  have h0 := h
  obtain ⟨hx, hm, hr, he, k5⟩ := h0
  unfold fmo_heat_50
  refine j_runA hx 1 (tb := [(50, .iinc 4 1)]) (jtb_ok (by decide +kernel)) (pc' := 53) (lv' := [(4, vI (l4 + (kI 1))), (0, vR t), (1, vI a1), (2, vL l2)]) (st' := []) rfl ?_
  refine j_let (v := (l4 + (kI 1))) (lv := fun v9 => [(4, vI v9), (0, vR t), (1, vI a1), (2, vL l2)]) (st := fun _ => []) (fun v9 => ?_)
  refine j_goto hx (off := -48) (by decide +kernel) (tgt := 5) (by decide) ?_
  refine j_lv (lv' := [(0, vR t), (1, vI a1), (2, vL l2), (4, vI v9)]) ⟨rfl, rfl, rfl, rfl, trivial⟩ ?_
  exact k5 l2 v9
theorem wmo_heat_5 {x : jCx} {en : (fmo_heat_S ⊕ (Int64)) → Option (Outcome × jW)} {W : jW} {t : Nat} {a1 : Int32} (h : hmo_heat x en t a1 W) (l2 : Int64) (l4 : Int32) : jJ x 5 5 [(0, vR t), (1, vI a1), (2, vL l2), (4, vI l4)] [] W (fmo_heat_5 t a1 l2 l4 W) en := by
  have h0 := h
  obtain ⟨hx, hm, hr, he, k5⟩ := h0
  unfold fmo_heat_5
  refine j_runA hx 2 (tb := [(5, .iload 4), (7, .aload_n 0)]) (jtb_ok (by decide +kernel)) (pc' := 8) (lv' := [(0, vR t), (1, vI a1), (2, vL l2), (4, vI l4)]) (st' := [vR t, vI l4]) rfl ?_
  refine j_gd (fun h2 => ?_)
  refine j_getI hx flX8_272 kd1329 h2 (by decide) (by decide +kernel) ?_
  refine j_icmp_ge hx (off := 45) (tgt := 56) (by decide +kernel) (by decide) (fun _ => ?_) (fun _ => ?_)
  · refine j_runA hx 1 (tb := [(56, .lload_n 2)]) (jtb_ok (by decide +kernel)) (pc' := 57) (lv' := [(0, vR t), (1, vI a1), (2, vL l2), (4, vI l4)]) (st' := [vL l2]) rfl ?_
    exact j_lret hx hm (by decide +kernel) (he _)
  refine j_runA hx 1 (tb := [(14, .aload_n 0)]) (jtb_ok (by decide +kernel)) (pc' := 15) (lv' := [(0, vR t), (1, vI a1), (2, vL l2), (4, vI l4)]) (st' := [vR t]) rfl ?_
  refine j_getR hx flX8_83 kl1332 h2 (by decide) (by decide +kernel) ?_
  refine j_runA hx 1 (tb := [(18, .iload 4)]) (jtb_ok (by decide +kernel)) (pc' := 20) (lv' := [(0, vR t), (1, vI a1), (2, vL l2), (4, vI l4)]) (st' := [vI l4, vR (jR W 1332 t)]) rfl ?_
  refine j_gd (fun h3 => ?_)
  refine j_zald hx (f := 1332) (o := t) kd1332 rfl (by decide +kernel) h3 ?_
  refine j_if_eq hx (off := 29) (tgt := 50) (by decide +kernel) (by decide) (fun _ => ?_) (fun _ => ?_)
  · exact wmo_heat_50 h l2 l4
  refine j_runA hx 1 (tb := [(24, .aload_n 0)]) (jtb_ok (by decide +kernel)) (pc' := 25) (lv' := [(0, vR t), (1, vI a1), (2, vL l2), (4, vI l4)]) (st' := [vR t]) rfl ?_
  refine j_getR hx flX8_65 kl1324 h2 (by decide) (by decide +kernel) ?_
  refine j_runA hx 1 (tb := [(28, .aload_n 0)]) (jtb_ok (by decide +kernel)) (pc' := 29) (lv' := [(0, vR t), (1, vI a1), (2, vL l2), (4, vI l4)]) (st' := [vR t, vR (jR W 1324 t)]) rfl ?_
  refine j_getR hx flX8_80 kl1331 h2 (by decide) (by decide +kernel) ?_
  refine j_runA hx 1 (tb := [(32, .iload 4)]) (jtb_ok (by decide +kernel)) (pc' := 34) (lv' := [(0, vR t), (1, vI a1), (2, vL l2), (4, vI l4)]) (st' := [vI l4, vR (jR W 1331 t), vR (jR W 1324 t)]) rfl ?_
  refine j_gd (fun h4 => ?_)
  refine j_iald hx (f := 1331) (o := t) kd1331 rfl (by decide +kernel) h4 ?_
  refine j_gd (fun h5 => ?_)
  refine j_iald hx (f := 1324) (o := t) kd1324 rfl (by decide +kernel) h5 ?_
  refine j_runA hx 1 (tb := [(36, .iload_n 1)]) (jtb_ok (by decide +kernel)) (pc' := 37) (lv' := [(0, vR t), (1, vI a1), (2, vL l2), (4, vI l4)]) (st' := [vI a1, vI (jA W 1324 t (ix (jA W 1331 t (ix l4))))]) rfl ?_
  refine j_icmp_ne hx (off := 13) (tgt := 50) (by decide +kernel) (by decide) (fun _ => ?_) (fun _ => ?_)
  · exact wmo_heat_50 h l2 l4
  refine j_runA hx 2 (tb := [(40, .lload_n 2), (41, .aload_n 0)]) (jtb_ok (by decide +kernel)) (pc' := 42) (lv' := [(0, vR t), (1, vI a1), (2, vL l2), (4, vI l4)]) (st' := [vR t, vL l2]) rfl ?_
  refine j_getR hx flX8_86 kl1333 h2 (by decide) (by decide +kernel) ?_
  refine j_runA hx 1 (tb := [(45, .iload 4)]) (jtb_ok (by decide +kernel)) (pc' := 47) (lv' := [(0, vR t), (1, vI a1), (2, vL l2), (4, vI l4)]) (st' := [vI l4, vR (jR W 1333 t), vL l2]) rfl ?_
  refine j_gd (fun h6 => ?_)
  refine j_lald hx (f := 1333) (o := t) kd1333 rfl (by decide +kernel) h6 ?_
  refine j_runA hx 2 (tb := [(48, .ladd), (49, .lstore_n 2)]) (jtb_ok (by decide +kernel)) (pc' := 50) (lv' := [(2, vL (l2 + (jB W 1333 t (ix l4)))), (0, vR t), (1, vI a1), (4, vI l4)]) (st' := []) rfl ?_
  refine j_let (v := (l2 + (jB W 1333 t (ix l4)))) (lv := fun v7 => [(2, vL v7), (0, vR t), (1, vI a1), (4, vI l4)]) (st := fun _ => []) (fun v7 => ?_)
  refine j_lv (lv' := [(0, vR t), (1, vI a1), (2, vL v7), (4, vI l4)]) ⟨rfl, rfl, rfl, rfl, trivial⟩ ?_
  exact wmo_heat_50 h v7 l4
theorem wmo_heat {x : jCx} {en : (fmo_heat_S ⊕ (Int64)) → Option (Outcome × jW)} {W : jW} {t : Nat} {a1 : Int32} (h : hmo_heat x en t a1 W) : jJ x 5 0 [(0, vR t), (1, vI a1)] [] W (fmo_heat_0 t a1 W) en := by
  have h0 := h
  obtain ⟨hx, hm, hr, he, k5⟩ := h0
  unfold fmo_heat_0
  refine j_runA hx 4 (tb := [(0, .lconst 0), (1, .lstore_n 2), (2, .iconst 0), (3, .istore 4)]) (jtb_ok (by decide +kernel)) (pc' := 5) (lv' := [(4, vI (kI 0)), (2, vL (kJ 0)), (0, vR t), (1, vI a1)]) (st' := []) rfl ?_
  refine j_lv (lv' := [(0, vR t), (1, vI a1), (2, vL (kJ 0)), (4, vI (kI 0))]) ⟨rfl, rfl, rfl, rfl, trivial⟩ ?_
  exact k5 (kJ 0) (kI 0)
theorem cmo_heat (t : Nat) (a1 : Int32) (W : jW) : jM yX8_heat cX8_heat 5 (Option.some Jvm.ClassFile.FieldType.long) [] 0 0 [vR t, vI a1] W ((fmo_heat t a1 W).bind (fun q => some (.returned (some (.long q)), W))) := by
  refine jM.of (Nat.le_of_ble_eq_true rfl) (fun x hx hm hr => ?_)
  refine j_begin (P := (fun s => (5, [(0, vR t), (1, vI a1), (2, vL s.1), (4, vI s.2)], W))) (fun en he hk => ?_)
  have h : hmo_heat x en t a1 W := ⟨hx, hm, hr, fun q => he _, fun l2 l4 => hk (l2, l4)⟩
  exact ⟨fun s => wmo_heat_5 h s.1 s.2, wmo_heat h⟩
def hmo_function (x : jCx) (en : (Int64) → Option (Outcome × jW)) (t : Nat) (a1 : Int32) (a2 : Int32) (W : jW) : Prop :=
  jOK x RX8 cX8_function 3 ∧
  jMt x "function" (Option.some Jvm.ClassFile.FieldType.long) [] ∧
  jRm x 1 16 ∧
  (∀ q : Int64, en q = some (.returned (some (.long q)), W))
theorem wmo_function_28 {x : jCx} {en : (Int64) → Option (Outcome × jW)} {W : jW} {t : Nat} {a1 : Int32} {a2 : Int32} (h : hmo_function x en t a1 a2 W) : jJ x 3 28 [(0, vR t), (1, vI a1), (2, vI a2)] [] W (fmo_function_28 t a1 a2 W) en := by
  have h0 := h
  obtain ⟨hx, hm, hr, he⟩ := h0
  unfold fmo_function_28
  refine j_ldc2 hx (v := (kJ (-14))) (jkd2 q3083 (by decide +kernel)) (by decide +kernel) ?_
  exact j_lret hx hm (by decide +kernel) (he _)
theorem wmo_function {x : jCx} {en : (Int64) → Option (Outcome × jW)} {W : jW} {t : Nat} {a1 : Int32} {a2 : Int32} (h : hmo_function x en t a1 a2 W) : jJ x 3 0 [(0, vR t), (1, vI a1), (2, vI a2)] [] W (fmo_function t a1 a2 W) en := by
  have h0 := h
  obtain ⟨hx, hm, hr, he⟩ := h0
  unfold fmo_function
  refine j_runA hx 1 (tb := [(0, .aload_n 0)]) (jtb_ok (by decide +kernel)) (pc' := 1) (lv' := [(0, vR t), (1, vI a1), (2, vI a2)]) (st' := [vR t]) rfl ?_
  refine j_gd (fun h1 => ?_)
  refine j_getI hx flX8_265 kd1307 h1 (by decide) (by decide +kernel) ?_
  refine j_if_eq hx (off := 24) (tgt := 28) (by decide +kernel) (by decide) (fun _ => ?_) (fun _ => ?_)
  · exact wmo_function_28 h
  refine j_runA hx 1 (tb := [(7, .iload_n 1)]) (jtb_ok (by decide +kernel)) (pc' := 8) (lv' := [(0, vR t), (1, vI a1), (2, vI a2)]) (st' := [vI a1]) rfl ?_
  refine j_if_lt hx (off := 20) (tgt := 28) (by decide +kernel) (by decide) (fun _ => ?_) (fun _ => ?_)
  · exact wmo_function_28 h
  refine j_runA hx 2 (tb := [(11, .iload_n 1), (12, .aload_n 0)]) (jtb_ok (by decide +kernel)) (pc' := 13) (lv' := [(0, vR t), (1, vI a1), (2, vI a2)]) (st' := [vR t, vI a1]) rfl ?_
  refine j_getI hx flX8_281 kd1311 h1 (by decide) (by decide +kernel) ?_
  refine j_icmp_ge hx (off := 12) (tgt := 28) (by decide +kernel) (by decide) (fun _ => ?_) (fun _ => ?_)
  · exact wmo_function_28 h
  refine j_runA hx 1 (tb := [(19, .iload_n 2)]) (jtb_ok (by decide +kernel)) (pc' := 20) (lv' := [(0, vR t), (1, vI a1), (2, vI a2)]) (st' := [vI a2]) rfl ?_
  refine j_if_lt hx (off := 8) (tgt := 28) (by decide +kernel) (by decide) (fun _ => ?_) (fun _ => ?_)
  · exact wmo_function_28 h
  refine j_runA hx 2 (tb := [(23, .iload_n 2), (24, .iconst 3)]) (jtb_ok (by decide +kernel)) (pc' := 25) (lv' := [(0, vR t), (1, vI a1), (2, vI a2)]) (st' := [vI (kI 3), vI a2]) rfl ?_
  refine j_icmp_le hx (off := 7) (tgt := 32) (by decide +kernel) (by decide) (fun _ => ?_) (fun _ => ?_)
  · refine j_runA hx 1 (tb := [(32, .iload_n 2)]) (jtb_ok (by decide +kernel)) (pc' := 33) (lv' := [(0, vR t), (1, vI a1), (2, vI a2)]) (st' := [vI a2]) rfl ?_
    refine j_if_ne hx (off := 22) (tgt := 55) (by decide +kernel) (by decide) (fun _ => ?_) (fun _ => ?_)
    · refine j_runA hx 2 (tb := [(55, .iload_n 2), (56, .iconst 1)]) (jtb_ok (by decide +kernel)) (pc' := 57) (lv' := [(0, vR t), (1, vI a1), (2, vI a2)]) (st' := [vI (kI 1), vI a2]) rfl ?_
      refine j_icmp_ne hx (off := 17) (tgt := 74) (by decide +kernel) (by decide) (fun _ => ?_) (fun _ => ?_)
      · refine j_runA hx 2 (tb := [(74, .iload_n 2), (75, .iconst 2)]) (jtb_ok (by decide +kernel)) (pc' := 76) (lv' := [(0, vR t), (1, vI a1), (2, vI a2)]) (st' := [vI (kI 2), vI a2]) rfl ?_
        refine j_icmp_ne hx (off := 13) (tgt := 89) (by decide +kernel) (by decide) (fun _ => ?_) (fun _ => ?_)
        · refine j_runA hx 2 (tb := [(89, .aload_n 0), (90, .iload_n 1)]) (jtb_ok (by decide +kernel)) (pc' := 91) (lv' := [(0, vR t), (1, vI a1), (2, vI a2)]) (st' := [vI a1, vR t]) rfl ?_
          refine j_OL (j_callV (av := [vI a1]) (st := []) hx hr (Or.inl q3084) q3086 qs149 rfl md_fmo_heat np_fmo_heat (cmo_heat t a1 W) (by decide) (Nat.le_of_ble_eq_true rfl) h1 (by decide) (by decide +kernel)) (fun q2 _ => ?_)
          exact j_lret hx hm (by decide +kernel) (he _)
        refine j_runA hx 1 (tb := [(79, .aload_n 0)]) (jtb_ok (by decide +kernel)) (pc' := 80) (lv' := [(0, vR t), (1, vI a1), (2, vI a2)]) (st' := [vR t]) rfl ?_
        refine j_getR hx flX8_56 kl1321 h1 (by decide) (by decide +kernel) ?_
        refine j_runA hx 1 (tb := [(83, .iload_n 1)]) (jtb_ok (by decide +kernel)) (pc' := 84) (lv' := [(0, vR t), (1, vI a1), (2, vI a2)]) (st' := [vI a1, vR (jR W 1321 t)]) rfl ?_
        refine j_gd (fun h3 => ?_)
        refine j_iald hx (f := 1321) (o := t) kd1321 rfl (by decide +kernel) h3 ?_
        refine j_runA hx 1 (tb := [(85, .i2l)]) (jtb_ok (by decide +kernel)) (pc' := 86) (lv' := [(0, vR t), (1, vI a1), (2, vI a2)]) (st' := [vL ((jA W 1321 t (ix a1)).toInt64)]) rfl ?_
        refine j_goto hx (off := 8) (by decide +kernel) (tgt := 94) (by decide) ?_
        exact j_lret hx hm (by decide +kernel) (he _)
      refine j_ldc2 hx (v := (kJ 4)) (jkd2 q2931 (by decide +kernel)) (by decide +kernel) ?_
      refine j_runA hx 1 (tb := [(63, .aload_n 0)]) (jtb_ok (by decide +kernel)) (pc' := 64) (lv' := [(0, vR t), (1, vI a1), (2, vI a2)]) (st' := [vR t, vL (kJ 4)]) rfl ?_
      refine j_getR hx flX8_53 kl1320 h1 (by decide) (by decide +kernel) ?_
      refine j_runA hx 1 (tb := [(67, .iload_n 1)]) (jtb_ok (by decide +kernel)) (pc' := 68) (lv' := [(0, vR t), (1, vI a1), (2, vI a2)]) (st' := [vI a1, vR (jR W 1320 t), vL (kJ 4)]) rfl ?_
      refine j_gd (fun h4 => ?_)
      refine j_iald hx (f := 1320) (o := t) kd1320 rfl (by decide +kernel) h4 ?_
      refine j_runA hx 2 (tb := [(69, .i2l), (70, .lmul)]) (jtb_ok (by decide +kernel)) (pc' := 71) (lv' := [(0, vR t), (1, vI a1), (2, vI a2)]) (st' := [vL ((kJ 4) * ((jA W 1320 t (ix a1)).toInt64))]) rfl ?_
      refine j_goto hx (off := 23) (by decide +kernel) (tgt := 94) (by decide) ?_
      exact j_lret hx hm (by decide +kernel) (he _)
    refine j_runA hx 1 (tb := [(36, .aload_n 0)]) (jtb_ok (by decide +kernel)) (pc' := 37) (lv' := [(0, vR t), (1, vI a1), (2, vI a2)]) (st' := [vR t]) rfl ?_
    refine j_getL hx flX8_310 kd1313 h1 (by decide) (by decide +kernel) ?_
    refine j_ldc2 hx (v := (kJ 4)) (jkd2 q2931 (by decide +kernel)) (by decide +kernel) ?_
    refine j_runA hx 1 (tb := [(43, .aload_n 0)]) (jtb_ok (by decide +kernel)) (pc' := 44) (lv' := [(0, vR t), (1, vI a1), (2, vI a2)]) (st' := [vR t, vL (kJ 4), vL (jL W 1313 t)]) rfl ?_
    refine j_getR hx flX8_50 kl1319 h1 (by decide) (by decide +kernel) ?_
    refine j_runA hx 1 (tb := [(47, .iload_n 1)]) (jtb_ok (by decide +kernel)) (pc' := 48) (lv' := [(0, vR t), (1, vI a1), (2, vI a2)]) (st' := [vI a1, vR (jR W 1319 t), vL (kJ 4), vL (jL W 1313 t)]) rfl ?_
    refine j_gd (fun h5 => ?_)
    refine j_iald hx (f := 1319) (o := t) kd1319 rfl (by decide +kernel) h5 ?_
    refine j_runA hx 3 (tb := [(49, .i2l), (50, .lmul), (51, .ladd)]) (jtb_ok (by decide +kernel)) (pc' := 52) (lv' := [(0, vR t), (1, vI a1), (2, vI a2)]) (st' := [vL ((jL W 1313 t) + ((kJ 4) * ((jA W 1319 t (ix a1)).toInt64)))]) rfl ?_
    refine j_goto hx (off := 42) (by decide +kernel) (tgt := 94) (by decide) ?_
    exact j_lret hx hm (by decide +kernel) (he _)
  exact wmo_function_28 h
theorem cmo_function (t : Nat) (a1 : Int32) (a2 : Int32) (W : jW) : jM yX8_function cX8_function 3 (Option.some Jvm.ClassFile.FieldType.long) [] 1 16 [vR t, vI a1, vI a2] W ((fmo_function t a1 a2 W).bind (fun q => some (.returned (some (.long q)), W))) := 
  jM.of (Nat.le_of_ble_eq_true rfl) (fun x hx hm hr => wmo_function ⟨hx, hm, hr, fun _ => rfl⟩)
def hmo_countOf (x : jCx) (en : (fmo_countOf_S ⊕ (Int64)) → Option (Outcome × jW)) (t : Nat) (a1 : Int32) (W : jW) : Prop :=
  jOK x RX8 cX8_countOf 9 ∧
  jMt x "countOf" (Option.some Jvm.ClassFile.FieldType.long) [] ∧
  jRm x 1 17 ∧
  (∀ q : Int64, en (.inr q) = some (.returned (some (.long q)), W)) ∧
  (∀ (l2 : Int64) (l4 : Int64) (l6 : Int64) (l8 : Int32), jJ x 9 11 [(0, vR t), (1, vI a1), (2, vL l2), (4, vL l4), (6, vL l6), (8, vI l8)] [] W (some (.inl (l2, l4, l6, l8))) en)
theorem wmo_countOf_107 {x : jCx} {en : (fmo_countOf_S ⊕ (Int64)) → Option (Outcome × jW)} {W : jW} {t : Nat} {a1 : Int32} (h : hmo_countOf x en t a1 W) (l2 : Int64) (l4 : Int64) (l6 : Int64) (l8 : Int32) : jJ x 9 107 [(0, vR t), (1, vI a1), (2, vL l2), (4, vL l4), (6, vL l6), (8, vI l8)] [] W (fmo_countOf_107 t a1 l2 l4 l6 l8 W) en := by
  have h0 := h
  obtain ⟨hx, hm, hr, he, k11⟩ := h0
  unfold fmo_countOf_107
  refine j_runA hx 1 (tb := [(107, .iinc 8 1)]) (jtb_ok (by decide +kernel)) (pc' := 110) (lv' := [(8, vI (l8 + (kI 1))), (0, vR t), (1, vI a1), (2, vL l2), (4, vL l4), (6, vL l6)]) (st' := []) rfl ?_
  refine j_let (v := (l8 + (kI 1))) (lv := fun v19 => [(8, vI v19), (0, vR t), (1, vI a1), (2, vL l2), (4, vL l4), (6, vL l6)]) (st := fun _ => []) (fun v19 => ?_)
  refine j_goto hx (off := -99) (by decide +kernel) (tgt := 11) (by decide) ?_
  refine j_lv (lv' := [(0, vR t), (1, vI a1), (2, vL l2), (4, vL l4), (6, vL l6), (8, vI v19)]) ⟨rfl, rfl, rfl, rfl, rfl, rfl, trivial⟩ ?_
  exact k11 l2 l4 l6 v19
theorem wmo_countOf_74 {x : jCx} {en : (fmo_countOf_S ⊕ (Int64)) → Option (Outcome × jW)} {W : jW} {t : Nat} {a1 : Int32} (h : hmo_countOf x en t a1 W) (l2 : Int64) (l4 : Int64) (l6 : Int64) (l8 : Int32) : jJ x 9 74 [(0, vR t), (1, vI a1), (2, vL l2), (4, vL l4), (6, vL l6), (8, vI l8)] [] W (fmo_countOf_74 t a1 l2 l4 l6 l8 W) en := by
  have h0 := h
  obtain ⟨hx, hm, hr, he, k11⟩ := h0
  unfold fmo_countOf_74
  refine j_runA hx 1 (tb := [(74, .aload_n 0)]) (jtb_ok (by decide +kernel)) (pc' := 75) (lv' := [(0, vR t), (1, vI a1), (2, vL l2), (4, vL l4), (6, vL l6), (8, vI l8)]) (st' := [vR t]) rfl ?_
  refine j_gd (fun h13 => ?_)
  refine j_getR hx flX8_77 kl1330 h13 (by decide) (by decide +kernel) ?_
  refine j_runA hx 1 (tb := [(78, .iload 8)]) (jtb_ok (by decide +kernel)) (pc' := 80) (lv' := [(0, vR t), (1, vI a1), (2, vL l2), (4, vL l4), (6, vL l6), (8, vI l8)]) (st' := [vI l8, vR (jR W 1330 t)]) rfl ?_
  refine j_gd (fun h14 => ?_)
  refine j_iald hx (f := 1330) (o := t) kd1330 rfl (by decide +kernel) h14 ?_
  refine j_runA hx 1 (tb := [(81, .iload_n 1)]) (jtb_ok (by decide +kernel)) (pc' := 82) (lv' := [(0, vR t), (1, vI a1), (2, vL l2), (4, vL l4), (6, vL l6), (8, vI l8)]) (st' := [vI a1, vI (jA W 1330 t (ix l8))]) rfl ?_
  refine j_icmp_ne hx (off := 25) (tgt := 107) (by decide +kernel) (by decide) (fun _ => ?_) (fun _ => ?_)
  · exact wmo_countOf_107 h l2 l4 l6 l8
  refine j_runA hx 1 (tb := [(85, .aload_n 0)]) (jtb_ok (by decide +kernel)) (pc' := 86) (lv' := [(0, vR t), (1, vI a1), (2, vL l2), (4, vL l4), (6, vL l6), (8, vI l8)]) (st' := [vR t]) rfl ?_
  refine j_getR hx flX8_83 kl1332 h13 (by decide) (by decide +kernel) ?_
  refine j_runA hx 1 (tb := [(89, .iload 8)]) (jtb_ok (by decide +kernel)) (pc' := 91) (lv' := [(0, vR t), (1, vI a1), (2, vL l2), (4, vL l4), (6, vL l6), (8, vI l8)]) (st' := [vI l8, vR (jR W 1332 t)]) rfl ?_
  refine j_gd (fun h15 => ?_)
  refine j_zald hx (f := 1332) (o := t) kd1332 rfl (by decide +kernel) h15 ?_
  refine j_if_eq hx (off := 15) (tgt := 107) (by decide +kernel) (by decide) (fun _ => ?_) (fun _ => ?_)
  · exact wmo_countOf_107 h l2 l4 l6 l8
  refine j_runA hx 2 (tb := [(95, .lload 6), (97, .aload_n 0)]) (jtb_ok (by decide +kernel)) (pc' := 98) (lv' := [(0, vR t), (1, vI a1), (2, vL l2), (4, vL l4), (6, vL l6), (8, vI l8)]) (st' := [vR t, vL l6]) rfl ?_
  refine j_getR hx flX8_86 kl1333 h13 (by decide) (by decide +kernel) ?_
  refine j_runA hx 1 (tb := [(101, .iload 8)]) (jtb_ok (by decide +kernel)) (pc' := 103) (lv' := [(0, vR t), (1, vI a1), (2, vL l2), (4, vL l4), (6, vL l6), (8, vI l8)]) (st' := [vI l8, vR (jR W 1333 t), vL l6]) rfl ?_
  refine j_gd (fun h16 => ?_)
  refine j_lald hx (f := 1333) (o := t) kd1333 rfl (by decide +kernel) h16 ?_
  refine j_runA hx 2 (tb := [(104, .ladd), (105, .lstore 6)]) (jtb_ok (by decide +kernel)) (pc' := 107) (lv' := [(6, vL (l6 + (jB W 1333 t (ix l8)))), (0, vR t), (1, vI a1), (2, vL l2), (4, vL l4), (8, vI l8)]) (st' := []) rfl ?_
  refine j_let (v := (l6 + (jB W 1333 t (ix l8)))) (lv := fun v17 => [(6, vL v17), (0, vR t), (1, vI a1), (2, vL l2), (4, vL l4), (8, vI l8)]) (st := fun _ => []) (fun v17 => ?_)
  refine j_lv (lv' := [(0, vR t), (1, vI a1), (2, vL l2), (4, vL l4), (6, vL v17), (8, vI l8)]) ⟨rfl, rfl, rfl, rfl, rfl, rfl, trivial⟩ ?_
  exact wmo_countOf_107 h l2 l4 v17 l8
theorem wmo_countOf_41 {x : jCx} {en : (fmo_countOf_S ⊕ (Int64)) → Option (Outcome × jW)} {W : jW} {t : Nat} {a1 : Int32} (h : hmo_countOf x en t a1 W) (l2 : Int64) (l4 : Int64) (l6 : Int64) (l8 : Int32) : jJ x 9 41 [(0, vR t), (1, vI a1), (2, vL l2), (4, vL l4), (6, vL l6), (8, vI l8)] [] W (fmo_countOf_41 t a1 l2 l4 l6 l8 W) en := by
  have h0 := h
  obtain ⟨hx, hm, hr, he, k11⟩ := h0
  unfold fmo_countOf_41
  refine j_runA hx 1 (tb := [(41, .aload_n 0)]) (jtb_ok (by decide +kernel)) (pc' := 42) (lv' := [(0, vR t), (1, vI a1), (2, vL l2), (4, vL l4), (6, vL l6), (8, vI l8)]) (st' := [vR t]) rfl ?_
  refine j_gd (fun h7 => ?_)
  refine j_getR hx flX8_77 kl1330 h7 (by decide) (by decide +kernel) ?_
  refine j_runA hx 1 (tb := [(45, .iload 8)]) (jtb_ok (by decide +kernel)) (pc' := 47) (lv' := [(0, vR t), (1, vI a1), (2, vL l2), (4, vL l4), (6, vL l6), (8, vI l8)]) (st' := [vI l8, vR (jR W 1330 t)]) rfl ?_
  refine j_gd (fun h8 => ?_)
  refine j_iald hx (f := 1330) (o := t) kd1330 rfl (by decide +kernel) h8 ?_
  refine j_runA hx 1 (tb := [(48, .iload_n 1)]) (jtb_ok (by decide +kernel)) (pc' := 49) (lv' := [(0, vR t), (1, vI a1), (2, vL l2), (4, vL l4), (6, vL l6), (8, vI l8)]) (st' := [vI a1, vI (jA W 1330 t (ix l8))]) rfl ?_
  refine j_icmp_ne hx (off := 25) (tgt := 74) (by decide +kernel) (by decide) (fun _ => ?_) (fun _ => ?_)
  · exact wmo_countOf_74 h l2 l4 l6 l8
  refine j_runA hx 1 (tb := [(52, .aload_n 0)]) (jtb_ok (by decide +kernel)) (pc' := 53) (lv' := [(0, vR t), (1, vI a1), (2, vL l2), (4, vL l4), (6, vL l6), (8, vI l8)]) (st' := [vR t]) rfl ?_
  refine j_getR hx flX8_83 kl1332 h7 (by decide) (by decide +kernel) ?_
  refine j_runA hx 1 (tb := [(56, .iload 8)]) (jtb_ok (by decide +kernel)) (pc' := 58) (lv' := [(0, vR t), (1, vI a1), (2, vL l2), (4, vL l4), (6, vL l6), (8, vI l8)]) (st' := [vI l8, vR (jR W 1332 t)]) rfl ?_
  refine j_gd (fun h9 => ?_)
  refine j_zald hx (f := 1332) (o := t) kd1332 rfl (by decide +kernel) h9 ?_
  refine j_if_ne hx (off := 15) (tgt := 74) (by decide +kernel) (by decide) (fun _ => ?_) (fun _ => ?_)
  · exact wmo_countOf_74 h l2 l4 l6 l8
  refine j_runA hx 2 (tb := [(62, .lload 4), (64, .aload_n 0)]) (jtb_ok (by decide +kernel)) (pc' := 65) (lv' := [(0, vR t), (1, vI a1), (2, vL l2), (4, vL l4), (6, vL l6), (8, vI l8)]) (st' := [vR t, vL l4]) rfl ?_
  refine j_getR hx flX8_86 kl1333 h7 (by decide) (by decide +kernel) ?_
  refine j_runA hx 1 (tb := [(68, .iload 8)]) (jtb_ok (by decide +kernel)) (pc' := 70) (lv' := [(0, vR t), (1, vI a1), (2, vL l2), (4, vL l4), (6, vL l6), (8, vI l8)]) (st' := [vI l8, vR (jR W 1333 t), vL l4]) rfl ?_
  refine j_gd (fun h10 => ?_)
  refine j_lald hx (f := 1333) (o := t) kd1333 rfl (by decide +kernel) h10 ?_
  refine j_runA hx 2 (tb := [(71, .ladd), (72, .lstore 4)]) (jtb_ok (by decide +kernel)) (pc' := 74) (lv' := [(4, vL (l4 + (jB W 1333 t (ix l8)))), (0, vR t), (1, vI a1), (2, vL l2), (6, vL l6), (8, vI l8)]) (st' := []) rfl ?_
  refine j_let (v := (l4 + (jB W 1333 t (ix l8)))) (lv := fun v11 => [(4, vL v11), (0, vR t), (1, vI a1), (2, vL l2), (6, vL l6), (8, vI l8)]) (st := fun _ => []) (fun v11 => ?_)
  refine j_lv (lv' := [(0, vR t), (1, vI a1), (2, vL l2), (4, vL v11), (6, vL l6), (8, vI l8)]) ⟨rfl, rfl, rfl, rfl, rfl, rfl, trivial⟩ ?_
  exact wmo_countOf_74 h l2 v11 l6 l8
theorem wmo_countOf_11 {x : jCx} {en : (fmo_countOf_S ⊕ (Int64)) → Option (Outcome × jW)} {W : jW} {t : Nat} {a1 : Int32} (h : hmo_countOf x en t a1 W) (l2 : Int64) (l4 : Int64) (l6 : Int64) (l8 : Int32) : jJ x 9 11 [(0, vR t), (1, vI a1), (2, vL l2), (4, vL l4), (6, vL l6), (8, vI l8)] [] W (fmo_countOf_11 t a1 l2 l4 l6 l8 W) en := by
  have h0 := h
  obtain ⟨hx, hm, hr, he, k11⟩ := h0
  unfold fmo_countOf_11
  refine j_runA hx 2 (tb := [(11, .iload 8), (13, .aload_n 0)]) (jtb_ok (by decide +kernel)) (pc' := 14) (lv' := [(0, vR t), (1, vI a1), (2, vL l2), (4, vL l4), (6, vL l6), (8, vI l8)]) (st' := [vR t, vI l8]) rfl ?_
  refine j_gd (fun h2 => ?_)
  refine j_getI hx flX8_272 kd1329 h2 (by decide) (by decide +kernel) ?_
  refine j_icmp_ge hx (off := 96) (tgt := 113) (by decide +kernel) (by decide) (fun _ => ?_) (fun _ => ?_)
  · refine j_runA hx 3 (tb := [(113, .lload_n 2), (114, .lload 4), (116, .lload 6)]) (jtb_ok (by decide +kernel)) (pc' := 118) (lv' := [(0, vR t), (1, vI a1), (2, vL l2), (4, vL l4), (6, vL l6), (8, vI l8)]) (st' := [vL l6, vL l4, vL l2]) rfl ?_
    refine j_TL (j_callS (av := [vL l4, vL l6]) (st := [vL l2]) hx hr (Or.inl q3100) q824 q246 md_fjm_max np_fjm_max (cjm_max l4 l6 W) (by decide) (Nat.le_of_ble_eq_true rfl) (by decide +kernel)) ?_
    refine j_TL (j_callS (av := [vL l2, vL (fjm_max l4 l6)]) (st := []) hx hr (Or.inl q3100) q824 q246 md_fjm_max np_fjm_max (cjm_max l2 (fjm_max l4 l6) W) (by decide) (Nat.le_of_ble_eq_true rfl) (by decide +kernel)) ?_
    exact j_lret hx hm (by decide +kernel) (he _)
  refine j_runA hx 1 (tb := [(20, .aload_n 0)]) (jtb_ok (by decide +kernel)) (pc' := 21) (lv' := [(0, vR t), (1, vI a1), (2, vL l2), (4, vL l4), (6, vL l6), (8, vI l8)]) (st' := [vR t]) rfl ?_
  refine j_getR hx flX8_80 kl1331 h2 (by decide) (by decide +kernel) ?_
  refine j_runA hx 1 (tb := [(24, .iload 8)]) (jtb_ok (by decide +kernel)) (pc' := 26) (lv' := [(0, vR t), (1, vI a1), (2, vL l2), (4, vL l4), (6, vL l6), (8, vI l8)]) (st' := [vI l8, vR (jR W 1331 t)]) rfl ?_
  refine j_gd (fun h3 => ?_)
  refine j_iald hx (f := 1331) (o := t) kd1331 rfl (by decide +kernel) h3 ?_
  refine j_runA hx 1 (tb := [(27, .iload_n 1)]) (jtb_ok (by decide +kernel)) (pc' := 28) (lv' := [(0, vR t), (1, vI a1), (2, vL l2), (4, vL l4), (6, vL l6), (8, vI l8)]) (st' := [vI a1, vI (jA W 1331 t (ix l8))]) rfl ?_
  refine j_icmp_ne hx (off := 13) (tgt := 41) (by decide +kernel) (by decide) (fun _ => ?_) (fun _ => ?_)
  · exact wmo_countOf_41 h l2 l4 l6 l8
  refine j_runA hx 2 (tb := [(31, .lload_n 2), (32, .aload_n 0)]) (jtb_ok (by decide +kernel)) (pc' := 33) (lv' := [(0, vR t), (1, vI a1), (2, vL l2), (4, vL l4), (6, vL l6), (8, vI l8)]) (st' := [vR t, vL l2]) rfl ?_
  refine j_getR hx flX8_86 kl1333 h2 (by decide) (by decide +kernel) ?_
  refine j_runA hx 1 (tb := [(36, .iload 8)]) (jtb_ok (by decide +kernel)) (pc' := 38) (lv' := [(0, vR t), (1, vI a1), (2, vL l2), (4, vL l4), (6, vL l6), (8, vI l8)]) (st' := [vI l8, vR (jR W 1333 t), vL l2]) rfl ?_
  refine j_gd (fun h4 => ?_)
  refine j_lald hx (f := 1333) (o := t) kd1333 rfl (by decide +kernel) h4 ?_
  refine j_runA hx 2 (tb := [(39, .ladd), (40, .lstore_n 2)]) (jtb_ok (by decide +kernel)) (pc' := 41) (lv' := [(2, vL (l2 + (jB W 1333 t (ix l8)))), (0, vR t), (1, vI a1), (4, vL l4), (6, vL l6), (8, vI l8)]) (st' := []) rfl ?_
  refine j_let (v := (l2 + (jB W 1333 t (ix l8)))) (lv := fun v5 => [(2, vL v5), (0, vR t), (1, vI a1), (4, vL l4), (6, vL l6), (8, vI l8)]) (st := fun _ => []) (fun v5 => ?_)
  refine j_lv (lv' := [(0, vR t), (1, vI a1), (2, vL v5), (4, vL l4), (6, vL l6), (8, vI l8)]) ⟨rfl, rfl, rfl, rfl, rfl, rfl, trivial⟩ ?_
  exact wmo_countOf_41 h v5 l4 l6 l8
theorem wmo_countOf {x : jCx} {en : (fmo_countOf_S ⊕ (Int64)) → Option (Outcome × jW)} {W : jW} {t : Nat} {a1 : Int32} (h : hmo_countOf x en t a1 W) : jJ x 9 0 [(0, vR t), (1, vI a1)] [] W (fmo_countOf_0 t a1 W) en := by
  have h0 := h
  obtain ⟨hx, hm, hr, he, k11⟩ := h0
  unfold fmo_countOf_0
  refine j_runA hx 8 (tb := [(0, .lconst 0), (1, .lstore_n 2), (2, .lconst 0), (3, .lstore 4), (5, .lconst 0), (6, .lstore 6), (8, .iconst 0), (9, .istore 8)]) (jtb_ok (by decide +kernel)) (pc' := 11) (lv' := [(8, vI (kI 0)), (6, vL (kJ 0)), (4, vL (kJ 0)), (2, vL (kJ 0)), (0, vR t), (1, vI a1)]) (st' := []) rfl ?_
  refine j_lv (lv' := [(0, vR t), (1, vI a1), (2, vL (kJ 0)), (4, vL (kJ 0)), (6, vL (kJ 0)), (8, vI (kI 0))]) ⟨rfl, rfl, rfl, rfl, rfl, rfl, trivial⟩ ?_
  exact k11 (kJ 0) (kJ 0) (kJ 0) (kI 0)
theorem cmo_countOf (t : Nat) (a1 : Int32) (W : jW) : jM yX8_countOf cX8_countOf 9 (Option.some Jvm.ClassFile.FieldType.long) [] 1 17 [vR t, vI a1] W ((fmo_countOf t a1 W).bind (fun q => some (.returned (some (.long q)), W))) := by
  refine jM.of (Nat.le_of_ble_eq_true rfl) (fun x hx hm hr => ?_)
  refine j_begin (P := (fun s => (11, [(0, vR t), (1, vI a1), (2, vL s.1), (4, vL s.2.1), (6, vL s.2.2.1), (8, vI s.2.2.2)], W))) (fun en he hk => ?_)
  have h : hmo_countOf x en t a1 W := ⟨hx, hm, hr, fun q => he _, fun l2 l4 l6 l8 => hk (l2, l4, l6, l8)⟩
  exact ⟨fun s => wmo_countOf_11 h s.1 s.2.1 s.2.2.1 s.2.2.2, wmo_countOf h⟩
def hmo_block (x : jCx) (en : (Int64) → Option (Outcome × jW)) (t : Nat) (a1 : Int32) (a2 : Int32) (W : jW) : Prop :=
  jOK x RX8 cX8_block 3 ∧
  jMt x "block" (Option.some Jvm.ClassFile.FieldType.long) [] ∧
  jRm x 2 37 ∧
  (∀ q : Int64, en q = some (.returned (some (.long q)), W))
theorem wmo_block_19 {x : jCx} {en : (Int64) → Option (Outcome × jW)} {W : jW} {t : Nat} {a1 : Int32} {a2 : Int32} (h : hmo_block x en t a1 a2 W) : jJ x 3 19 [(0, vR t), (1, vI a1), (2, vI a2)] [] W (fmo_block_19 t a1 a2 W) en := by
  have h0 := h
  obtain ⟨hx, hm, hr, he⟩ := h0
  unfold fmo_block_19
  refine j_ldc2 hx (v := (kJ (-14))) (jkd2 q3083 (by decide +kernel)) (by decide +kernel) ?_
  exact j_lret hx hm (by decide +kernel) (he _)
theorem wmo_block {x : jCx} {en : (Int64) → Option (Outcome × jW)} {W : jW} {t : Nat} {a1 : Int32} {a2 : Int32} (h : hmo_block x en t a1 a2 W) : jJ x 3 0 [(0, vR t), (1, vI a1), (2, vI a2)] [] W (fmo_block t a1 a2 W) en := by
  have h0 := h
  obtain ⟨hx, hm, hr, he⟩ := h0
  unfold fmo_block
  refine j_runA hx 1 (tb := [(0, .aload_n 0)]) (jtb_ok (by decide +kernel)) (pc' := 1) (lv' := [(0, vR t), (1, vI a1), (2, vI a2)]) (st' := [vR t]) rfl ?_
  refine j_gd (fun h1 => ?_)
  refine j_getI hx flX8_265 kd1307 h1 (by decide) (by decide +kernel) ?_
  refine j_if_eq hx (off := 15) (tgt := 19) (by decide +kernel) (by decide) (fun _ => ?_) (fun _ => ?_)
  · exact wmo_block_19 h
  refine j_runA hx 1 (tb := [(7, .iload_n 1)]) (jtb_ok (by decide +kernel)) (pc' := 8) (lv' := [(0, vR t), (1, vI a1), (2, vI a2)]) (st' := [vI a1]) rfl ?_
  refine j_if_lt hx (off := 11) (tgt := 19) (by decide +kernel) (by decide) (fun _ => ?_) (fun _ => ?_)
  · exact wmo_block_19 h
  refine j_runA hx 2 (tb := [(11, .iload_n 1), (12, .aload_n 0)]) (jtb_ok (by decide +kernel)) (pc' := 13) (lv' := [(0, vR t), (1, vI a1), (2, vI a2)]) (st' := [vR t, vI a1]) rfl ?_
  refine j_getI hx flX8_399 kd1312 h1 (by decide) (by decide +kernel) ?_
  refine j_icmp_lt hx (off := 7) (tgt := 23) (by decide +kernel) (by decide) (fun _ => ?_) (fun _ => ?_)
  · refine j_runA hx 1 (tb := [(23, .iload_n 2)]) (jtb_ok (by decide +kernel)) (pc' := 24) (lv' := [(0, vR t), (1, vI a1), (2, vI a2)]) (st' := [vI a2]) rfl ?_
    refine j_tab hx (dflt := 125) (lo := 0) (hi := 7) (offs := #[48, 65, 73, 81, 89, 96, 104, 119]) (len := 48) (k := 0) (off := 48) (tgt := 72) (by decide +kernel) (by decide) (by decide) (by decide) rfl (by decide) (fun _ => ?_) (fun h2 => ?_)
    · refine j_runA hx 1 (tb := [(72, .aload_n 0)]) (jtb_ok (by decide +kernel)) (pc' := 73) (lv' := [(0, vR t), (1, vI a1), (2, vI a2)]) (st' := [vR t]) rfl ?_
      refine j_getL hx flX8_310 kd1313 h1 (by decide) (by decide +kernel) ?_
      refine j_ldc2 hx (v := (kJ 4)) (jkd2 q2931 (by decide +kernel)) (by decide +kernel) ?_
      refine j_runA hx 1 (tb := [(79, .aload_n 0)]) (jtb_ok (by decide +kernel)) (pc' := 80) (lv' := [(0, vR t), (1, vI a1), (2, vI a2)]) (st' := [vR t, vL (kJ 4), vL (jL W 1313 t)]) rfl ?_
      refine j_getR hx flX8_59 kl1322 h1 (by decide) (by decide +kernel) ?_
      refine j_runA hx 1 (tb := [(83, .iload_n 1)]) (jtb_ok (by decide +kernel)) (pc' := 84) (lv' := [(0, vR t), (1, vI a1), (2, vI a2)]) (st' := [vI a1, vR (jR W 1322 t), vL (kJ 4), vL (jL W 1313 t)]) rfl ?_
      refine j_gd (fun h3 => ?_)
      refine j_iald hx (f := 1322) (o := t) kd1322 rfl (by decide +kernel) h3 ?_
      refine j_runA hx 3 (tb := [(85, .i2l), (86, .lmul), (87, .ladd)]) (jtb_ok (by decide +kernel)) (pc' := 88) (lv' := [(0, vR t), (1, vI a1), (2, vI a2)]) (st' := [vL ((jL W 1313 t) + ((kJ 4) * ((jA W 1322 t (ix a1)).toInt64)))]) rfl ?_
      exact j_lret hx hm (by decide +kernel) (he _)
    refine j_tab hx (dflt := 125) (lo := 0) (hi := 7) (offs := #[48, 65, 73, 81, 89, 96, 104, 119]) (len := 48) (k := 1) (off := 65) (tgt := 89) (by decide +kernel) (by decide) (by decide) (by decide) rfl (by decide) (fun _ => ?_) (fun h4 => ?_)
    · refine j_runA hx 1 (tb := [(89, .aload_n 0)]) (jtb_ok (by decide +kernel)) (pc' := 90) (lv' := [(0, vR t), (1, vI a1), (2, vI a2)]) (st' := [vR t]) rfl ?_
      refine j_getR hx flX8_62 kl1323 h1 (by decide) (by decide +kernel) ?_
      refine j_runA hx 1 (tb := [(93, .iload_n 1)]) (jtb_ok (by decide +kernel)) (pc' := 94) (lv' := [(0, vR t), (1, vI a1), (2, vI a2)]) (st' := [vI a1, vR (jR W 1323 t)]) rfl ?_
      refine j_gd (fun h5 => ?_)
      refine j_iald hx (f := 1323) (o := t) kd1323 rfl (by decide +kernel) h5 ?_
      refine j_runA hx 1 (tb := [(95, .i2l)]) (jtb_ok (by decide +kernel)) (pc' := 96) (lv' := [(0, vR t), (1, vI a1), (2, vI a2)]) (st' := [vL ((jA W 1323 t (ix a1)).toInt64)]) rfl ?_
      exact j_lret hx hm (by decide +kernel) (he _)
    refine j_tab hx (dflt := 125) (lo := 0) (hi := 7) (offs := #[48, 65, 73, 81, 89, 96, 104, 119]) (len := 48) (k := 2) (off := 73) (tgt := 97) (by decide +kernel) (by decide) (by decide) (by decide) rfl (by decide) (fun _ => ?_) (fun h6 => ?_)
    · refine j_runA hx 1 (tb := [(97, .aload_n 0)]) (jtb_ok (by decide +kernel)) (pc' := 98) (lv' := [(0, vR t), (1, vI a1), (2, vI a2)]) (st' := [vR t]) rfl ?_
      refine j_getR hx flX8_65 kl1324 h1 (by decide) (by decide +kernel) ?_
      refine j_runA hx 1 (tb := [(101, .iload_n 1)]) (jtb_ok (by decide +kernel)) (pc' := 102) (lv' := [(0, vR t), (1, vI a1), (2, vI a2)]) (st' := [vI a1, vR (jR W 1324 t)]) rfl ?_
      refine j_gd (fun h7 => ?_)
      refine j_iald hx (f := 1324) (o := t) kd1324 rfl (by decide +kernel) h7 ?_
      refine j_runA hx 1 (tb := [(103, .i2l)]) (jtb_ok (by decide +kernel)) (pc' := 104) (lv' := [(0, vR t), (1, vI a1), (2, vI a2)]) (st' := [vL ((jA W 1324 t (ix a1)).toInt64)]) rfl ?_
      exact j_lret hx hm (by decide +kernel) (he _)
    refine j_tab hx (dflt := 125) (lo := 0) (hi := 7) (offs := #[48, 65, 73, 81, 89, 96, 104, 119]) (len := 48) (k := 3) (off := 81) (tgt := 105) (by decide +kernel) (by decide) (by decide) (by decide) rfl (by decide) (fun _ => ?_) (fun h8 => ?_)
    · refine j_runA hx 1 (tb := [(105, .aload_n 0)]) (jtb_ok (by decide +kernel)) (pc' := 106) (lv' := [(0, vR t), (1, vI a1), (2, vI a2)]) (st' := [vR t]) rfl ?_
      refine j_getR hx flX8_68 kl1325 h1 (by decide) (by decide +kernel) ?_
      refine j_runA hx 1 (tb := [(109, .iload_n 1)]) (jtb_ok (by decide +kernel)) (pc' := 110) (lv' := [(0, vR t), (1, vI a1), (2, vI a2)]) (st' := [vI a1, vR (jR W 1325 t)]) rfl ?_
      refine j_gd (fun h9 => ?_)
      refine j_iald hx (f := 1325) (o := t) kd1325 rfl (by decide +kernel) h9 ?_
      refine j_runA hx 1 (tb := [(111, .i2l)]) (jtb_ok (by decide +kernel)) (pc' := 112) (lv' := [(0, vR t), (1, vI a1), (2, vI a2)]) (st' := [vL ((jA W 1325 t (ix a1)).toInt64)]) rfl ?_
      exact j_lret hx hm (by decide +kernel) (he _)
    refine j_tab hx (dflt := 125) (lo := 0) (hi := 7) (offs := #[48, 65, 73, 81, 89, 96, 104, 119]) (len := 48) (k := 4) (off := 89) (tgt := 113) (by decide +kernel) (by decide) (by decide) (by decide) rfl (by decide) (fun _ => ?_) (fun h10 => ?_)
    · refine j_runA hx 2 (tb := [(113, .aload_n 0), (114, .iload_n 1)]) (jtb_ok (by decide +kernel)) (pc' := 115) (lv' := [(0, vR t), (1, vI a1), (2, vI a2)]) (st' := [vI a1, vR t]) rfl ?_
      refine j_OI (j_callV (av := [vI a1]) (st := []) hx hr (Or.inl q3092) q3094 qs150 rfl md_fmo_next np_fmo_next (cmo_next t a1 W) (by decide) (Nat.le_of_ble_eq_true rfl) h1 (by decide) (by decide +kernel)) (fun q11 _ => ?_)
      refine j_runA hx 1 (tb := [(118, .i2l)]) (jtb_ok (by decide +kernel)) (pc' := 119) (lv' := [(0, vR t), (1, vI a1), (2, vI a2)]) (st' := [vL q11.toInt64]) rfl ?_
      exact j_lret hx hm (by decide +kernel) (he _)
    refine j_tab hx (dflt := 125) (lo := 0) (hi := 7) (offs := #[48, 65, 73, 81, 89, 96, 104, 119]) (len := 48) (k := 5) (off := 96) (tgt := 120) (by decide +kernel) (by decide) (by decide) (by decide) rfl (by decide) (fun _ => ?_) (fun h12 => ?_)
    · refine j_runA hx 1 (tb := [(120, .aload_n 0)]) (jtb_ok (by decide +kernel)) (pc' := 121) (lv' := [(0, vR t), (1, vI a1), (2, vI a2)]) (st' := [vR t]) rfl ?_
      refine j_getR hx flX8_71 kl1326 h1 (by decide) (by decide +kernel) ?_
      refine j_runA hx 1 (tb := [(124, .iload_n 1)]) (jtb_ok (by decide +kernel)) (pc' := 125) (lv' := [(0, vR t), (1, vI a1), (2, vI a2)]) (st' := [vI a1, vR (jR W 1326 t)]) rfl ?_
      refine j_gd (fun h13 => ?_)
      refine j_iald hx (f := 1326) (o := t) kd1326 rfl (by decide +kernel) h13 ?_
      refine j_runA hx 1 (tb := [(126, .i2l)]) (jtb_ok (by decide +kernel)) (pc' := 127) (lv' := [(0, vR t), (1, vI a1), (2, vI a2)]) (st' := [vL ((jA W 1326 t (ix a1)).toInt64)]) rfl ?_
      exact j_lret hx hm (by decide +kernel) (he _)
    refine j_tab hx (dflt := 125) (lo := 0) (hi := 7) (offs := #[48, 65, 73, 81, 89, 96, 104, 119]) (len := 48) (k := 6) (off := 104) (tgt := 128) (by decide +kernel) (by decide) (by decide) (by decide) rfl (by decide) (fun _ => ?_) (fun h14 => ?_)
    · refine j_runA hx 1 (tb := [(128, .aload_n 0)]) (jtb_ok (by decide +kernel)) (pc' := 129) (lv' := [(0, vR t), (1, vI a1), (2, vI a2)]) (st' := [vR t]) rfl ?_
      refine j_getR hx flX8_74 kl1327 h1 (by decide) (by decide +kernel) ?_
      refine j_runA hx 1 (tb := [(132, .iload_n 1)]) (jtb_ok (by decide +kernel)) (pc' := 133) (lv' := [(0, vR t), (1, vI a1), (2, vI a2)]) (st' := [vI a1, vR (jR W 1327 t)]) rfl ?_
      refine j_gd (fun h15 => ?_)
      refine j_zald hx (f := 1327) (o := t) kd1327 rfl (by decide +kernel) h15 ?_
      refine j_if_eq hx (off := 7) (tgt := 141) (by decide +kernel) (by decide) (fun _ => ?_) (fun _ => ?_)
      · refine j_runA hx 1 (tb := [(141, .lconst 0)]) (jtb_ok (by decide +kernel)) (pc' := 142) (lv' := [(0, vR t), (1, vI a1), (2, vI a2)]) (st' := [vL (kJ 0)]) rfl ?_
        exact j_lret hx hm (by decide +kernel) (he _)
      refine j_runA hx 1 (tb := [(137, .lconst 1)]) (jtb_ok (by decide +kernel)) (pc' := 138) (lv' := [(0, vR t), (1, vI a1), (2, vI a2)]) (st' := [vL (kJ 1)]) rfl ?_
      refine j_goto hx (off := 4) (by decide +kernel) (tgt := 142) (by decide) ?_
      exact j_lret hx hm (by decide +kernel) (he _)
    refine j_tab hx (dflt := 125) (lo := 0) (hi := 7) (offs := #[48, 65, 73, 81, 89, 96, 104, 119]) (len := 48) (k := 7) (off := 119) (tgt := 143) (by decide +kernel) (by decide) (by decide) (by decide) rfl (by decide) (fun _ => ?_) (fun h16 => ?_)
    · refine j_runA hx 2 (tb := [(143, .aload_n 0), (144, .iload_n 1)]) (jtb_ok (by decide +kernel)) (pc' := 145) (lv' := [(0, vR t), (1, vI a1), (2, vI a2)]) (st' := [vI a1, vR t]) rfl ?_
      refine j_OL (j_callV (av := [vI a1]) (st := []) hx hr (Or.inl q3096) q3098 qs151 rfl md_fmo_countOf np_fmo_countOf (cmo_countOf t a1 W) (by decide) (Nat.le_of_ble_eq_true rfl) h1 (by decide) (by decide +kernel)) (fun q17 _ => ?_)
      exact j_lret hx hm (by decide +kernel) (he _)
    refine j_tabD hx (dflt := 125) (lo := 0) (hi := 7) (offs := #[48, 65, 73, 81, 89, 96, 104, 119]) (len := 48) (tgt := 149) (by decide +kernel) (by decide) (fun i hi => by
      match i, hi with
      | 0, _ => exact Or.inr h2
      | 1, _ => exact Or.inr h4
      | 2, _ => exact Or.inr h6
      | 3, _ => exact Or.inr h8
      | 4, _ => exact Or.inr h10
      | 5, _ => exact Or.inr h12
      | 6, _ => exact Or.inr h14
      | 7, _ => exact Or.inr h16
      | n + 8, h => exact absurd h (by omega)) ?_
    refine j_ldc2 hx (v := (kJ (-14))) (jkd2 q3083 (by decide +kernel)) (by decide +kernel) ?_
    exact j_lret hx hm (by decide +kernel) (he _)
  exact wmo_block_19 h
theorem cmo_block (t : Nat) (a1 : Int32) (a2 : Int32) (W : jW) : jM yX8_block cX8_block 3 (Option.some Jvm.ClassFile.FieldType.long) [] 2 37 [vR t, vI a1, vI a2] W ((fmo_block t a1 a2 W).bind (fun q => some (.returned (some (.long q)), W))) := 
  jM.of (Nat.le_of_ble_eq_true rfl) (fun x hx hm hr => wmo_block ⟨hx, hm, hr, fun _ => rfl⟩)
def hmo_wordAt (x : jCx) (en : (Int32) → Option (Outcome × jW)) (t : Nat) (a1 : Int64) (W : jW) : Prop :=
  jOK x RX8 cX8_wordAt 3 ∧
  jMt x "wordAt" (Option.some Jvm.ClassFile.FieldType.int) [] ∧
  jRm x 1 14 ∧
  (∀ q : Int32, en q = some (.returned (some (.int q)), W))
theorem wmo_wordAt_40 {x : jCx} {en : (Int32) → Option (Outcome × jW)} {W : jW} {t : Nat} {a1 : Int64} (h : hmo_wordAt x en t a1 W) : jJ x 3 40 [(0, vR t), (1, vL a1)] [] W (fmo_wordAt_40 t a1 W) en := by
  have h0 := h
  obtain ⟨hx, hm, hr, he⟩ := h0
  unfold fmo_wordAt_40
  refine j_runA hx 1 (tb := [(40, .iconst (-1))]) (jtb_ok (by decide +kernel)) (pc' := 41) (lv' := [(0, vR t), (1, vL a1)]) (st' := [vI (kI (-1))]) rfl ?_
  exact j_iret hx hm (by decide +kernel) rfl (he _)
theorem wmo_wordAt {x : jCx} {en : (Int32) → Option (Outcome × jW)} {W : jW} {t : Nat} {a1 : Int64} (h : hmo_wordAt x en t a1 W) : jJ x 3 0 [(0, vR t), (1, vL a1)] [] W (fmo_wordAt t a1 W) en := by
  have h0 := h
  obtain ⟨hx, hm, hr, he⟩ := h0
  unfold fmo_wordAt
  refine j_runA hx 1 (tb := [(0, .aload_n 0)]) (jtb_ok (by decide +kernel)) (pc' := 1) (lv' := [(0, vR t), (1, vL a1)]) (st' := [vR t]) rfl ?_
  refine j_gd (fun h1 => ?_)
  refine j_getI hx flX8_265 kd1307 h1 (by decide) (by decide +kernel) ?_
  refine j_if_eq hx (off := 36) (tgt := 40) (by decide +kernel) (by decide) (fun _ => ?_) (fun _ => ?_)
  · exact wmo_wordAt_40 h
  refine j_runA hx 1 (tb := [(7, .aload_n 0)]) (jtb_ok (by decide +kernel)) (pc' := 8) (lv' := [(0, vR t), (1, vL a1)]) (st' := [vR t]) rfl ?_
  refine j_getR hx flX8_23 kl1305 h1 (by decide) (by decide +kernel) ?_
  refine j_runA hx 1 (tb := [(11, .lload_n 1)]) (jtb_ok (by decide +kernel)) (pc' := 12) (lv' := [(0, vR t), (1, vL a1)]) (st' := [vL a1, vR (jR W 1305 t)]) rfl ?_
  refine j_gd (fun h2 => ?_)
  refine j_OI (j_callV (av := [vL a1]) (st := []) hx hr (Or.inl q3019) q2924 q2925 rfl md_fhd_isIn np_fhd_isIn (chd_isIn (jR W 1305 t) a1 W) (by decide) (Nat.le_of_ble_eq_true rfl) h2 (by decide) (by decide +kernel)) (fun q3 _ => ?_)
  refine j_if_eq hx (off := 25) (tgt := 40) (by decide +kernel) (by decide) (fun _ => ?_) (fun _ => ?_)
  · exact wmo_wordAt_40 h
  refine j_runA hx 1 (tb := [(18, .lload_n 1)]) (jtb_ok (by decide +kernel)) (pc' := 19) (lv' := [(0, vR t), (1, vL a1)]) (st' := [vL a1]) rfl ?_
  refine j_ldc2 hx (v := (kJ 3)) (jkd2 q3034 (by decide +kernel)) (by decide +kernel) ?_
  refine j_runA hx 2 (tb := [(22, .land), (23, .lconst 0)]) (jtb_ok (by decide +kernel)) (pc' := 24) (lv' := [(0, vR t), (1, vL a1)]) (st' := [vL (kJ 0), vL (a1 &&& (kJ 3))]) rfl ?_
  refine j_lcmp_ne hx (off := 15) (tgt := 40) (by decide +kernel) (by decide +kernel) (by decide) (fun _ => ?_) (fun _ => ?_)
  · exact wmo_wordAt_40 h
  refine j_runA hx 2 (tb := [(28, .lload_n 1), (29, .aload_n 0)]) (jtb_ok (by decide +kernel)) (pc' := 30) (lv' := [(0, vR t), (1, vL a1)]) (st' := [vR t, vL a1]) rfl ?_
  refine j_getL hx flX8_310 kd1313 h1 (by decide) (by decide +kernel) ?_
  refine j_runA hx 3 (tb := [(33, .lsub), (34, .l2i), (35, .iconst 4)]) (jtb_ok (by decide +kernel)) (pc' := 36) (lv' := [(0, vR t), (1, vL a1)]) (st' := [vI (kI 4), vI ((a1 - (jL W 1313 t)).toInt32)]) rfl ?_
  refine j_idiv hx (by decide +kernel) (by decide +kernel) ?_
  refine j_goto hx (off := 4) (by decide +kernel) (tgt := 41) (by decide) ?_
  exact j_iret hx hm (by decide +kernel) rfl (he _)
theorem cmo_wordAt (t : Nat) (a1 : Int64) (W : jW) : jM yX8_wordAt cX8_wordAt 3 (Option.some Jvm.ClassFile.FieldType.int) [] 1 14 [vR t, vL a1] W ((fmo_wordAt t a1 W).bind (fun q => some (.returned (some (.int q)), W))) := 
  jM.of (Nat.le_of_ble_eq_true rfl) (fun x hx hm hr => wmo_wordAt ⟨hx, hm, hr, fun _ => rfl⟩)
def hmo_isWay (x : jCx) (en : (Int32) → Option (Outcome × jW)) (t : Nat) (a1 : Int32) (a2 : Int32) (W : jW) : Prop :=
  jOK x RX8 cX8_isWay 3 ∧
  jMt x "isWay" (Option.some Jvm.ClassFile.FieldType.boolean) [] ∧
  jRm x 1 13 ∧
  (∀ q : Int32, en q = some (.returned (some (.int q)), W))
theorem wmo_isWay_56 {x : jCx} {en : (Int32) → Option (Outcome × jW)} {W : jW} {t : Nat} {a1 : Int32} {a2 : Int32} (h : hmo_isWay x en t a1 a2 W) : jJ x 3 56 [(0, vR t), (1, vI a1), (2, vI a2)] [] W (fmo_isWay_56 t a1 a2 W) en := by
  have h0 := h
  obtain ⟨hx, hm, hr, he⟩ := h0
  unfold fmo_isWay_56
  refine j_runA hx 1 (tb := [(56, .iconst 1)]) (jtb_ok (by decide +kernel)) (pc' := 57) (lv' := [(0, vR t), (1, vI a1), (2, vI a2)]) (st' := [vI (kI 1)]) rfl ?_
  refine j_goto hx (off := 4) (by decide +kernel) (tgt := 61) (by decide) ?_
  exact j_iret hx hm (by decide +kernel) jz1n (he _)
theorem wmo_isWay_60 {x : jCx} {en : (Int32) → Option (Outcome × jW)} {W : jW} {t : Nat} {a1 : Int32} {a2 : Int32} (h : hmo_isWay x en t a1 a2 W) : jJ x 3 60 [(0, vR t), (1, vI a1), (2, vI a2)] [] W (fmo_isWay_60 t a1 a2 W) en := by
  have h0 := h
  obtain ⟨hx, hm, hr, he⟩ := h0
  unfold fmo_isWay_60
  refine j_runA hx 1 (tb := [(60, .iconst 0)]) (jtb_ok (by decide +kernel)) (pc' := 61) (lv' := [(0, vR t), (1, vI a1), (2, vI a2)]) (st' := [vI (kI 0)]) rfl ?_
  exact j_iret hx hm (by decide +kernel) jz0n (he _)
theorem wmo_isWay {x : jCx} {en : (Int32) → Option (Outcome × jW)} {W : jW} {t : Nat} {a1 : Int32} {a2 : Int32} (h : hmo_isWay x en t a1 a2 W) : jJ x 3 0 [(0, vR t), (1, vI a1), (2, vI a2)] [] W (fmo_isWay t a1 a2 W) en := by
  have h0 := h
  obtain ⟨hx, hm, hr, he⟩ := h0
  unfold fmo_isWay
  refine j_runA hx 1 (tb := [(0, .aload_n 0)]) (jtb_ok (by decide +kernel)) (pc' := 1) (lv' := [(0, vR t), (1, vI a1), (2, vI a2)]) (st' := [vR t]) rfl ?_
  refine j_gd (fun h1 => ?_)
  refine j_getR hx flX8_65 kl1324 h1 (by decide) (by decide +kernel) ?_
  refine j_runA hx 1 (tb := [(4, .iload_n 1)]) (jtb_ok (by decide +kernel)) (pc' := 5) (lv' := [(0, vR t), (1, vI a1), (2, vI a2)]) (st' := [vI a1, vR (jR W 1324 t)]) rfl ?_
  refine j_gd (fun h2 => ?_)
  refine j_iald hx (f := 1324) (o := t) kd1324 rfl (by decide +kernel) h2 ?_
  refine j_runA hx 1 (tb := [(6, .aload_n 0)]) (jtb_ok (by decide +kernel)) (pc' := 7) (lv' := [(0, vR t), (1, vI a1), (2, vI a2)]) (st' := [vR t, vI (jA W 1324 t (ix a1))]) rfl ?_
  refine j_getR hx flX8_65 kl1324 h1 (by decide) (by decide +kernel) ?_
  refine j_runA hx 1 (tb := [(10, .iload_n 2)]) (jtb_ok (by decide +kernel)) (pc' := 11) (lv' := [(0, vR t), (1, vI a1), (2, vI a2)]) (st' := [vI a2, vR (jR W 1324 t), vI (jA W 1324 t (ix a1))]) rfl ?_
  refine j_gd (fun h3 => ?_)
  refine j_iald hx (f := 1324) (o := t) kd1324 rfl (by decide +kernel) h3 ?_
  refine j_icmp_eq hx (off := 5) (tgt := 17) (by decide +kernel) (by decide) (fun _ => ?_) (fun _ => ?_)
  · refine j_runA hx 2 (tb := [(17, .aload_n 0), (18, .iload_n 1)]) (jtb_ok (by decide +kernel)) (pc' := 19) (lv' := [(0, vR t), (1, vI a1), (2, vI a2)]) (st' := [vI a1, vR t]) rfl ?_
    refine j_OI (j_callV (av := [vI a1]) (st := []) hx hr (Or.inl q3092) q3094 qs150 rfl md_fmo_next np_fmo_next (cmo_next t a1 W) (by decide) (Nat.le_of_ble_eq_true rfl) h1 (by decide) (by decide +kernel)) (fun q4 _ => ?_)
    refine j_runA hx 1 (tb := [(22, .iload_n 2)]) (jtb_ok (by decide +kernel)) (pc' := 23) (lv' := [(0, vR t), (1, vI a1), (2, vI a2)]) (st' := [vI a2, vI q4]) rfl ?_
    refine j_icmp_eq hx (off := 33) (tgt := 56) (by decide +kernel) (by decide) (fun _ => ?_) (fun _ => ?_)
    · exact wmo_isWay_56 h
    refine j_runA hx 1 (tb := [(26, .aload_n 0)]) (jtb_ok (by decide +kernel)) (pc' := 27) (lv' := [(0, vR t), (1, vI a1), (2, vI a2)]) (st' := [vR t]) rfl ?_
    refine j_getR hx flX8_71 kl1326 h1 (by decide) (by decide +kernel) ?_
    refine j_runA hx 1 (tb := [(30, .iload_n 1)]) (jtb_ok (by decide +kernel)) (pc' := 31) (lv' := [(0, vR t), (1, vI a1), (2, vI a2)]) (st' := [vI a1, vR (jR W 1326 t)]) rfl ?_
    refine j_gd (fun h5 => ?_)
    refine j_iald hx (f := 1326) (o := t) kd1326 rfl (by decide +kernel) h5 ?_
    refine j_runA hx 1 (tb := [(32, .iload_n 2)]) (jtb_ok (by decide +kernel)) (pc' := 33) (lv' := [(0, vR t), (1, vI a1), (2, vI a2)]) (st' := [vI a2, vI (jA W 1326 t (ix a1))]) rfl ?_
    refine j_icmp_eq hx (off := 23) (tgt := 56) (by decide +kernel) (by decide) (fun _ => ?_) (fun _ => ?_)
    · exact wmo_isWay_56 h
    refine j_runA hx 1 (tb := [(36, .aload_n 0)]) (jtb_ok (by decide +kernel)) (pc' := 37) (lv' := [(0, vR t), (1, vI a1), (2, vI a2)]) (st' := [vR t]) rfl ?_
    refine j_getR hx flX8_68 kl1325 h1 (by decide) (by decide +kernel) ?_
    refine j_runA hx 1 (tb := [(40, .iload_n 1)]) (jtb_ok (by decide +kernel)) (pc' := 41) (lv' := [(0, vR t), (1, vI a1), (2, vI a2)]) (st' := [vI a1, vR (jR W 1325 t)]) rfl ?_
    refine j_gd (fun h6 => ?_)
    refine j_iald hx (f := 1325) (o := t) kd1325 rfl (by decide +kernel) h6 ?_
    refine j_runA hx 1 (tb := [(42, .bipush 6)]) (jtb_ok (by decide +kernel)) (pc' := 44) (lv' := [(0, vR t), (1, vI a1), (2, vI a2)]) (st' := [vI (kI 6), vI (jA W 1325 t (ix a1))]) rfl ?_
    refine j_icmp_ne hx (off := 16) (tgt := 60) (by decide +kernel) (by decide) (fun _ => ?_) (fun _ => ?_)
    · exact wmo_isWay_60 h
    refine j_runA hx 1 (tb := [(47, .aload_n 0)]) (jtb_ok (by decide +kernel)) (pc' := 48) (lv' := [(0, vR t), (1, vI a1), (2, vI a2)]) (st' := [vR t]) rfl ?_
    refine j_getR hx flX8_74 kl1327 h1 (by decide) (by decide +kernel) ?_
    refine j_runA hx 1 (tb := [(51, .iload_n 2)]) (jtb_ok (by decide +kernel)) (pc' := 52) (lv' := [(0, vR t), (1, vI a1), (2, vI a2)]) (st' := [vI a2, vR (jR W 1327 t)]) rfl ?_
    refine j_gd (fun h7 => ?_)
    refine j_zald hx (f := 1327) (o := t) kd1327 rfl (by decide +kernel) h7 ?_
    refine j_if_eq hx (off := 7) (tgt := 60) (by decide +kernel) (by decide) (fun _ => ?_) (fun _ => ?_)
    · exact wmo_isWay_60 h
    exact wmo_isWay_56 h
  refine j_runA hx 1 (tb := [(15, .iconst 0)]) (jtb_ok (by decide +kernel)) (pc' := 16) (lv' := [(0, vR t), (1, vI a1), (2, vI a2)]) (st' := [vI (kI 0)]) rfl ?_
  exact j_iret hx hm (by decide +kernel) jz0n (he _)
theorem cmo_isWay (t : Nat) (a1 : Int32) (a2 : Int32) (W : jW) : jM yX8_isWay cX8_isWay 3 (Option.some Jvm.ClassFile.FieldType.boolean) [] 1 13 [vR t, vI a1, vI a2] W ((fmo_isWay t a1 a2 W).bind (fun q => some (.returned (some (.int q)), W))) := 
  jM.of (Nat.le_of_ble_eq_true rfl) (fun x hx hm hr => wmo_isWay ⟨hx, hm, hr, fun _ => rfl⟩)
def hmo_isFirstBlock (x : jCx) (en : (Int32) → Option (Outcome × jW)) (t : Nat) (a1 : Int32) (W : jW) : Prop :=
  jOK x RX8 cX8_isFirstBlock 2 ∧
  jMt x "isFirstBlock" (Option.some Jvm.ClassFile.FieldType.boolean) [] ∧
  jRm x 0 0 ∧
  (∀ q : Int32, en q = some (.returned (some (.int q)), W))
theorem wmo_isFirstBlock {x : jCx} {en : (Int32) → Option (Outcome × jW)} {W : jW} {t : Nat} {a1 : Int32} (h : hmo_isFirstBlock x en t a1 W) : jJ x 2 0 [(0, vR t), (1, vI a1)] [] W (fmo_isFirstBlock t a1 W) en := by
  have h0 := h
  obtain ⟨hx, hm, hr, he⟩ := h0
  unfold fmo_isFirstBlock
  refine j_runA hx 1 (tb := [(0, .aload_n 0)]) (jtb_ok (by decide +kernel)) (pc' := 1) (lv' := [(0, vR t), (1, vI a1)]) (st' := [vR t]) rfl ?_
  refine j_gd (fun h1 => ?_)
  refine j_getR hx flX8_56 kl1321 h1 (by decide) (by decide +kernel) ?_
  refine j_runA hx 1 (tb := [(4, .aload_n 0)]) (jtb_ok (by decide +kernel)) (pc' := 5) (lv' := [(0, vR t), (1, vI a1)]) (st' := [vR t, vR (jR W 1321 t)]) rfl ?_
  refine j_getR hx flX8_65 kl1324 h1 (by decide) (by decide +kernel) ?_
  refine j_runA hx 1 (tb := [(8, .iload_n 1)]) (jtb_ok (by decide +kernel)) (pc' := 9) (lv' := [(0, vR t), (1, vI a1)]) (st' := [vI a1, vR (jR W 1324 t), vR (jR W 1321 t)]) rfl ?_
  refine j_gd (fun h2 => ?_)
  refine j_iald hx (f := 1324) (o := t) kd1324 rfl (by decide +kernel) h2 ?_
  refine j_gd (fun h3 => ?_)
  refine j_iald hx (f := 1321) (o := t) kd1321 rfl (by decide +kernel) h3 ?_
  refine j_runA hx 1 (tb := [(11, .iload_n 1)]) (jtb_ok (by decide +kernel)) (pc' := 12) (lv' := [(0, vR t), (1, vI a1)]) (st' := [vI a1, vI (jA W 1321 t (ix (jA W 1324 t (ix a1))))]) rfl ?_
  refine j_icmp_ne hx (off := 7) (tgt := 19) (by decide +kernel) (by decide) (fun _ => ?_) (fun _ => ?_)
  · refine j_runA hx 1 (tb := [(19, .iconst 0)]) (jtb_ok (by decide +kernel)) (pc' := 20) (lv' := [(0, vR t), (1, vI a1)]) (st' := [vI (kI 0)]) rfl ?_
    exact j_iret hx hm (by decide +kernel) jz0n (he _)
  refine j_runA hx 1 (tb := [(15, .iconst 1)]) (jtb_ok (by decide +kernel)) (pc' := 16) (lv' := [(0, vR t), (1, vI a1)]) (st' := [vI (kI 1)]) rfl ?_
  refine j_goto hx (off := 4) (by decide +kernel) (tgt := 20) (by decide) ?_
  exact j_iret hx hm (by decide +kernel) jz1n (he _)
theorem cmo_isFirstBlock (t : Nat) (a1 : Int32) (W : jW) : jM yX8_isFirstBlock cX8_isFirstBlock 2 (Option.some Jvm.ClassFile.FieldType.boolean) [] 0 0 [vR t, vI a1] W ((fmo_isFirstBlock t a1 W).bind (fun q => some (.returned (some (.int q)), W))) := 
  jM.of (Nat.le_of_ble_eq_true rfl) (fun x hx hm hr => wmo_isFirstBlock ⟨hx, hm, hr, fun _ => rfl⟩)
def hmo_isCallOf (x : jCx) (en : (Int32) → Option (Outcome × jW)) (t : Nat) (a1 : Int32) (a2 : Int32) (W : jW) : Prop :=
  jOK x RX8 cX8_isCallOf 4 ∧
  jMt x "isCallOf" (Option.some Jvm.ClassFile.FieldType.boolean) [] ∧
  jRm x 3 46 ∧
  (∀ q : Int32, en q = some (.returned (some (.int q)), W))
theorem wmo_isCallOf_81 {x : jCx} {en : (Int32) → Option (Outcome × jW)} {W : jW} {t : Nat} {a1 : Int32} {a2 : Int32} (h : hmo_isCallOf x en t a1 a2 W) : jJ x 4 81 [(0, vR t), (1, vI a1), (2, vI a2)] [] W (fmo_isCallOf_81 t a1 a2 W) en := by
  have h0 := h
  obtain ⟨hx, hm, hr, he⟩ := h0
  unfold fmo_isCallOf_81
  refine j_runA hx 1 (tb := [(81, .iconst 0)]) (jtb_ok (by decide +kernel)) (pc' := 82) (lv' := [(0, vR t), (1, vI a1), (2, vI a2)]) (st' := [vI (kI 0)]) rfl ?_
  exact j_iret hx hm (by decide +kernel) jz0n (he _)
theorem wmo_isCallOf_48 {x : jCx} {en : (Int32) → Option (Outcome × jW)} {W : jW} {t : Nat} {a1 : Int32} {a2 : Int32} (h : hmo_isCallOf x en t a1 a2 W) (l3 : Int32) : jJ x 4 48 [(0, vR t), (1, vI a1), (2, vI a2), (3, vI l3)] [] W (fmo_isCallOf_48 t a1 a2 l3 W) en := by
  have h0 := h
  obtain ⟨hx, hm, hr, he⟩ := h0
  unfold fmo_isCallOf_48
  refine j_runA hx 1 (tb := [(48, .aload_n 0)]) (jtb_ok (by decide +kernel)) (pc' := 49) (lv' := [(0, vR t), (1, vI a1), (2, vI a2), (3, vI l3)]) (st' := [vR t]) rfl ?_
  refine j_gd (fun h9 => ?_)
  refine j_getR hx flX8_43 kl1317 h9 (by decide) (by decide +kernel) ?_
  refine j_runA hx 2 (tb := [(52, .iload_n 3), (53, .aload_n 0)]) (jtb_ok (by decide +kernel)) (pc' := 54) (lv' := [(0, vR t), (1, vI a1), (2, vI a2), (3, vI l3)]) (st' := [vR t, vI l3, vR (jR W 1317 t)]) rfl ?_
  refine j_getR hx flX8_36 kl1315 h9 (by decide) (by decide +kernel) ?_
  refine j_runA hx 1 (tb := [(57, .iload_n 3)]) (jtb_ok (by decide +kernel)) (pc' := 58) (lv' := [(0, vR t), (1, vI a1), (2, vI a2), (3, vI l3)]) (st' := [vI l3, vR (jR W 1315 t), vI l3, vR (jR W 1317 t)]) rfl ?_
  refine j_gd (fun h10 => ?_)
  refine j_iald hx (f := 1315) (o := t) kd1315 rfl (by decide +kernel) h10 ?_
  refine j_runA hx 1 (tb := [(59, .aload_n 0)]) (jtb_ok (by decide +kernel)) (pc' := 60) (lv' := [(0, vR t), (1, vI a1), (2, vI a2), (3, vI l3)]) (st' := [vR t, vI (jA W 1315 t (ix l3)), vI l3, vR (jR W 1317 t)]) rfl ?_
  refine j_getR hx flX8_36 kl1315 h9 (by decide) (by decide +kernel) ?_
  refine j_runA hx 1 (tb := [(63, .iload_n 3)]) (jtb_ok (by decide +kernel)) (pc' := 64) (lv' := [(0, vR t), (1, vI a1), (2, vI a2), (3, vI l3)]) (st' := [vI l3, vR (jR W 1315 t), vI (jA W 1315 t (ix l3)), vI l3, vR (jR W 1317 t)]) rfl ?_
  refine j_gd (fun h11 => ?_)
  refine j_iald hx (f := 1315) (o := t) kd1315 rfl (by decide +kernel) h11 ?_
  refine j_TI (j_callS (av := [vI (jA W 1315 t (ix l3))]) (st := [vI (jA W 1315 t (ix l3)), vI l3, vR (jR W 1317 t)]) hx hr (Or.inl q2953) q2954 q241 md_fmo_sort np_fmo_sort (cmo_sort (jA W 1315 t (ix l3)) W) (by decide) (Nat.le_of_ble_eq_true rfl) (by decide +kernel)) ?_
  refine j_TI (j_callS (av := [vI (jA W 1315 t (ix l3)), vI (fmo_sort (jA W 1315 t (ix l3)))]) (st := [vI l3, vR (jR W 1317 t)]) hx hr (Or.inl q3031) q3032 q241 md_fmo_far np_fmo_far (cmo_far (jA W 1315 t (ix l3)) (fmo_sort (jA W 1315 t (ix l3))) W) (by decide) (Nat.le_of_ble_eq_true rfl) (by decide +kernel)) ?_
  refine j_runA hx 1 (tb := [(71, .iadd)]) (jtb_ok (by decide +kernel)) (pc' := 72) (lv' := [(0, vR t), (1, vI a1), (2, vI a2), (3, vI l3)]) (st' := [vI (l3 + (fmo_far (jA W 1315 t (ix l3)) (fmo_sort (jA W 1315 t (ix l3))))), vR (jR W 1317 t)]) rfl ?_
  refine j_gd (fun h12 => ?_)
  refine j_iald hx (f := 1317) (o := t) kd1317 rfl (by decide +kernel) h12 ?_
  refine j_runA hx 1 (tb := [(73, .iload_n 2)]) (jtb_ok (by decide +kernel)) (pc' := 74) (lv' := [(0, vR t), (1, vI a1), (2, vI a2), (3, vI l3)]) (st' := [vI a2, vI (jA W 1317 t (ix (l3 + (fmo_far (jA W 1315 t (ix l3)) (fmo_sort (jA W 1315 t (ix l3)))))))]) rfl ?_
  refine j_icmp_ne hx (off := 7) (tgt := 81) (by decide +kernel) (by decide) (fun _ => ?_) (fun _ => ?_)
  · refine j_lv (lv' := [(0, vR t), (1, vI a1), (2, vI a2)]) ⟨rfl, rfl, rfl, trivial⟩ ?_
    exact wmo_isCallOf_81 h
  refine j_runA hx 1 (tb := [(77, .iconst 1)]) (jtb_ok (by decide +kernel)) (pc' := 78) (lv' := [(0, vR t), (1, vI a1), (2, vI a2), (3, vI l3)]) (st' := [vI (kI 1)]) rfl ?_
  refine j_goto hx (off := 4) (by decide +kernel) (tgt := 82) (by decide) ?_
  exact j_iret hx hm (by decide +kernel) jz1n (he _)
theorem wmo_isCallOf {x : jCx} {en : (Int32) → Option (Outcome × jW)} {W : jW} {t : Nat} {a1 : Int32} {a2 : Int32} (h : hmo_isCallOf x en t a1 a2 W) : jJ x 4 0 [(0, vR t), (1, vI a1), (2, vI a2)] [] W (fmo_isCallOf t a1 a2 W) en := by
  have h0 := h
  obtain ⟨hx, hm, hr, he⟩ := h0
  unfold fmo_isCallOf
  refine j_runA hx 2 (tb := [(0, .aload_n 0), (1, .iload_n 2)]) (jtb_ok (by decide +kernel)) (pc' := 2) (lv' := [(0, vR t), (1, vI a1), (2, vI a2)]) (st' := [vI a2, vR t]) rfl ?_
  refine j_gd (fun h1 => ?_)
  refine j_OI (j_callV (av := [vI a2]) (st := []) hx hr (Or.inl q3118) q3120 qs155 rfl md_fmo_isFirstBlock np_fmo_isFirstBlock (cmo_isFirstBlock t a2 W) (by decide) (Nat.le_of_ble_eq_true rfl) h1 (by decide) (by decide +kernel)) (fun q2 _ => ?_)
  refine j_if_ne hx (off := 5) (tgt := 10) (by decide +kernel) (by decide) (fun _ => ?_) (fun _ => ?_)
  · refine j_runA hx 2 (tb := [(10, .aload_n 0), (11, .iload_n 1)]) (jtb_ok (by decide +kernel)) (pc' := 12) (lv' := [(0, vR t), (1, vI a1), (2, vI a2)]) (st' := [vI a1, vR t]) rfl ?_
    refine j_OI (j_callV (av := [vI a1]) (st := []) hx hr (Or.inl q3063) q3065 qs147 rfl md_fmo_last np_fmo_last (cmo_last t a1 W) (by decide) (Nat.le_of_ble_eq_true rfl) h1 (by decide) (by decide +kernel)) (fun q3 _ => ?_)
    refine j_runA hx 2 (tb := [(15, .istore_n 3), (16, .aload_n 0)]) (jtb_ok (by decide +kernel)) (pc' := 17) (lv' := [(3, vI q3), (0, vR t), (1, vI a1), (2, vI a2)]) (st' := [vR t]) rfl ?_
    refine j_getR hx flX8_68 kl1325 h1 (by decide) (by decide +kernel) ?_
    refine j_runA hx 1 (tb := [(20, .iload_n 1)]) (jtb_ok (by decide +kernel)) (pc' := 21) (lv' := [(3, vI q3), (0, vR t), (1, vI a1), (2, vI a2)]) (st' := [vI a1, vR (jR W 1325 t)]) rfl ?_
    refine j_gd (fun h4 => ?_)
    refine j_iald hx (f := 1325) (o := t) kd1325 rfl (by decide +kernel) h4 ?_
    refine j_runA hx 1 (tb := [(22, .iconst 5)]) (jtb_ok (by decide +kernel)) (pc' := 23) (lv' := [(3, vI q3), (0, vR t), (1, vI a1), (2, vI a2)]) (st' := [vI (kI 5), vI (jA W 1325 t (ix a1))]) rfl ?_
    refine j_icmp_ne hx (off := 5) (tgt := 28) (by decide +kernel) (by decide) (fun _ => ?_) (fun _ => ?_)
    · refine j_runA hx 1 (tb := [(28, .aload_n 0)]) (jtb_ok (by decide +kernel)) (pc' := 29) (lv' := [(3, vI q3), (0, vR t), (1, vI a1), (2, vI a2)]) (st' := [vR t]) rfl ?_
      refine j_getR hx flX8_68 kl1325 h1 (by decide) (by decide +kernel) ?_
      refine j_runA hx 1 (tb := [(32, .iload_n 1)]) (jtb_ok (by decide +kernel)) (pc' := 33) (lv' := [(3, vI q3), (0, vR t), (1, vI a1), (2, vI a2)]) (st' := [vI a1, vR (jR W 1325 t)]) rfl ?_
      refine j_gd (fun h5 => ?_)
      refine j_iald hx (f := 1325) (o := t) kd1325 rfl (by decide +kernel) h5 ?_
      refine j_runA hx 1 (tb := [(34, .iconst 4)]) (jtb_ok (by decide +kernel)) (pc' := 35) (lv' := [(3, vI q3), (0, vR t), (1, vI a1), (2, vI a2)]) (st' := [vI (kI 4), vI (jA W 1325 t (ix a1))]) rfl ?_
      refine j_icmp_eq hx (off := 13) (tgt := 48) (by decide +kernel) (by decide) (fun _ => ?_) (fun _ => ?_)
      · refine j_lv (lv' := [(0, vR t), (1, vI a1), (2, vI a2), (3, vI q3)]) ⟨rfl, rfl, rfl, rfl, trivial⟩ ?_
        exact wmo_isCallOf_48 h q3
      refine j_runA hx 1 (tb := [(38, .aload_n 0)]) (jtb_ok (by decide +kernel)) (pc' := 39) (lv' := [(3, vI q3), (0, vR t), (1, vI a1), (2, vI a2)]) (st' := [vR t]) rfl ?_
      refine j_getR hx flX8_68 kl1325 h1 (by decide) (by decide +kernel) ?_
      refine j_runA hx 1 (tb := [(42, .iload_n 1)]) (jtb_ok (by decide +kernel)) (pc' := 43) (lv' := [(3, vI q3), (0, vR t), (1, vI a1), (2, vI a2)]) (st' := [vI a1, vR (jR W 1325 t)]) rfl ?_
      refine j_gd (fun h6 => ?_)
      refine j_iald hx (f := 1325) (o := t) kd1325 rfl (by decide +kernel) h6 ?_
      refine j_runA hx 1 (tb := [(44, .iconst 2)]) (jtb_ok (by decide +kernel)) (pc' := 45) (lv' := [(3, vI q3), (0, vR t), (1, vI a1), (2, vI a2)]) (st' := [vI (kI 2), vI (jA W 1325 t (ix a1))]) rfl ?_
      refine j_icmp_ne hx (off := 36) (tgt := 81) (by decide +kernel) (by decide) (fun _ => ?_) (fun _ => ?_)
      · refine j_lv (lv' := [(0, vR t), (1, vI a1), (2, vI a2)]) ⟨rfl, rfl, rfl, trivial⟩ ?_
        exact wmo_isCallOf_81 h
      refine j_lv (lv' := [(0, vR t), (1, vI a1), (2, vI a2), (3, vI q3)]) ⟨rfl, rfl, rfl, rfl, trivial⟩ ?_
      exact wmo_isCallOf_48 h q3
    refine j_runA hx 1 (tb := [(26, .iconst 1)]) (jtb_ok (by decide +kernel)) (pc' := 27) (lv' := [(3, vI q3), (0, vR t), (1, vI a1), (2, vI a2)]) (st' := [vI (kI 1)]) rfl ?_
    exact j_iret hx hm (by decide +kernel) jz1n (he _)
  refine j_runA hx 1 (tb := [(8, .iconst 0)]) (jtb_ok (by decide +kernel)) (pc' := 9) (lv' := [(0, vR t), (1, vI a1), (2, vI a2)]) (st' := [vI (kI 0)]) rfl ?_
  exact j_iret hx hm (by decide +kernel) jz0n (he _)
theorem cmo_isCallOf (t : Nat) (a1 : Int32) (a2 : Int32) (W : jW) : jM yX8_isCallOf cX8_isCallOf 4 (Option.some Jvm.ClassFile.FieldType.boolean) [] 3 46 [vR t, vI a1, vI a2] W ((fmo_isCallOf t a1 a2 W).bind (fun q => some (.returned (some (.int q)), W))) := 
  jM.of (Nat.le_of_ble_eq_true rfl) (fun x hx hm hr => wmo_isCallOf ⟨hx, hm, hr, fun _ => rfl⟩)
def hmo_more (x : jCx) (en : (fmo_more_S ⊕ (jW)) → Option (Outcome × jW)) (t : Nat) : Prop :=
  jOK x RX8 cX8_more 6 ∧
  jMt x "more" (Option.none : Option Jvm.ClassFile.FieldType) [] ∧
  jRm x 0 0 ∧
  (∀ q : jW, en (.inr q) = some (.returned none, q)) ∧
  (∀ (l1 : Nat) (l2 : Nat) (l3 : Nat) (l4 : Nat) (l5 : Int32) (W : jW), jJ x 6 40 [(0, vR t), (1, vR l1), (2, vR l2), (3, vR l3), (4, vR l4), (5, vI l5)] [] W (some (.inl (l1, l2, l3, l4, l5, W))) en)
theorem wmo_more_40 {x : jCx} {en : (fmo_more_S ⊕ (jW)) → Option (Outcome × jW)} {t : Nat} (h : hmo_more x en t) (l1 : Nat) (l2 : Nat) (l3 : Nat) (l4 : Nat) (l5 : Int32) (W : jW) : jJ x 6 40 [(0, vR t), (1, vR l1), (2, vR l2), (3, vR l3), (4, vR l4), (5, vI l5)] [] W (fmo_more_40 t l1 l2 l3 l4 l5 W) en := by
  have h0 := h
  obtain ⟨hx, hm, hr, he, k40⟩ := h0
  unfold fmo_more_40
  refine j_runA hx 2 (tb := [(40, .iload 5), (42, .aload_n 0)]) (jtb_ok (by decide +kernel)) (pc' := 43) (lv' := [(0, vR t), (1, vR l1), (2, vR l2), (3, vR l3), (4, vR l4), (5, vI l5)]) (st' := [vR t, vI l5]) rfl ?_
  refine j_gd (fun h27 => ?_)
  refine j_getI hx flX8_272 kd1329 h27 (by decide) (by decide +kernel) ?_
  refine j_icmp_ge hx (off := 54) (tgt := 100) (by decide +kernel) (by decide) (fun _ => ?_) (fun _ => ?_)
  · refine j_runA hx 2 (tb := [(100, .aload_n 0), (101, .aload_n 1)]) (jtb_ok (by decide +kernel)) (pc' := 102) (lv' := [(0, vR t), (1, vR l1), (2, vR l2), (3, vR l3), (4, vR l4), (5, vI l5)]) (st' := [vR l1, vR t]) rfl ?_
    refine j_gd (fun h28 => ?_)
    refine j_att hx fwX8_77 wf1330 ka1330 (by decide) h27 (by decide) nr1330 fr1330 (by decide +kernel) h28 ?_
    refine j_ltw rfl (fun W29 hc30 => ?_)
    have h31 : jC W29 t = 13 := (congrFun hc30 _).trans h27
    refine j_runA hx 2 (tb := [(105, .aload_n 0), (106, .aload_n 2)]) (jtb_ok (by decide +kernel)) (pc' := 107) (lv' := [(0, vR t), (1, vR l1), (2, vR l2), (3, vR l3), (4, vR l4), (5, vI l5)]) (st' := [vR l2, vR t]) rfl ?_
    refine j_gd (fun h33 => ?_)
    refine j_att hx fwX8_80 wf1331 ka1331 (by decide) h31 (by decide) nr1331 fr1331 (by decide +kernel) h33 ?_
    refine j_ltw rfl (fun W34 hc35 => ?_)
    have h36 : jC W34 t = 13 := (congrFun hc35 _).trans h31
    refine j_runA hx 2 (tb := [(110, .aload_n 0), (111, .aload_n 3)]) (jtb_ok (by decide +kernel)) (pc' := 112) (lv' := [(0, vR t), (1, vR l1), (2, vR l2), (3, vR l3), (4, vR l4), (5, vI l5)]) (st' := [vR l3, vR t]) rfl ?_
    refine j_gd (fun h38 => ?_)
    refine j_att hx fwX8_83 wf1332 ka1332 (by decide) h36 (by decide) nr1332 fr1332 (by decide +kernel) h38 ?_
    refine j_ltw rfl (fun W39 hc40 => ?_)
    have h41 : jC W39 t = 13 := (congrFun hc40 _).trans h36
    refine j_runA hx 2 (tb := [(115, .aload_n 0), (116, .aload 4)]) (jtb_ok (by decide +kernel)) (pc' := 118) (lv' := [(0, vR t), (1, vR l1), (2, vR l2), (3, vR l3), (4, vR l4), (5, vI l5)]) (st' := [vR l4, vR t]) rfl ?_
    refine j_gd (fun h43 => ?_)
    refine j_attB hx fwX8_86 wf1333 kd1333 (by decide) h41 (by decide) nr1333 fr1333 (by decide +kernel) h43 ?_
    refine j_ltw rfl (fun W44 hc45 => ?_)
    have h46 : jC W44 t = 13 := (congrFun hc45 _).trans h41
    exact j_vret hx hm (by decide +kernel) (he _)
  refine j_runA hx 3 (tb := [(49, .aload_n 1), (50, .iload 5), (52, .aload_n 0)]) (jtb_ok (by decide +kernel)) (pc' := 53) (lv' := [(0, vR t), (1, vR l1), (2, vR l2), (3, vR l3), (4, vR l4), (5, vI l5)]) (st' := [vR t, vI l5, vR l1]) rfl ?_
  refine j_getR hx flX8_77 kl1330 h27 (by decide) (by decide +kernel) ?_
  refine j_runA hx 1 (tb := [(56, .iload 5)]) (jtb_ok (by decide +kernel)) (pc' := 58) (lv' := [(0, vR t), (1, vR l1), (2, vR l2), (3, vR l3), (4, vR l4), (5, vI l5)]) (st' := [vI l5, vR (jR W 1330 t), vI l5, vR l1]) rfl ?_
  refine j_gd (fun h48 => ?_)
  refine j_iald hx (f := 1330) (o := t) kd1330 rfl (by decide +kernel) h48 ?_
  refine j_gd (fun h49 => ?_)
  refine j_gd (fun h50 => ?_)
  refine j_iast hx (f := 9003) (o := l1) kd9003 h49 (by decide +kernel) h50 ?_
  refine j_ltw rfl (fun W51 hc52 => ?_)
  have h53 : jC W51 t = 13 := (congrFun hc52 _).trans h27
  refine j_runA hx 3 (tb := [(60, .aload_n 2), (61, .iload 5), (63, .aload_n 0)]) (jtb_ok (by decide +kernel)) (pc' := 64) (lv' := [(0, vR t), (1, vR l1), (2, vR l2), (3, vR l3), (4, vR l4), (5, vI l5)]) (st' := [vR t, vI l5, vR l2]) rfl ?_
  refine j_getR hx flX8_80 kl1331 h53 (by decide) (by decide +kernel) ?_
  refine j_runA hx 1 (tb := [(67, .iload 5)]) (jtb_ok (by decide +kernel)) (pc' := 69) (lv' := [(0, vR t), (1, vR l1), (2, vR l2), (3, vR l3), (4, vR l4), (5, vI l5)]) (st' := [vI l5, vR (jR W51 1331 t), vI l5, vR l2]) rfl ?_
  refine j_gd (fun h55 => ?_)
  refine j_iald hx (f := 1331) (o := t) kd1331 rfl (by decide +kernel) h55 ?_
  refine j_gd (fun h56 => ?_)
  refine j_gd (fun h57 => ?_)
  refine j_iast hx (f := 9003) (o := l2) kd9003 h56 (by decide +kernel) h57 ?_
  refine j_ltw rfl (fun W58 hc59 => ?_)
  have h60 : jC W58 t = 13 := (congrFun hc59 _).trans h53
  refine j_runA hx 3 (tb := [(71, .aload_n 3), (72, .iload 5), (74, .aload_n 0)]) (jtb_ok (by decide +kernel)) (pc' := 75) (lv' := [(0, vR t), (1, vR l1), (2, vR l2), (3, vR l3), (4, vR l4), (5, vI l5)]) (st' := [vR t, vI l5, vR l3]) rfl ?_
  refine j_getR hx flX8_83 kl1332 h60 (by decide) (by decide +kernel) ?_
  refine j_runA hx 1 (tb := [(78, .iload 5)]) (jtb_ok (by decide +kernel)) (pc' := 80) (lv' := [(0, vR t), (1, vR l1), (2, vR l2), (3, vR l3), (4, vR l4), (5, vI l5)]) (st' := [vI l5, vR (jR W58 1332 t), vI l5, vR l3]) rfl ?_
  refine j_gd (fun h62 => ?_)
  refine j_zald hx (f := 1332) (o := t) kd1332 rfl (by decide +kernel) h62 ?_
  refine j_gd (fun h63 => ?_)
  refine j_gd (fun h64 => ?_)
  refine j_zast hx (f := 9005) (o := l3) kd9005 h63 (by decide +kernel) h64 ?_
  refine j_ltw rfl (fun W65 hc66 => ?_)
  have h67 : jC W65 t = 13 := (congrFun hc66 _).trans h60
  refine j_runA hx 3 (tb := [(82, .aload 4), (84, .iload 5), (86, .aload_n 0)]) (jtb_ok (by decide +kernel)) (pc' := 87) (lv' := [(0, vR t), (1, vR l1), (2, vR l2), (3, vR l3), (4, vR l4), (5, vI l5)]) (st' := [vR t, vI l5, vR l4]) rfl ?_
  refine j_getR hx flX8_86 kl1333 h67 (by decide) (by decide +kernel) ?_
  refine j_runA hx 1 (tb := [(90, .iload 5)]) (jtb_ok (by decide +kernel)) (pc' := 92) (lv' := [(0, vR t), (1, vR l1), (2, vR l2), (3, vR l3), (4, vR l4), (5, vI l5)]) (st' := [vI l5, vR (jR W65 1333 t), vI l5, vR l4]) rfl ?_
  refine j_gd (fun h69 => ?_)
  refine j_lald hx (f := 1333) (o := t) kd1333 rfl (by decide +kernel) h69 ?_
  refine j_gd (fun h70 => ?_)
  refine j_gd (fun h71 => ?_)
  refine j_last hx (f := 9006) (o := l4) kd9006 h70 (by decide +kernel) h71 ?_
  refine j_ltw rfl (fun W72 hc73 => ?_)
  have h74 : jC W72 t = 13 := (congrFun hc73 _).trans h67
  refine j_runA hx 1 (tb := [(94, .iinc 5 1)]) (jtb_ok (by decide +kernel)) (pc' := 97) (lv' := [(5, vI (l5 + (kI 1))), (0, vR t), (1, vR l1), (2, vR l2), (3, vR l3), (4, vR l4)]) (st' := []) rfl ?_
  refine j_let (v := (l5 + (kI 1))) (lv := fun v76 => [(5, vI v76), (0, vR t), (1, vR l1), (2, vR l2), (3, vR l3), (4, vR l4)]) (st := fun _ => []) (fun v76 => ?_)
  refine j_goto hx (off := -57) (by decide +kernel) (tgt := 40) (by decide) ?_
  refine j_lv (lv' := [(0, vR t), (1, vR l1), (2, vR l2), (3, vR l3), (4, vR l4), (5, vI v76)]) ⟨rfl, rfl, rfl, rfl, rfl, rfl, trivial⟩ ?_
  exact k40 l1 l2 l3 l4 v76 W72
theorem wmo_more {x : jCx} {en : (fmo_more_S ⊕ (jW)) → Option (Outcome × jW)} {t : Nat} (h : hmo_more x en t) (W : jW) : jJ x 6 0 [(0, vR t)] [] W (fmo_more_0 t W) en := by
  have h0 := h
  obtain ⟨hx, hm, hr, he, k40⟩ := h0
  unfold fmo_more_0
  refine j_runA hx 2 (tb := [(0, .iconst 2), (1, .aload_n 0)]) (jtb_ok (by decide +kernel)) (pc' := 2) (lv' := [(0, vR t)]) (st' := [vR t, vI (kI 2)]) rfl ?_
  refine j_gd (fun h1 => ?_)
  refine j_getI hx flX8_272 kd1329 h1 (by decide) (by decide +kernel) ?_
  refine j_runA hx 1 (tb := [(5, .imul)]) (jtb_ok (by decide +kernel)) (pc' := 6) (lv' := [(0, vR t)]) (st' := [vI ((kI 2) * (jI W 1329 t))]) rfl ?_
  refine j_gd (fun h2 => ?_)
  refine j_newA hx (f := 9003) (by decide) ka9003 ja9003_3 (by decide +kernel) h2 ?_
  refine j_ltw rfl (fun W3 hc4 => ?_)
  have h5 : jC W3 t = 13 := (congrFun hc4 _).trans h1
  refine j_runA hx 1 (tb := [(8, .astore_n 1)]) (jtb_ok (by decide +kernel)) (pc' := 9) (lv' := [(1, vR (jX W)), (0, vR t)]) (st' := []) rfl ?_
  refine j_let (v := (jX W)) (lv := fun v7 => [(1, vR v7), (0, vR t)]) (st := fun _ => []) (fun v7 => ?_)
  refine j_runA hx 2 (tb := [(9, .iconst 2), (10, .aload_n 0)]) (jtb_ok (by decide +kernel)) (pc' := 11) (lv' := [(1, vR v7), (0, vR t)]) (st' := [vR t, vI (kI 2)]) rfl ?_
  refine j_getI hx flX8_272 kd1329 h5 (by decide) (by decide +kernel) ?_
  refine j_runA hx 1 (tb := [(14, .imul)]) (jtb_ok (by decide +kernel)) (pc' := 15) (lv' := [(1, vR v7), (0, vR t)]) (st' := [vI ((kI 2) * (jI W3 1329 t))]) rfl ?_
  refine j_gd (fun h8 => ?_)
  refine j_newA hx (f := 9003) (by decide) ka9003 ja9003_3 (by decide +kernel) h8 ?_
  refine j_ltw rfl (fun W9 hc10 => ?_)
  have h11 : jC W9 t = 13 := (congrFun hc10 _).trans h5
  refine j_runA hx 1 (tb := [(17, .astore_n 2)]) (jtb_ok (by decide +kernel)) (pc' := 18) (lv' := [(2, vR (jX W3)), (1, vR v7), (0, vR t)]) (st' := []) rfl ?_
  refine j_let (v := (jX W3)) (lv := fun v13 => [(2, vR v13), (1, vR v7), (0, vR t)]) (st := fun _ => []) (fun v13 => ?_)
  refine j_runA hx 2 (tb := [(18, .iconst 2), (19, .aload_n 0)]) (jtb_ok (by decide +kernel)) (pc' := 20) (lv' := [(2, vR v13), (1, vR v7), (0, vR t)]) (st' := [vR t, vI (kI 2)]) rfl ?_
  refine j_getI hx flX8_272 kd1329 h11 (by decide) (by decide +kernel) ?_
  refine j_runA hx 1 (tb := [(23, .imul)]) (jtb_ok (by decide +kernel)) (pc' := 24) (lv' := [(2, vR v13), (1, vR v7), (0, vR t)]) (st' := [vI ((kI 2) * (jI W9 1329 t))]) rfl ?_
  refine j_gd (fun h14 => ?_)
  refine j_newA hx (f := 9005) (by decide) ka9005 ja9005_5 (by decide +kernel) h14 ?_
  refine j_ltw rfl (fun W15 hc16 => ?_)
  have h17 : jC W15 t = 13 := (congrFun hc16 _).trans h11
  refine j_runA hx 1 (tb := [(26, .astore_n 3)]) (jtb_ok (by decide +kernel)) (pc' := 27) (lv' := [(3, vR (jX W9)), (2, vR v13), (1, vR v7), (0, vR t)]) (st' := []) rfl ?_
  refine j_let (v := (jX W9)) (lv := fun v19 => [(3, vR v19), (2, vR v13), (1, vR v7), (0, vR t)]) (st := fun _ => []) (fun v19 => ?_)
  refine j_runA hx 2 (tb := [(27, .iconst 2), (28, .aload_n 0)]) (jtb_ok (by decide +kernel)) (pc' := 29) (lv' := [(3, vR v19), (2, vR v13), (1, vR v7), (0, vR t)]) (st' := [vR t, vI (kI 2)]) rfl ?_
  refine j_getI hx flX8_272 kd1329 h17 (by decide) (by decide +kernel) ?_
  refine j_runA hx 1 (tb := [(32, .imul)]) (jtb_ok (by decide +kernel)) (pc' := 33) (lv' := [(3, vR v19), (2, vR v13), (1, vR v7), (0, vR t)]) (st' := [vI ((kI 2) * (jI W15 1329 t))]) rfl ?_
  refine j_gd (fun h20 => ?_)
  refine j_newB hx (f := 9006) (by decide) kd9006 ja9006_6 (by decide +kernel) h20 ?_
  refine j_ltw rfl (fun W21 hc22 => ?_)
  have h23 : jC W21 t = 13 := (congrFun hc22 _).trans h17
  refine j_runA hx 1 (tb := [(35, .astore 4)]) (jtb_ok (by decide +kernel)) (pc' := 37) (lv' := [(4, vR (jX W15)), (3, vR v19), (2, vR v13), (1, vR v7), (0, vR t)]) (st' := []) rfl ?_
  refine j_let (v := (jX W15)) (lv := fun v25 => [(4, vR v25), (3, vR v19), (2, vR v13), (1, vR v7), (0, vR t)]) (st := fun _ => []) (fun v25 => ?_)
  refine j_runA hx 2 (tb := [(37, .iconst 0), (38, .istore 5)]) (jtb_ok (by decide +kernel)) (pc' := 40) (lv' := [(5, vI (kI 0)), (4, vR v25), (3, vR v19), (2, vR v13), (1, vR v7), (0, vR t)]) (st' := []) rfl ?_
  refine j_lv (lv' := [(0, vR t), (1, vR v7), (2, vR v13), (3, vR v19), (4, vR v25), (5, vI (kI 0))]) ⟨rfl, rfl, rfl, rfl, rfl, rfl, trivial⟩ ?_
  exact k40 v7 v13 v19 v25 (kI 0) W21
theorem cmo_more (t : Nat) (W : jW) : jM yX8_more cX8_more 6 (Option.none : Option Jvm.ClassFile.FieldType) [] 0 0 [vR t] W ((fmo_more t W).bind (fun q => some (.returned none, q))) := by
  refine jM.of (Nat.le_of_ble_eq_true rfl) (fun x hx hm hr => ?_)
  refine j_begin (P := (fun s => (40, [(0, vR t), (1, vR s.1), (2, vR s.2.1), (3, vR s.2.2.1), (4, vR s.2.2.2.1), (5, vI s.2.2.2.2.1)], s.2.2.2.2.2))) (fun en he hk => ?_)
  have h : hmo_more x en t := ⟨hx, hm, hr, fun q => he _, fun l1 l2 l3 l4 l5 W => hk (l1, l2, l3, l4, l5, W)⟩
  exact ⟨fun s => wmo_more_40 h s.1 s.2.1 s.2.2.1 s.2.2.2.1 s.2.2.2.2.1 s.2.2.2.2.2, wmo_more h W⟩
