/-! ===== walks: fsh_field fsh_head fcl_isAbove fsh_segment fsh_headOf ===== -/
set_option maxRecDepth 100000
def hsh_field (x : jCx) (en : ((Nat × jW) ⊕ jW) → Option (Outcome × jW)) (t : Nat) (a1 : Int32) (a2 : Int32) (a3 : Int64) : Prop :=
  jOK x RX3 cX3_field 7 ∧
  jMt x "field" (Option.none : Option Jvm.ClassFile.FieldType) [] ∧
  jRm x 6 83 ∧
  (∀ q : jW, en (.inr q) = some (.returned none, q)) ∧
  (∀ z : Nat × jW, en (.inl z) = some (.threw (z.1 - 1), z.2))
theorem wsh_field_64 {x : jCx} {en : ((Nat × jW) ⊕ jW) → Option (Outcome × jW)} {t : Nat} {a1 : Int32} {a2 : Int32} {a3 : Int64} (h : hsh_field x en t a1 a2 a3) (s0 : Int32) (s1 : Nat) (W : jW) : jJ x 7 64 [(0, vR t), (1, vI a1), (2, vI a2), (3, vL a3)] [vI s0, vR s1] W (fsh_field_64 t a1 a2 a3 s0 s1 W) en := by
  have h0 := h
  obtain ⟨hx, hm, hr, he, ht⟩ := h0
  unfold fsh_field_64
  refine j_runA hx 2 (tb := [(64, .iconst 1), (65, .iload_n 1)]) (jtb_ok (by decide +kernel)) (pc' := 66) (lv' := [(0, vR t), (1, vI a1), (2, vI a2), (3, vL a3)]) (st' := [vI a1, vI (kI 1), vI s0, vR s1]) rfl ?_
  refine j_gd (fun h13 => ?_)
  refine j_EV (j_callV (av := [vI s0, vI (kI 1), vI a1]) (st := []) hx hr (Or.inl q757) q758 q759 rfl md_ftr_must np_ftr_must (ctr_must s1 s0 (kI 1) a1 W) (by decide) (Nat.le_of_ble_eq_true rfl) h13 (by decide) (by decide +kernel)) (fun z _ r h9 => j_upE hm hx (ht z) h9) (fun q14 _ => ?_)
  exact j_vret hx hm (by decide +kernel) (he _)
theorem wsh_field_46 {x : jCx} {en : ((Nat × jW) ⊕ jW) → Option (Outcome × jW)} {t : Nat} {a1 : Int32} {a2 : Int32} {a3 : Int64} (h : hsh_field x en t a1 a2 a3) (s0 : Int64) (W : jW) : jJ x 7 46 [(0, vR t), (1, vI a1), (2, vI a2), (3, vL a3)] [vL s0] W (fsh_field_46 t a1 a2 a3 s0 W) en := by
  have h0 := h
  obtain ⟨hx, hm, hr, he, ht⟩ := h0
  unfold fsh_field_46
  refine j_runA hx 2 (tb := [(46, .lstore 5), (48, .aload_n 0)]) (jtb_ok (by decide +kernel)) (pc' := 49) (lv' := [(5, vL s0), (0, vR t), (1, vI a1), (2, vI a2), (3, vL a3)]) (st' := [vR t]) rfl ?_
  refine j_gd (fun h11 => ?_)
  refine j_getR hx flX3_53 kl400 h11 (by decide) (by decide +kernel) ?_
  refine j_runA hx 2 (tb := [(52, .lload 5), (54, .lload_n 3)]) (jtb_ok (by decide +kernel)) (pc' := 55) (lv' := [(5, vL s0), (0, vR t), (1, vI a1), (2, vI a2), (3, vL a3)]) (st' := [vL a3, vL s0, vR (jR W 400 t)]) rfl ?_
  refine j_lcmp_ne hx (off := 7) (tgt := 63) (by decide +kernel) (by decide +kernel) (by decide) (fun _ => ?_) (fun _ => ?_)
  · refine j_runA hx 1 (tb := [(63, .iconst 0)]) (jtb_ok (by decide +kernel)) (pc' := 64) (lv' := [(5, vL s0), (0, vR t), (1, vI a1), (2, vI a2), (3, vL a3)]) (st' := [vI (kI 0), vR (jR W 400 t)]) rfl ?_
    refine j_lv (lv' := [(0, vR t), (1, vI a1), (2, vI a2), (3, vL a3)]) ⟨rfl, rfl, rfl, rfl, trivial⟩ ?_
    exact wsh_field_64 h (kI 0) (jR W 400 t) W
  refine j_runA hx 1 (tb := [(59, .iconst 1)]) (jtb_ok (by decide +kernel)) (pc' := 60) (lv' := [(5, vL s0), (0, vR t), (1, vI a1), (2, vI a2), (3, vL a3)]) (st' := [vI (kI 1), vR (jR W 400 t)]) rfl ?_
  refine j_goto hx (off := 4) (by decide +kernel) (tgt := 64) (by decide) ?_
  refine j_lv (lv' := [(0, vR t), (1, vI a1), (2, vI a2), (3, vL a3)]) ⟨rfl, rfl, rfl, rfl, trivial⟩ ?_
  exact wsh_field_64 h (kI 1) (jR W 400 t) W
theorem wsh_field {x : jCx} {en : ((Nat × jW) ⊕ jW) → Option (Outcome × jW)} {t : Nat} {a1 : Int32} {a2 : Int32} {a3 : Int64} (h : hsh_field x en t a1 a2 a3) (W : jW) : jJ x 7 0 [(0, vR t), (1, vI a1), (2, vI a2), (3, vL a3)] [] W (fsh_field t a1 a2 a3 W) en := by
  have h0 := h
  obtain ⟨hx, hm, hr, he, ht⟩ := h0
  unfold fsh_field
  refine j_runA hx 2 (tb := [(0, .iload_n 2), (1, .iconst 2)]) (jtb_ok (by decide +kernel)) (pc' := 2) (lv' := [(0, vR t), (1, vI a1), (2, vI a2), (3, vL a3)]) (st' := [vI (kI 2), vI a2]) rfl ?_
  refine j_icmp_ne hx (off := 15) (tgt := 17) (by decide +kernel) (by decide) (fun _ => ?_) (fun _ => ?_)
  · refine j_runA hx 2 (tb := [(17, .iload_n 2), (18, .iconst 4)]) (jtb_ok (by decide +kernel)) (pc' := 19) (lv' := [(0, vR t), (1, vI a1), (2, vI a2), (3, vL a3)]) (st' := [vI (kI 4), vI a2]) rfl ?_
    refine j_icmp_ne hx (off := 19) (tgt := 38) (by decide +kernel) (by decide) (fun _ => ?_) (fun _ => ?_)
    · refine j_runA hx 1 (tb := [(38, .aload_n 0)]) (jtb_ok (by decide +kernel)) (pc' := 39) (lv' := [(0, vR t), (1, vI a1), (2, vI a2), (3, vL a3)]) (st' := [vR t]) rfl ?_
      refine j_gd (fun h1 => ?_)
      refine j_getR hx flX3_57 kl401 h1 (by decide) (by decide +kernel) ?_
      refine j_runA hx 1 (tb := [(42, .iload_n 1)]) (jtb_ok (by decide +kernel)) (pc' := 43) (lv' := [(0, vR t), (1, vI a1), (2, vI a2), (3, vL a3)]) (st' := [vI a1, vR (jR W 401 t)]) rfl ?_
      refine j_gd (fun h2 => ?_)
      refine j_OL (h2.elim (fun hh => j_callU (av := [vI a1]) (st := []) hx hr q761 q763 (hde_fsr_pair) (by decide) q762 q764 rfl md_fsr_pair np_fsr_pair (csr_pair (jR W 401 t) a1 W) (by decide) (Nat.le_of_ble_eq_true rfl) hh (by decide) (by decide +kernel)) (fun hh => j_callU (av := [vI a1]) (st := []) hx hr q761 q763 (hde_fsr_pair) (by decide) q762 q765 rfl md_fsr_pair np_fsr_pair (csr_pair (jR W 401 t) a1 W) (by decide) (Nat.le_of_ble_eq_true rfl) hh (by decide) (by decide +kernel))) (fun q3 _ => ?_)
      exact wsh_field_46 h q3 W
    refine j_runA hx 1 (tb := [(22, .aload_n 0)]) (jtb_ok (by decide +kernel)) (pc' := 23) (lv' := [(0, vR t), (1, vI a1), (2, vI a2), (3, vL a3)]) (st' := [vR t]) rfl ?_
    refine j_gd (fun h4 => ?_)
    refine j_getR hx flX3_57 kl401 h4 (by decide) (by decide +kernel) ?_
    refine j_runA hx 1 (tb := [(26, .iload_n 1)]) (jtb_ok (by decide +kernel)) (pc' := 27) (lv' := [(0, vR t), (1, vI a1), (2, vI a2), (3, vL a3)]) (st' := [vI a1, vR (jR W 401 t)]) rfl ?_
    refine j_gd (fun h5 => ?_)
    refine j_OI (h5.elim (fun hh => j_callU (av := [vI a1]) (st := []) hx hr q808 q769 (hde_fsr_word) (by decide) q768 q770 rfl md_fsr_word np_fsr_word (csr_word (jR W 401 t) a1 W) (by decide) (Nat.le_of_ble_eq_true rfl) hh (by decide) (by decide +kernel)) (fun hh => j_callU (av := [vI a1]) (st := []) hx hr q808 q769 (hde_fsr_word) (by decide) q768 q771 rfl md_fsr_word np_fsr_word (csr_word (jR W 401 t) a1 W) (by decide) (Nat.le_of_ble_eq_true rfl) hh (by decide) (by decide +kernel))) (fun q6 _ => ?_)
    refine j_runA hx 1 (tb := [(30, .i2l)]) (jtb_ok (by decide +kernel)) (pc' := 31) (lv' := [(0, vR t), (1, vI a1), (2, vI a2), (3, vL a3)]) (st' := [vL q6.toInt64]) rfl ?_
    refine j_ldc2 hx (v := (kJ 4294967295)) (jkd2 q809 (by decide +kernel)) (by decide +kernel) ?_
    refine j_runA hx 1 (tb := [(34, .land)]) (jtb_ok (by decide +kernel)) (pc' := 35) (lv' := [(0, vR t), (1, vI a1), (2, vI a2), (3, vL a3)]) (st' := [vL (q6.toInt64 &&& (kJ 4294967295))]) rfl ?_
    refine j_goto hx (off := 11) (by decide +kernel) (tgt := 46) (by decide) ?_
    exact wsh_field_46 h (q6.toInt64 &&& (kJ 4294967295)) W
  refine j_runA hx 1 (tb := [(5, .aload_n 0)]) (jtb_ok (by decide +kernel)) (pc' := 6) (lv' := [(0, vR t), (1, vI a1), (2, vI a2), (3, vL a3)]) (st' := [vR t]) rfl ?_
  refine j_gd (fun h7 => ?_)
  refine j_getR hx flX3_57 kl401 h7 (by decide) (by decide +kernel) ?_
  refine j_runA hx 1 (tb := [(9, .iload_n 1)]) (jtb_ok (by decide +kernel)) (pc' := 10) (lv' := [(0, vR t), (1, vI a1), (2, vI a2), (3, vL a3)]) (st' := [vI a1, vR (jR W 401 t)]) rfl ?_
  refine j_gd (fun h8 => ?_)
  refine j_OI (h8.elim (fun hh => j_callU (av := [vI a1]) (st := []) hx hr q807 q775 (hde_fsr_half) (by decide) q774 q776 rfl md_fsr_half np_fsr_half (csr_half (jR W 401 t) a1 W) (by decide) (Nat.le_of_ble_eq_true rfl) hh (by decide) (by decide +kernel)) (fun hh => j_callU (av := [vI a1]) (st := []) hx hr q807 q775 (hde_fsr_half) (by decide) q774 q777 rfl md_fsr_half np_fsr_half (csr_half (jR W 401 t) a1 W) (by decide) (Nat.le_of_ble_eq_true rfl) hh (by decide) (by decide +kernel))) (fun q9 _ => ?_)
  refine j_runA hx 1 (tb := [(13, .i2l)]) (jtb_ok (by decide +kernel)) (pc' := 14) (lv' := [(0, vR t), (1, vI a1), (2, vI a2), (3, vL a3)]) (st' := [vL q9.toInt64]) rfl ?_
  refine j_goto hx (off := 32) (by decide +kernel) (tgt := 46) (by decide) ?_
  exact wsh_field_46 h q9.toInt64 W
theorem csh_field (t : Nat) (a1 : Int32) (a2 : Int32) (a3 : Int64) (W : jW) : jM yX3_field cX3_field 7 (Option.none : Option Jvm.ClassFile.FieldType) [] 6 83 [vR t, vI a1, vI a2, vL a3] W ((fsh_field t a1 a2 a3 W).bind (fun q => some (Sum.elim (fun z => (.threw (z.1 - 1), z.2)) (fun q => (.returned none, q)) q))) := 
  jM.of (Nat.le_of_ble_eq_true rfl) (fun x hx hm hr => wsh_field ⟨hx, hm, hr, fun _ => rfl, fun _ => rfl⟩ W)
def hsh_head (x : jCx) (en : ((Nat × jW) ⊕ jW) → Option (Outcome × jW)) (t : Nat) : Prop :=
  jOK x RX3 cX3_head 4 ∧
  jMt x "head" (Option.none : Option Jvm.ClassFile.FieldType) [] ∧
  jRm x 7 101 ∧
  (∀ q : jW, en (.inr q) = some (.returned none, q)) ∧
  (∀ z : Nat × jW, en (.inl z) = some (.threw (z.1 - 1), z.2))
theorem wsh_head_367 {x : jCx} {en : ((Nat × jW) ⊕ jW) → Option (Outcome × jW)} {t : Nat} (h : hsh_head x en t) (l2 : Int64) (s0 : Int32) (s1 : Nat) (W : jW) : jJ x 4 367 [(0, vR t), (2, vL l2)] [vI s0, vR s1] W (fsh_head_367 t l2 s0 s1 W) en := by
  have h0 := h
  obtain ⟨hx, hm, hr, he, ht⟩ := h0
  unfold fsh_head_367
  refine j_runA hx 2 (tb := [(367, .iconst 1), (368, .bipush 40)]) (jtb_ok (by decide +kernel)) (pc' := 370) (lv' := [(0, vR t), (2, vL l2)]) (st' := [vI (kI 40), vI (kI 1), vI s0, vR s1]) rfl ?_
  refine j_gd (fun h91 => ?_)
  refine j_EV (j_callV (av := [vI s0, vI (kI 1), vI (kI 40)]) (st := []) hx hr (Or.inl q757) q758 q759 rfl md_ftr_must np_ftr_must (ctr_must s1 s0 (kI 1) (kI 40) W) (by decide) (Nat.le_of_ble_eq_true rfl) h91 (by decide) (by decide +kernel)) (fun z _ r h9 => j_upE hm hx (ht z) h9) (fun q92 _ => ?_)
  refine j_runA hx 3 (tb := [(373, .aload_n 0), (374, .lload_n 2), (375, .l2i)]) (jtb_ok (by decide +kernel)) (pc' := 376) (lv' := [(0, vR t), (2, vL l2)]) (st' := [vI l2.toInt32, vR t]) rfl ?_
  refine j_gd (fun h94 => ?_)
  refine j_putI hx fwX3_143 wf405 kd405 h94 (by decide) (by decide +kernel) (ni405 _) (fi405 _) ?_
  refine j_ltw rfl (fun W95 hc96 => ?_)
  have h97 : jC W95 t = 4 := (congrFun hc96 _).trans h94
  exact j_vret hx hm (by decide +kernel) (he _)
theorem wsh_head_366 {x : jCx} {en : ((Nat × jW) ⊕ jW) → Option (Outcome × jW)} {t : Nat} (h : hsh_head x en t) (l2 : Int64) (s0 : Nat) (W : jW) : jJ x 4 366 [(0, vR t), (2, vL l2)] [vR s0] W (fsh_head_366 t l2 s0 W) en := by
  have h0 := h
  obtain ⟨hx, hm, hr, he, ht⟩ := h0
  unfold fsh_head_366
  refine j_runA hx 1 (tb := [(366, .iconst 0)]) (jtb_ok (by decide +kernel)) (pc' := 367) (lv' := [(0, vR t), (2, vL l2)]) (st' := [vI (kI 0), vR s0]) rfl ?_
  exact wsh_head_367 h l2 (kI 0) s0 W
theorem wsh_head_305 {x : jCx} {en : ((Nat × jW) ⊕ jW) → Option (Outcome × jW)} {t : Nat} (h : hsh_head x en t) (s0 : Int32) (s1 : Nat) (W : jW) : jJ x 4 305 [(0, vR t)] [vI s0, vR s1] W (fsh_head_305 t s0 s1 W) en := by
  have h0 := h
  obtain ⟨hx, hm, hr, he, ht⟩ := h0
  unfold fsh_head_305
  refine j_runA hx 2 (tb := [(305, .iconst 1), (306, .bipush 62)]) (jtb_ok (by decide +kernel)) (pc' := 308) (lv' := [(0, vR t)]) (st' := [vI (kI 62), vI (kI 1), vI s0, vR s1]) rfl ?_
  refine j_gd (fun h82 => ?_)
  refine j_EV (j_callV (av := [vI s0, vI (kI 1), vI (kI 62)]) (st := []) hx hr (Or.inl q757) q758 q759 rfl md_ftr_must np_ftr_must (ctr_must s1 s0 (kI 1) (kI 62) W) (by decide) (Nat.le_of_ble_eq_true rfl) h82 (by decide) (by decide +kernel)) (fun z _ r h9 => j_upE hm hx (ht z) h9) (fun q83 _ => ?_)
  refine j_runA hx 1 (tb := [(311, .aload_n 0)]) (jtb_ok (by decide +kernel)) (pc' := 312) (lv' := [(0, vR t)]) (st' := [vR t]) rfl ?_
  refine j_gd (fun h85 => ?_)
  refine j_getR hx flX3_57 kl401 h85 (by decide) (by decide +kernel) ?_
  refine j_runA hx 1 (tb := [(315, .bipush 40)]) (jtb_ok (by decide +kernel)) (pc' := 317) (lv' := [(0, vR t)]) (st' := [vI (kI 40), vR (jR q83 401 t)]) rfl ?_
  refine j_gd (fun h86 => ?_)
  refine j_OL (h86.elim (fun hh => j_callU (av := [vI (kI 40)]) (st := []) hx hr q761 q763 (hde_fsr_pair) (by decide) q762 q764 rfl md_fsr_pair np_fsr_pair (csr_pair (jR q83 401 t) (kI 40) q83) (by decide) (Nat.le_of_ble_eq_true rfl) hh (by decide) (by decide +kernel)) (fun hh => j_callU (av := [vI (kI 40)]) (st := []) hx hr q761 q763 (hde_fsr_pair) (by decide) q762 q765 rfl md_fsr_pair np_fsr_pair (csr_pair (jR q83 401 t) (kI 40) q83) (by decide) (Nat.le_of_ble_eq_true rfl) hh (by decide) (by decide +kernel))) (fun q87 _ => ?_)
  refine j_runA hx 2 (tb := [(320, .lstore_n 2), (321, .aload_n 0)]) (jtb_ok (by decide +kernel)) (pc' := 322) (lv' := [(2, vL q87), (0, vR t)]) (st' := [vR t]) rfl ?_
  refine j_getR hx flX3_53 kl400 h85 (by decide) (by decide +kernel) ?_
  refine j_runA hx 1 (tb := [(325, .lload_n 2)]) (jtb_ok (by decide +kernel)) (pc' := 326) (lv' := [(2, vL q87), (0, vR t)]) (st' := [vL q87, vR (jR q83 400 t)]) rfl ?_
  refine j_ldc2 hx (v := (kJ 8)) (jkd2 q813 (by decide +kernel)) (by decide +kernel) ?_
  refine j_lrem hx (by decide +kernel) (by decide +kernel) ?_
  refine j_runA hx 1 (tb := [(330, .lconst 0)]) (jtb_ok (by decide +kernel)) (pc' := 331) (lv' := [(2, vL q87), (0, vR t)]) (st' := [vL (kJ 0), vL (lrm q87 (kJ 8)), vR (jR q83 400 t)]) rfl ?_
  refine j_lcmp_ne hx (off := 34) (tgt := 366) (by decide +kernel) (by decide +kernel) (by decide) (fun _ => ?_) (fun _ => ?_)
  · refine j_lv (lv' := [(0, vR t), (2, vL q87)]) ⟨rfl, rfl, trivial⟩ ?_
    exact wsh_head_366 h q87 (jR q83 400 t) q83
  refine j_runA hx 2 (tb := [(335, .lload_n 2), (336, .lconst 0)]) (jtb_ok (by decide +kernel)) (pc' := 337) (lv' := [(2, vL q87), (0, vR t)]) (st' := [vL (kJ 0), vL q87, vR (jR q83 400 t)]) rfl ?_
  refine j_lcmp_lt hx (off := 28) (tgt := 366) (by decide +kernel) (by decide +kernel) (by decide) (fun _ => ?_) (fun _ => ?_)
  · refine j_lv (lv' := [(0, vR t), (2, vL q87)]) ⟨rfl, rfl, trivial⟩ ?_
    exact wsh_head_366 h q87 (jR q83 400 t) q83
  refine j_runA hx 2 (tb := [(341, .lload_n 2), (342, .aload_n 0)]) (jtb_ok (by decide +kernel)) (pc' := 343) (lv' := [(2, vL q87), (0, vR t)]) (st' := [vR t, vL q87, vR (jR q83 400 t)]) rfl ?_
  refine j_getR hx flX3_57 kl401 h85 (by decide) (by decide +kernel) ?_
  refine j_gd (fun h88 => ?_)
  refine j_OI (h88.elim (fun hh => vd_fsr_size_l hh (j_callU (av := []) (st := [vL q87, vR (jR q83 400 t)]) hx hr q748 q750 (hde_fsr_size) (by decide) q752 q751 rfl md_fhe_size np_fsr_size (che_size (jR q83 401 t) q83) (by decide) (Nat.le_of_ble_eq_true rfl) hh (by decide) (by decide +kernel))) (fun hh => vd_fsr_size_r hh (j_callU (av := []) (st := [vL q87, vR (jR q83 400 t)]) hx hr q748 q750 (hde_fsr_size) (by decide) q755 q754 rfl md_fwr_size np_fsr_size (cwr_size (jR q83 401 t) q83) (by decide) (Nat.le_of_ble_eq_true rfl) hh (by decide) (by decide +kernel)))) (fun q89 _ => ?_)
  refine j_runA hx 2 (tb := [(349, .bipush 64), (351, .aload_n 0)]) (jtb_ok (by decide +kernel)) (pc' := 352) (lv' := [(2, vL q87), (0, vR t)]) (st' := [vR t, vI (kI 64), vI q89, vL q87, vR (jR q83 400 t)]) rfl ?_
  refine j_getI hx flX3_78 kd403 h85 (by decide) (by decide +kernel) ?_
  refine j_runA hx 3 (tb := [(355, .imul), (356, .isub), (357, .i2l)]) (jtb_ok (by decide +kernel)) (pc' := 358) (lv' := [(2, vL q87), (0, vR t)]) (st' := [vL ((q89 - ((kI 64) * (jI q83 403 t))).toInt64), vL q87, vR (jR q83 400 t)]) rfl ?_
  refine j_lcmp_ne hx (off := 7) (tgt := 366) (by decide +kernel) (by decide +kernel) (by decide) (fun _ => ?_) (fun _ => ?_)
  · refine j_lv (lv' := [(0, vR t), (2, vL q87)]) ⟨rfl, rfl, trivial⟩ ?_
    exact wsh_head_366 h q87 (jR q83 400 t) q83
  refine j_runA hx 1 (tb := [(362, .iconst 1)]) (jtb_ok (by decide +kernel)) (pc' := 363) (lv' := [(2, vL q87), (0, vR t)]) (st' := [vI (kI 1), vR (jR q83 400 t)]) rfl ?_
  refine j_goto hx (off := 4) (by decide +kernel) (tgt := 367) (by decide) ?_
  refine j_lv (lv' := [(0, vR t), (2, vL q87)]) ⟨rfl, rfl, trivial⟩ ?_
  exact wsh_head_367 h q87 (kI 1) (jR q83 400 t) q83
theorem wsh_head_304 {x : jCx} {en : ((Nat × jW) ⊕ jW) → Option (Outcome × jW)} {t : Nat} (h : hsh_head x en t) (s0 : Nat) (W : jW) : jJ x 4 304 [(0, vR t)] [vR s0] W (fsh_head_304 t s0 W) en := by
  have h0 := h
  obtain ⟨hx, hm, hr, he, ht⟩ := h0
  unfold fsh_head_304
  refine j_runA hx 1 (tb := [(304, .iconst 0)]) (jtb_ok (by decide +kernel)) (pc' := 305) (lv' := [(0, vR t)]) (st' := [vI (kI 0), vR s0]) rfl ?_
  exact wsh_head_305 h (kI 0) s0 W
theorem wsh_head_258 {x : jCx} {en : ((Nat × jW) ⊕ jW) → Option (Outcome × jW)} {t : Nat} (h : hsh_head x en t) (s0 : Int32) (s1 : Nat) (W : jW) : jJ x 4 258 [(0, vR t)] [vI s0, vR s1] W (fsh_head_258 t s0 s1 W) en := by
  have h0 := h
  obtain ⟨hx, hm, hr, he, ht⟩ := h0
  unfold fsh_head_258
  refine j_runA hx 2 (tb := [(258, .iconst 1), (259, .bipush 60)]) (jtb_ok (by decide +kernel)) (pc' := 261) (lv' := [(0, vR t)]) (st' := [vI (kI 60), vI (kI 1), vI s0, vR s1]) rfl ?_
  refine j_gd (fun h71 => ?_)
  refine j_EV (j_callV (av := [vI s0, vI (kI 1), vI (kI 60)]) (st := []) hx hr (Or.inl q757) q758 q759 rfl md_ftr_must np_ftr_must (ctr_must s1 s0 (kI 1) (kI 60) W) (by decide) (Nat.le_of_ble_eq_true rfl) h71 (by decide) (by decide +kernel)) (fun z _ r h9 => j_upE hm hx (ht z) h9) (fun q72 _ => ?_)
  refine j_runA hx 2 (tb := [(264, .aload_n 0), (265, .aload_n 0)]) (jtb_ok (by decide +kernel)) (pc' := 266) (lv' := [(0, vR t)]) (st' := [vR t, vR t]) rfl ?_
  refine j_gd (fun h74 => ?_)
  refine j_getR hx flX3_57 kl401 h74 (by decide) (by decide +kernel) ?_
  refine j_runA hx 1 (tb := [(269, .bipush 62)]) (jtb_ok (by decide +kernel)) (pc' := 271) (lv' := [(0, vR t)]) (st' := [vI (kI 62), vR (jR q72 401 t), vR t]) rfl ?_
  refine j_gd (fun h75 => ?_)
  refine j_OI (h75.elim (fun hh => j_callU (av := [vI (kI 62)]) (st := [vR t]) hx hr q807 q775 (hde_fsr_half) (by decide) q774 q776 rfl md_fsr_half np_fsr_half (csr_half (jR q72 401 t) (kI 62) q72) (by decide) (Nat.le_of_ble_eq_true rfl) hh (by decide) (by decide +kernel)) (fun hh => j_callU (av := [vI (kI 62)]) (st := [vR t]) hx hr q807 q775 (hde_fsr_half) (by decide) q774 q777 rfl md_fsr_half np_fsr_half (csr_half (jR q72 401 t) (kI 62) q72) (by decide) (Nat.le_of_ble_eq_true rfl) hh (by decide) (by decide +kernel))) (fun q76 _ => ?_)
  refine j_putI hx fwX3_138 wf406 kd406 h74 (by decide) (by decide +kernel) (ni406 _) (fi406 _) ?_
  refine j_ltw rfl (fun W77 hc78 => ?_)
  have h79 : jC W77 t = 4 := (congrFun hc78 _).trans h74
  refine j_runA hx 1 (tb := [(277, .aload_n 0)]) (jtb_ok (by decide +kernel)) (pc' := 278) (lv' := [(0, vR t)]) (st' := [vR t]) rfl ?_
  refine j_getR hx flX3_53 kl400 h79 (by decide) (by decide +kernel) ?_
  refine j_runA hx 1 (tb := [(281, .aload_n 0)]) (jtb_ok (by decide +kernel)) (pc' := 282) (lv' := [(0, vR t)]) (st' := [vR t, vR (jR W77 400 t)]) rfl ?_
  refine j_getI hx flX3_138 kd406 h79 (by decide) (by decide +kernel) ?_
  refine j_runA hx 1 (tb := [(285, .iconst 1)]) (jtb_ok (by decide +kernel)) (pc' := 286) (lv' := [(0, vR t)]) (st' := [vI (kI 1), vI (jI W77 406 t), vR (jR W77 400 t)]) rfl ?_
  refine j_icmp_lt hx (off := 18) (tgt := 304) (by decide +kernel) (by decide) (fun _ => ?_) (fun _ => ?_)
  · exact wsh_head_304 h (jR W77 400 t) W77
  refine j_runA hx 1 (tb := [(289, .aload_n 0)]) (jtb_ok (by decide +kernel)) (pc' := 290) (lv' := [(0, vR t)]) (st' := [vR t, vR (jR W77 400 t)]) rfl ?_
  refine j_getI hx flX3_138 kd406 h79 (by decide) (by decide +kernel) ?_
  refine j_runA hx 1 (tb := [(293, .aload_n 0)]) (jtb_ok (by decide +kernel)) (pc' := 294) (lv' := [(0, vR t)]) (st' := [vR t, vI (jI W77 406 t), vR (jR W77 400 t)]) rfl ?_
  refine j_getI hx flX3_78 kd403 h79 (by decide) (by decide +kernel) ?_
  refine j_icmp_ge hx (off := 7) (tgt := 304) (by decide +kernel) (by decide) (fun _ => ?_) (fun _ => ?_)
  · exact wsh_head_304 h (jR W77 400 t) W77
  refine j_runA hx 1 (tb := [(300, .iconst 1)]) (jtb_ok (by decide +kernel)) (pc' := 301) (lv' := [(0, vR t)]) (st' := [vI (kI 1), vR (jR W77 400 t)]) rfl ?_
  refine j_goto hx (off := 4) (by decide +kernel) (tgt := 305) (by decide) ?_
  exact wsh_head_305 h (kI 1) (jR W77 400 t) W77
theorem wsh_head_257 {x : jCx} {en : ((Nat × jW) ⊕ jW) → Option (Outcome × jW)} {t : Nat} (h : hsh_head x en t) (s0 : Nat) (W : jW) : jJ x 4 257 [(0, vR t)] [vR s0] W (fsh_head_257 t s0 W) en := by
  have h0 := h
  obtain ⟨hx, hm, hr, he, ht⟩ := h0
  unfold fsh_head_257
  refine j_runA hx 1 (tb := [(257, .iconst 0)]) (jtb_ok (by decide +kernel)) (pc' := 258) (lv' := [(0, vR t)]) (st' := [vI (kI 0), vR s0]) rfl ?_
  exact wsh_head_258 h (kI 0) s0 W
theorem wsh_head_203 {x : jCx} {en : ((Nat × jW) ⊕ jW) → Option (Outcome × jW)} {t : Nat} (h : hsh_head x en t) (s0 : Int32) (s1 : Nat) (W : jW) : jJ x 4 203 [(0, vR t)] [vI s0, vR s1] W (fsh_head_203 t s0 s1 W) en := by
  have h0 := h
  obtain ⟨hx, hm, hr, he, ht⟩ := h0
  unfold fsh_head_203
  refine j_runA hx 2 (tb := [(203, .iconst 1), (204, .bipush 56)]) (jtb_ok (by decide +kernel)) (pc' := 206) (lv' := [(0, vR t)]) (st' := [vI (kI 56), vI (kI 1), vI s0, vR s1]) rfl ?_
  refine j_gd (fun h57 => ?_)
  refine j_EV (j_callV (av := [vI s0, vI (kI 1), vI (kI 56)]) (st := []) hx hr (Or.inl q757) q758 q759 rfl md_ftr_must np_ftr_must (ctr_must s1 s0 (kI 1) (kI 56) W) (by decide) (Nat.le_of_ble_eq_true rfl) h57 (by decide) (by decide +kernel)) (fun z _ r h9 => j_upE hm hx (ht z) h9) (fun q58 _ => ?_)
  refine j_runA hx 3 (tb := [(209, .aload_n 0), (210, .bipush 58), (212, .iconst 2)]) (jtb_ok (by decide +kernel)) (pc' := 213) (lv' := [(0, vR t)]) (st' := [vI (kI 2), vI (kI 58), vR t]) rfl ?_
  refine j_ldc2 hx (v := (kJ 64)) (jkd2 q811 (by decide +kernel)) (by decide +kernel) ?_
  refine j_gd (fun h60 => ?_)
  refine j_EV (j_callV (av := [vI (kI 58), vI (kI 2), vL (kJ 64)]) (st := []) hx hr (Or.inl q803) q805 qs3 rfl md_fsh_field np_fsh_field (csh_field t (kI 58) (kI 2) (kJ 64) q58) (by decide) (Nat.le_of_ble_eq_true rfl) h60 (by decide) (by decide +kernel)) (fun z _ r h9 => j_upE hm hx (ht z) h9) (fun q61 _ => ?_)
  refine j_runA hx 2 (tb := [(219, .aload_n 0), (220, .aload_n 0)]) (jtb_ok (by decide +kernel)) (pc' := 221) (lv' := [(0, vR t)]) (st' := [vR t, vR t]) rfl ?_
  refine j_gd (fun h63 => ?_)
  refine j_getR hx flX3_57 kl401 h63 (by decide) (by decide +kernel) ?_
  refine j_runA hx 1 (tb := [(224, .bipush 60)]) (jtb_ok (by decide +kernel)) (pc' := 226) (lv' := [(0, vR t)]) (st' := [vI (kI 60), vR (jR q61 401 t), vR t]) rfl ?_
  refine j_gd (fun h64 => ?_)
  refine j_OI (h64.elim (fun hh => j_callU (av := [vI (kI 60)]) (st := [vR t]) hx hr q807 q775 (hde_fsr_half) (by decide) q774 q776 rfl md_fsr_half np_fsr_half (csr_half (jR q61 401 t) (kI 60) q61) (by decide) (Nat.le_of_ble_eq_true rfl) hh (by decide) (by decide +kernel)) (fun hh => j_callU (av := [vI (kI 60)]) (st := [vR t]) hx hr q807 q775 (hde_fsr_half) (by decide) q774 q777 rfl md_fsr_half np_fsr_half (csr_half (jR q61 401 t) (kI 60) q61) (by decide) (Nat.le_of_ble_eq_true rfl) hh (by decide) (by decide +kernel))) (fun q65 _ => ?_)
  refine j_putI hx fwX3_78 wf403 kd403 h63 (by decide) (by decide +kernel) (ni403 _) (fi403 _) ?_
  refine j_ltw rfl (fun W66 hc67 => ?_)
  have h68 : jC W66 t = 4 := (congrFun hc67 _).trans h63
  refine j_runA hx 1 (tb := [(232, .aload_n 0)]) (jtb_ok (by decide +kernel)) (pc' := 233) (lv' := [(0, vR t)]) (st' := [vR t]) rfl ?_
  refine j_getR hx flX3_53 kl400 h68 (by decide) (by decide +kernel) ?_
  refine j_runA hx 1 (tb := [(236, .aload_n 0)]) (jtb_ok (by decide +kernel)) (pc' := 237) (lv' := [(0, vR t)]) (st' := [vR t, vR (jR W66 400 t)]) rfl ?_
  refine j_getI hx flX3_78 kd403 h68 (by decide) (by decide +kernel) ?_
  refine j_runA hx 1 (tb := [(240, .iconst 5)]) (jtb_ok (by decide +kernel)) (pc' := 241) (lv' := [(0, vR t)]) (st' := [vI (kI 5), vI (jI W66 403 t), vR (jR W66 400 t)]) rfl ?_
  refine j_icmp_lt hx (off := 16) (tgt := 257) (by decide +kernel) (by decide) (fun _ => ?_) (fun _ => ?_)
  · exact wsh_head_257 h (jR W66 400 t) W66
  refine j_runA hx 1 (tb := [(244, .aload_n 0)]) (jtb_ok (by decide +kernel)) (pc' := 245) (lv' := [(0, vR t)]) (st' := [vR t, vR (jR W66 400 t)]) rfl ?_
  refine j_getI hx flX3_78 kd403 h68 (by decide) (by decide +kernel) ?_
  refine j_runA hx 1 (tb := [(248, .bipush 16)]) (jtb_ok (by decide +kernel)) (pc' := 250) (lv' := [(0, vR t)]) (st' := [vI (kI 16), vI (jI W66 403 t), vR (jR W66 400 t)]) rfl ?_
  refine j_icmp_gt hx (off := 7) (tgt := 257) (by decide +kernel) (by decide) (fun _ => ?_) (fun _ => ?_)
  · exact wsh_head_257 h (jR W66 400 t) W66
  refine j_runA hx 1 (tb := [(253, .iconst 1)]) (jtb_ok (by decide +kernel)) (pc' := 254) (lv' := [(0, vR t)]) (st' := [vI (kI 1), vR (jR W66 400 t)]) rfl ?_
  refine j_goto hx (off := 4) (by decide +kernel) (tgt := 258) (by decide) ?_
  exact wsh_head_258 h (kI 1) (jR W66 400 t) W66
theorem wsh_head_202 {x : jCx} {en : ((Nat × jW) ⊕ jW) → Option (Outcome × jW)} {t : Nat} (h : hsh_head x en t) (s0 : Nat) (W : jW) : jJ x 4 202 [(0, vR t)] [vR s0] W (fsh_head_202 t s0 W) en := by
  have h0 := h
  obtain ⟨hx, hm, hr, he, ht⟩ := h0
  unfold fsh_head_202
  refine j_runA hx 1 (tb := [(202, .iconst 0)]) (jtb_ok (by decide +kernel)) (pc' := 203) (lv' := [(0, vR t)]) (st' := [vI (kI 0), vR s0]) rfl ?_
  exact wsh_head_203 h (kI 0) s0 W
theorem wsh_head_80 {x : jCx} {en : ((Nat × jW) ⊕ jW) → Option (Outcome × jW)} {t : Nat} (h : hsh_head x en t) (s0 : Int32) (s1 : Nat) (W : jW) : jJ x 4 80 [(0, vR t)] [vI s0, vR s1] W (fsh_head_80 t s0 s1 W) en := by
  have h0 := h
  obtain ⟨hx, hm, hr, he, ht⟩ := h0
  unfold fsh_head_80
  refine j_runA hx 2 (tb := [(80, .iconst 1), (81, .iconst 0)]) (jtb_ok (by decide +kernel)) (pc' := 82) (lv' := [(0, vR t)]) (st' := [vI (kI 0), vI (kI 1), vI s0, vR s1]) rfl ?_
  refine j_gd (fun h19 => ?_)
  refine j_EV (j_callV (av := [vI s0, vI (kI 1), vI (kI 0)]) (st := []) hx hr (Or.inl q757) q758 q759 rfl md_ftr_must np_ftr_must (ctr_must s1 s0 (kI 1) (kI 0) W) (by decide) (Nat.le_of_ble_eq_true rfl) h19 (by decide) (by decide +kernel)) (fun z _ r h9 => j_upE hm hx (ht z) h9) (fun q20 _ => ?_)
  refine j_runA hx 3 (tb := [(85, .aload_n 0), (86, .bipush 16), (88, .iconst 2)]) (jtb_ok (by decide +kernel)) (pc' := 89) (lv' := [(0, vR t)]) (st' := [vI (kI 2), vI (kI 16), vR t]) rfl ?_
  refine j_ldc2 hx (v := (kJ 2)) (jkd2 q802 (by decide +kernel)) (by decide +kernel) ?_
  refine j_gd (fun h22 => ?_)
  refine j_EV (j_callV (av := [vI (kI 16), vI (kI 2), vL (kJ 2)]) (st := []) hx hr (Or.inl q803) q805 qs3 rfl md_fsh_field np_fsh_field (csh_field t (kI 16) (kI 2) (kJ 2) q20) (by decide) (Nat.le_of_ble_eq_true rfl) h22 (by decide) (by decide +kernel)) (fun z _ r h9 => j_upE hm hx (ht z) h9) (fun q23 _ => ?_)
  refine j_runA hx 3 (tb := [(95, .aload_n 0), (96, .bipush 18), (98, .iconst 2)]) (jtb_ok (by decide +kernel)) (pc' := 99) (lv' := [(0, vR t)]) (st' := [vI (kI 2), vI (kI 18), vR t]) rfl ?_
  refine j_ldc2 hx (v := (kJ 183)) (jkd2 q810 (by decide +kernel)) (by decide +kernel) ?_
  refine j_gd (fun h25 => ?_)
  refine j_EV (j_callV (av := [vI (kI 18), vI (kI 2), vL (kJ 183)]) (st := []) hx hr (Or.inl q803) q805 qs3 rfl md_fsh_field np_fsh_field (csh_field t (kI 18) (kI 2) (kJ 183) q23) (by decide) (Nat.le_of_ble_eq_true rfl) h25 (by decide) (by decide +kernel)) (fun z _ r h9 => j_upE hm hx (ht z) h9) (fun q26 _ => ?_)
  refine j_runA hx 4 (tb := [(105, .aload_n 0), (106, .bipush 20), (108, .iconst 4), (109, .lconst 1)]) (jtb_ok (by decide +kernel)) (pc' := 110) (lv' := [(0, vR t)]) (st' := [vL (kJ 1), vI (kI 4), vI (kI 20), vR t]) rfl ?_
  refine j_gd (fun h28 => ?_)
  refine j_EV (j_callV (av := [vI (kI 20), vI (kI 4), vL (kJ 1)]) (st := []) hx hr (Or.inl q803) q805 qs3 rfl md_fsh_field np_fsh_field (csh_field t (kI 20) (kI 4) (kJ 1) q26) (by decide) (Nat.le_of_ble_eq_true rfl) h28 (by decide) (by decide +kernel)) (fun z _ r h9 => j_upE hm hx (ht z) h9) (fun q29 _ => ?_)
  refine j_runA hx 2 (tb := [(113, .aload_n 0), (114, .aload_n 0)]) (jtb_ok (by decide +kernel)) (pc' := 115) (lv' := [(0, vR t)]) (st' := [vR t, vR t]) rfl ?_
  refine j_gd (fun h31 => ?_)
  refine j_getR hx flX3_57 kl401 h31 (by decide) (by decide +kernel) ?_
  refine j_runA hx 1 (tb := [(118, .bipush 24)]) (jtb_ok (by decide +kernel)) (pc' := 120) (lv' := [(0, vR t)]) (st' := [vI (kI 24), vR (jR q29 401 t), vR t]) rfl ?_
  refine j_gd (fun h32 => ?_)
  refine j_OL (h32.elim (fun hh => j_callU (av := [vI (kI 24)]) (st := [vR t]) hx hr q761 q763 (hde_fsr_pair) (by decide) q762 q764 rfl md_fsr_pair np_fsr_pair (csr_pair (jR q29 401 t) (kI 24) q29) (by decide) (Nat.le_of_ble_eq_true rfl) hh (by decide) (by decide +kernel)) (fun hh => j_callU (av := [vI (kI 24)]) (st := [vR t]) hx hr q761 q763 (hde_fsr_pair) (by decide) q762 q765 rfl md_fsr_pair np_fsr_pair (csr_pair (jR q29 401 t) (kI 24) q29) (by decide) (Nat.le_of_ble_eq_true rfl) hh (by decide) (by decide +kernel))) (fun q33 _ => ?_)
  refine j_putL hx fwX3_83 wf404 kd404 h31 (by decide) (by decide +kernel) (nl404 _) (ff404 _) ?_
  refine j_ltw rfl (fun W34 hc35 => ?_)
  have h36 : jC W34 t = 4 := (congrFun hc35 _).trans h31
  refine j_runA hx 3 (tb := [(126, .aload_n 0), (127, .bipush 32), (129, .bipush 8)]) (jtb_ok (by decide +kernel)) (pc' := 131) (lv' := [(0, vR t)]) (st' := [vI (kI 8), vI (kI 32), vR t]) rfl ?_
  refine j_ldc2 hx (v := (kJ 64)) (jkd2 q811 (by decide +kernel)) (by decide +kernel) ?_
  refine j_EV (j_callV (av := [vI (kI 32), vI (kI 8), vL (kJ 64)]) (st := []) hx hr (Or.inl q803) q805 qs3 rfl md_fsh_field np_fsh_field (csh_field t (kI 32) (kI 8) (kJ 64) W34) (by decide) (Nat.le_of_ble_eq_true rfl) h36 (by decide) (by decide +kernel)) (fun z _ r h9 => j_upE hm hx (ht z) h9) (fun q38 _ => ?_)
  refine j_runA hx 4 (tb := [(137, .aload_n 0), (138, .bipush 48), (140, .iconst 4), (141, .lconst 0)]) (jtb_ok (by decide +kernel)) (pc' := 142) (lv' := [(0, vR t)]) (st' := [vL (kJ 0), vI (kI 4), vI (kI 48), vR t]) rfl ?_
  refine j_gd (fun h40 => ?_)
  refine j_EV (j_callV (av := [vI (kI 48), vI (kI 4), vL (kJ 0)]) (st := []) hx hr (Or.inl q803) q805 qs3 rfl md_fsh_field np_fsh_field (csh_field t (kI 48) (kI 4) (kJ 0) q38) (by decide) (Nat.le_of_ble_eq_true rfl) h40 (by decide) (by decide +kernel)) (fun z _ r h9 => j_upE hm hx (ht z) h9) (fun q41 _ => ?_)
  refine j_runA hx 3 (tb := [(145, .aload_n 0), (146, .bipush 52), (148, .iconst 2)]) (jtb_ok (by decide +kernel)) (pc' := 149) (lv' := [(0, vR t)]) (st' := [vI (kI 2), vI (kI 52), vR t]) rfl ?_
  refine j_ldc2 hx (v := (kJ 64)) (jkd2 q811 (by decide +kernel)) (by decide +kernel) ?_
  refine j_gd (fun h43 => ?_)
  refine j_EV (j_callV (av := [vI (kI 52), vI (kI 2), vL (kJ 64)]) (st := []) hx hr (Or.inl q803) q805 qs3 rfl md_fsh_field np_fsh_field (csh_field t (kI 52) (kI 2) (kJ 64) q41) (by decide) (Nat.le_of_ble_eq_true rfl) h43 (by decide) (by decide +kernel)) (fun z _ r h9 => j_upE hm hx (ht z) h9) (fun q44 _ => ?_)
  refine j_runA hx 3 (tb := [(155, .aload_n 0), (156, .bipush 54), (158, .iconst 2)]) (jtb_ok (by decide +kernel)) (pc' := 159) (lv' := [(0, vR t)]) (st' := [vI (kI 2), vI (kI 54), vR t]) rfl ?_
  refine j_ldc2 hx (v := (kJ 56)) (jkd2 q812 (by decide +kernel)) (by decide +kernel) ?_
  refine j_gd (fun h46 => ?_)
  refine j_EV (j_callV (av := [vI (kI 54), vI (kI 2), vL (kJ 56)]) (st := []) hx hr (Or.inl q803) q805 qs3 rfl md_fsh_field np_fsh_field (csh_field t (kI 54) (kI 2) (kJ 56) q44) (by decide) (Nat.le_of_ble_eq_true rfl) h46 (by decide) (by decide +kernel)) (fun z _ r h9 => j_upE hm hx (ht z) h9) (fun q47 _ => ?_)
  refine j_runA hx 2 (tb := [(165, .aload_n 0), (166, .aload_n 0)]) (jtb_ok (by decide +kernel)) (pc' := 167) (lv' := [(0, vR t)]) (st' := [vR t, vR t]) rfl ?_
  refine j_gd (fun h49 => ?_)
  refine j_getR hx flX3_57 kl401 h49 (by decide) (by decide +kernel) ?_
  refine j_runA hx 1 (tb := [(170, .bipush 56)]) (jtb_ok (by decide +kernel)) (pc' := 172) (lv' := [(0, vR t)]) (st' := [vI (kI 56), vR (jR q47 401 t), vR t]) rfl ?_
  refine j_gd (fun h50 => ?_)
  refine j_OI (h50.elim (fun hh => j_callU (av := [vI (kI 56)]) (st := [vR t]) hx hr q807 q775 (hde_fsr_half) (by decide) q774 q776 rfl md_fsr_half np_fsr_half (csr_half (jR q47 401 t) (kI 56) q47) (by decide) (Nat.le_of_ble_eq_true rfl) hh (by decide) (by decide +kernel)) (fun hh => j_callU (av := [vI (kI 56)]) (st := [vR t]) hx hr q807 q775 (hde_fsr_half) (by decide) q774 q777 rfl md_fsr_half np_fsr_half (csr_half (jR q47 401 t) (kI 56) q47) (by decide) (Nat.le_of_ble_eq_true rfl) hh (by decide) (by decide +kernel))) (fun q51 _ => ?_)
  refine j_putI hx fwX3_64 wf402 kd402 h49 (by decide) (by decide +kernel) (ni402 _) (fi402 _) ?_
  refine j_ltw rfl (fun W52 hc53 => ?_)
  have h54 : jC W52 t = 4 := (congrFun hc53 _).trans h49
  refine j_runA hx 1 (tb := [(178, .aload_n 0)]) (jtb_ok (by decide +kernel)) (pc' := 179) (lv' := [(0, vR t)]) (st' := [vR t]) rfl ?_
  refine j_getR hx flX3_53 kl400 h54 (by decide) (by decide +kernel) ?_
  refine j_runA hx 1 (tb := [(182, .aload_n 0)]) (jtb_ok (by decide +kernel)) (pc' := 183) (lv' := [(0, vR t)]) (st' := [vR t, vR (jR W52 400 t)]) rfl ?_
  refine j_getI hx flX3_64 kd402 h54 (by decide) (by decide +kernel) ?_
  refine j_runA hx 1 (tb := [(186, .iconst 1)]) (jtb_ok (by decide +kernel)) (pc' := 187) (lv' := [(0, vR t)]) (st' := [vI (kI 1), vI (jI W52 402 t), vR (jR W52 400 t)]) rfl ?_
  refine j_icmp_lt hx (off := 15) (tgt := 202) (by decide +kernel) (by decide) (fun _ => ?_) (fun _ => ?_)
  · exact wsh_head_202 h (jR W52 400 t) W52
  refine j_runA hx 1 (tb := [(190, .aload_n 0)]) (jtb_ok (by decide +kernel)) (pc' := 191) (lv' := [(0, vR t)]) (st' := [vR t, vR (jR W52 400 t)]) rfl ?_
  refine j_getI hx flX3_64 kd402 h54 (by decide) (by decide +kernel) ?_
  refine j_runA hx 1 (tb := [(194, .iconst 4)]) (jtb_ok (by decide +kernel)) (pc' := 195) (lv' := [(0, vR t)]) (st' := [vI (kI 4), vI (jI W52 402 t), vR (jR W52 400 t)]) rfl ?_
  refine j_icmp_gt hx (off := 7) (tgt := 202) (by decide +kernel) (by decide) (fun _ => ?_) (fun _ => ?_)
  · exact wsh_head_202 h (jR W52 400 t) W52
  refine j_runA hx 1 (tb := [(198, .iconst 1)]) (jtb_ok (by decide +kernel)) (pc' := 199) (lv' := [(0, vR t)]) (st' := [vI (kI 1), vR (jR W52 400 t)]) rfl ?_
  refine j_goto hx (off := 4) (by decide +kernel) (tgt := 203) (by decide) ?_
  exact wsh_head_203 h (kI 1) (jR W52 400 t) W52
theorem wsh_head_79 {x : jCx} {en : ((Nat × jW) ⊕ jW) → Option (Outcome × jW)} {t : Nat} (h : hsh_head x en t) (s0 : Nat) (W : jW) : jJ x 4 79 [(0, vR t)] [vR s0] W (fsh_head_79 t s0 W) en := by
  have h0 := h
  obtain ⟨hx, hm, hr, he, ht⟩ := h0
  unfold fsh_head_79
  refine j_runA hx 1 (tb := [(79, .iconst 0)]) (jtb_ok (by decide +kernel)) (pc' := 80) (lv' := [(0, vR t)]) (st' := [vI (kI 0), vR s0]) rfl ?_
  exact wsh_head_80 h (kI 0) s0 W
theorem wsh_head_52 {x : jCx} {en : ((Nat × jW) ⊕ jW) → Option (Outcome × jW)} {t : Nat} (h : hsh_head x en t) (s0 : Int32) (W : jW) : jJ x 4 52 [(0, vR t)] [vI s0] W (fsh_head_52 t s0 W) en := by
  have h0 := h
  obtain ⟨hx, hm, hr, he, ht⟩ := h0
  unfold fsh_head_52
  refine j_runA hx 2 (tb := [(52, .istore_n 1), (53, .aload_n 0)]) (jtb_ok (by decide +kernel)) (pc' := 54) (lv' := [(1, vI s0), (0, vR t)]) (st' := [vR t]) rfl ?_
  refine j_gd (fun h15 => ?_)
  refine j_getR hx flX3_53 kl400 h15 (by decide) (by decide +kernel) ?_
  refine j_runA hx 1 (tb := [(57, .iload_n 1)]) (jtb_ok (by decide +kernel)) (pc' := 58) (lv' := [(1, vI s0), (0, vR t)]) (st' := [vI s0, vR (jR W 400 t)]) rfl ?_
  refine j_if_eq hx (off := 21) (tgt := 79) (by decide +kernel) (by decide) (fun _ => ?_) (fun _ => ?_)
  · refine j_lv (lv' := [(0, vR t)]) ⟨rfl, trivial⟩ ?_
    exact wsh_head_79 h (jR W 400 t) W
  refine j_runA hx 1 (tb := [(61, .aload_n 0)]) (jtb_ok (by decide +kernel)) (pc' := 62) (lv' := [(1, vI s0), (0, vR t)]) (st' := [vR t, vR (jR W 400 t)]) rfl ?_
  refine j_getR hx flX3_57 kl401 h15 (by decide) (by decide +kernel) ?_
  refine j_runA hx 1 (tb := [(65, .bipush 8)]) (jtb_ok (by decide +kernel)) (pc' := 67) (lv' := [(1, vI s0), (0, vR t)]) (st' := [vI (kI 8), vR (jR W 401 t), vR (jR W 400 t)]) rfl ?_
  refine j_gd (fun h16 => ?_)
  refine j_OL (h16.elim (fun hh => j_callU (av := [vI (kI 8)]) (st := [vR (jR W 400 t)]) hx hr q761 q763 (hde_fsr_pair) (by decide) q762 q764 rfl md_fsr_pair np_fsr_pair (csr_pair (jR W 401 t) (kI 8) W) (by decide) (Nat.le_of_ble_eq_true rfl) hh (by decide) (by decide +kernel)) (fun hh => j_callU (av := [vI (kI 8)]) (st := [vR (jR W 400 t)]) hx hr q761 q763 (hde_fsr_pair) (by decide) q762 q765 rfl md_fsr_pair np_fsr_pair (csr_pair (jR W 401 t) (kI 8) W) (by decide) (Nat.le_of_ble_eq_true rfl) hh (by decide) (by decide +kernel))) (fun q17 _ => ?_)
  refine j_runA hx 1 (tb := [(70, .lconst 0)]) (jtb_ok (by decide +kernel)) (pc' := 71) (lv' := [(1, vI s0), (0, vR t)]) (st' := [vL (kJ 0), vL q17, vR (jR W 400 t)]) rfl ?_
  refine j_lcmp_ne hx (off := 7) (tgt := 79) (by decide +kernel) (by decide +kernel) (by decide) (fun _ => ?_) (fun _ => ?_)
  · refine j_lv (lv' := [(0, vR t)]) ⟨rfl, trivial⟩ ?_
    exact wsh_head_79 h (jR W 400 t) W
  refine j_runA hx 1 (tb := [(75, .iconst 1)]) (jtb_ok (by decide +kernel)) (pc' := 76) (lv' := [(1, vI s0), (0, vR t)]) (st' := [vI (kI 1), vR (jR W 400 t)]) rfl ?_
  refine j_goto hx (off := 4) (by decide +kernel) (tgt := 80) (by decide) ?_
  refine j_lv (lv' := [(0, vR t)]) ⟨rfl, trivial⟩ ?_
  exact wsh_head_80 h (kI 1) (jR W 400 t) W
theorem wsh_head_21 {x : jCx} {en : ((Nat × jW) ⊕ jW) → Option (Outcome × jW)} {t : Nat} (h : hsh_head x en t) (s0 : Int32) (s1 : Nat) (W : jW) : jJ x 4 21 [(0, vR t)] [vI s0, vR s1] W (fsh_head_21 t s0 s1 W) en := by
  have h0 := h
  obtain ⟨hx, hm, hr, he, ht⟩ := h0
  unfold fsh_head_21
  refine j_runA hx 2 (tb := [(21, .iconst 1), (22, .aload_n 0)]) (jtb_ok (by decide +kernel)) (pc' := 23) (lv' := [(0, vR t)]) (st' := [vR t, vI (kI 1), vI s0, vR s1]) rfl ?_
  refine j_gd (fun h5 => ?_)
  refine j_getR hx flX3_57 kl401 h5 (by decide) (by decide +kernel) ?_
  refine j_gd (fun h6 => ?_)
  refine j_OI (h6.elim (fun hh => vd_fsr_size_l hh (j_callU (av := []) (st := [vI (kI 1), vI s0, vR s1]) hx hr q748 q750 (hde_fsr_size) (by decide) q752 q751 rfl md_fhe_size np_fsr_size (che_size (jR W 401 t) W) (by decide) (Nat.le_of_ble_eq_true rfl) hh (by decide) (by decide +kernel))) (fun hh => vd_fsr_size_r hh (j_callU (av := []) (st := [vI (kI 1), vI s0, vR s1]) hx hr q748 q750 (hde_fsr_size) (by decide) q755 q754 rfl md_fwr_size np_fsr_size (cwr_size (jR W 401 t) W) (by decide) (Nat.le_of_ble_eq_true rfl) hh (by decide) (by decide +kernel)))) (fun q7 _ => ?_)
  refine j_gd (fun h8 => ?_)
  refine j_EV (j_callV (av := [vI s0, vI (kI 1), vI q7]) (st := []) hx hr (Or.inl q757) q758 q759 rfl md_ftr_must np_ftr_must (ctr_must s1 s0 (kI 1) q7 W) (by decide) (Nat.le_of_ble_eq_true rfl) h8 (by decide) (by decide +kernel)) (fun z _ r h9 => j_upE hm hx (ht z) h9) (fun q9 _ => ?_)
  refine j_runA hx 1 (tb := [(32, .aload_n 0)]) (jtb_ok (by decide +kernel)) (pc' := 33) (lv' := [(0, vR t)]) (st' := [vR t]) rfl ?_
  refine j_gd (fun h11 => ?_)
  refine j_getR hx flX3_57 kl401 h11 (by decide) (by decide +kernel) ?_
  refine j_runA hx 1 (tb := [(36, .iconst 0)]) (jtb_ok (by decide +kernel)) (pc' := 37) (lv' := [(0, vR t)]) (st' := [vI (kI 0), vR (jR q9 401 t)]) rfl ?_
  refine j_gd (fun h12 => ?_)
  refine j_OL (h12.elim (fun hh => j_callU (av := [vI (kI 0)]) (st := []) hx hr q761 q763 (hde_fsr_pair) (by decide) q762 q764 rfl md_fsr_pair np_fsr_pair (csr_pair (jR q9 401 t) (kI 0) q9) (by decide) (Nat.le_of_ble_eq_true rfl) hh (by decide) (by decide +kernel)) (fun hh => j_callU (av := [vI (kI 0)]) (st := []) hx hr q761 q763 (hde_fsr_pair) (by decide) q762 q765 rfl md_fsr_pair np_fsr_pair (csr_pair (jR q9 401 t) (kI 0) q9) (by decide) (Nat.le_of_ble_eq_true rfl) hh (by decide) (by decide +kernel))) (fun q13 _ => ?_)
  refine j_ldc2 hx (v := (kJ 282584257676671)) (jkd2 q801 (by decide +kernel)) (by decide +kernel) ?_
  refine j_lcmp_ne hx (off := 7) (tgt := 51) (by decide +kernel) (by decide +kernel) (by decide) (fun _ => ?_) (fun _ => ?_)
  · refine j_runA hx 1 (tb := [(51, .iconst 0)]) (jtb_ok (by decide +kernel)) (pc' := 52) (lv' := [(0, vR t)]) (st' := [vI (kI 0)]) rfl ?_
    exact wsh_head_52 h (kI 0) q9
  refine j_runA hx 1 (tb := [(47, .iconst 1)]) (jtb_ok (by decide +kernel)) (pc' := 48) (lv' := [(0, vR t)]) (st' := [vI (kI 1)]) rfl ?_
  refine j_goto hx (off := 4) (by decide +kernel) (tgt := 52) (by decide) ?_
  exact wsh_head_52 h (kI 1) q9
theorem wsh_head {x : jCx} {en : ((Nat × jW) ⊕ jW) → Option (Outcome × jW)} {t : Nat} (h : hsh_head x en t) (W : jW) : jJ x 4 0 [(0, vR t)] [] W (fsh_head t W) en := by
  have h0 := h
  obtain ⟨hx, hm, hr, he, ht⟩ := h0
  unfold fsh_head
  refine j_runA hx 1 (tb := [(0, .aload_n 0)]) (jtb_ok (by decide +kernel)) (pc' := 1) (lv' := [(0, vR t)]) (st' := [vR t]) rfl ?_
  refine j_gd (fun h1 => ?_)
  refine j_getR hx flX3_53 kl400 h1 (by decide) (by decide +kernel) ?_
  refine j_runA hx 1 (tb := [(4, .aload_n 0)]) (jtb_ok (by decide +kernel)) (pc' := 5) (lv' := [(0, vR t)]) (st' := [vR t, vR (jR W 400 t)]) rfl ?_
  refine j_getR hx flX3_57 kl401 h1 (by decide) (by decide +kernel) ?_
  refine j_gd (fun h2 => ?_)
  refine j_OI (h2.elim (fun hh => vd_fsr_size_l hh (j_callU (av := []) (st := [vR (jR W 400 t)]) hx hr q748 q750 (hde_fsr_size) (by decide) q752 q751 rfl md_fhe_size np_fsr_size (che_size (jR W 401 t) W) (by decide) (Nat.le_of_ble_eq_true rfl) hh (by decide) (by decide +kernel))) (fun hh => vd_fsr_size_r hh (j_callU (av := []) (st := [vR (jR W 400 t)]) hx hr q748 q750 (hde_fsr_size) (by decide) q755 q754 rfl md_fwr_size np_fsr_size (cwr_size (jR W 401 t) W) (by decide) (Nat.le_of_ble_eq_true rfl) hh (by decide) (by decide +kernel)))) (fun q3 _ => ?_)
  refine j_runA hx 1 (tb := [(11, .bipush 64)]) (jtb_ok (by decide +kernel)) (pc' := 13) (lv' := [(0, vR t)]) (st' := [vI (kI 64), vI q3, vR (jR W 400 t)]) rfl ?_
  refine j_icmp_lt hx (off := 7) (tgt := 20) (by decide +kernel) (by decide) (fun _ => ?_) (fun _ => ?_)
  · refine j_runA hx 1 (tb := [(20, .iconst 0)]) (jtb_ok (by decide +kernel)) (pc' := 21) (lv' := [(0, vR t)]) (st' := [vI (kI 0), vR (jR W 400 t)]) rfl ?_
    exact wsh_head_21 h (kI 0) (jR W 400 t) W
  refine j_runA hx 1 (tb := [(16, .iconst 1)]) (jtb_ok (by decide +kernel)) (pc' := 17) (lv' := [(0, vR t)]) (st' := [vI (kI 1), vR (jR W 400 t)]) rfl ?_
  refine j_goto hx (off := 4) (by decide +kernel) (tgt := 21) (by decide) ?_
  exact wsh_head_21 h (kI 1) (jR W 400 t) W
theorem csh_head (t : Nat) (W : jW) : jM yX3_head cX3_head 4 (Option.none : Option Jvm.ClassFile.FieldType) [] 7 101 [vR t] W ((fsh_head t W).bind (fun q => some (Sum.elim (fun z => (.threw (z.1 - 1), z.2)) (fun q => (.returned none, q)) q))) := 
  jM.of (Nat.le_of_ble_eq_true rfl) (fun x hx hm hr => wsh_head ⟨hx, hm, hr, fun _ => rfl, fun _ => rfl⟩ W)
def hcl_isAbove (x : jCx) (en : (Int32) → Option (Outcome × jW)) (a0 : Int64) (a2 : Int64) (W : jW) : Prop :=
  jOK x RX0 cX0_isAbove 4 ∧
  jMt x "isAbove" (Option.some Jvm.ClassFile.FieldType.boolean) [] ∧
  jRm x 0 0 ∧
  (∀ q : Int32, en q = some (.returned (some (.int q)), W))
theorem wcl_isAbove {x : jCx} {en : (Int32) → Option (Outcome × jW)} {W : jW} {a0 : Int64} {a2 : Int64} (h : hcl_isAbove x en a0 a2 W) : jJ x 4 0 [(0, vL a0), (2, vL a2)] [] W (some (fcl_isAbove a0 a2)) en := by
  have h0 := h
  obtain ⟨hx, hm, hr, he⟩ := h0
  unfold fcl_isAbove
  refine j_runA hx 1 (tb := [(0, .lload_n 0)]) (jtb_ok (by decide +kernel)) (pc' := 1) (lv' := [(0, vL a0), (2, vL a2)]) (st' := [vL a0]) rfl ?_
  refine j_ldc2 hx (v := (kJ (-9223372036854775808))) (jkd2 q821 (by decide +kernel)) (by decide +kernel) ?_
  refine j_runA hx 2 (tb := [(4, .ladd), (5, .lload_n 2)]) (jtb_ok (by decide +kernel)) (pc' := 6) (lv' := [(0, vL a0), (2, vL a2)]) (st' := [vL a2, vL (a0 + (kJ (-9223372036854775808)))]) rfl ?_
  refine j_ldc2 hx (v := (kJ (-9223372036854775808))) (jkd2 q821 (by decide +kernel)) (by decide +kernel) ?_
  refine j_runA hx 1 (tb := [(9, .ladd)]) (jtb_ok (by decide +kernel)) (pc' := 10) (lv' := [(0, vL a0), (2, vL a2)]) (st' := [vL (a2 + (kJ (-9223372036854775808))), vL (a0 + (kJ (-9223372036854775808)))]) rfl ?_
  refine j_tot (j_lcmp_le hx (off := 7) (tgt := 18) (by decide +kernel) (by decide +kernel) (by decide) (fun _ => ?_) (fun _ => ?_))
  · refine j_runA hx 1 (tb := [(18, .iconst 0)]) (jtb_ok (by decide +kernel)) (pc' := 19) (lv' := [(0, vL a0), (2, vL a2)]) (st' := [vI (kI 0)]) rfl ?_
    exact j_iret hx hm (by decide +kernel) jz0n (he _)
  refine j_runA hx 1 (tb := [(14, .iconst 1)]) (jtb_ok (by decide +kernel)) (pc' := 15) (lv' := [(0, vL a0), (2, vL a2)]) (st' := [vI (kI 1)]) rfl ?_
  refine j_goto hx (off := 4) (by decide +kernel) (tgt := 19) (by decide) ?_
  exact j_iret hx hm (by decide +kernel) jz1n (he _)
theorem ccl_isAbove (a0 : Int64) (a2 : Int64) (W : jW) : jM yX0_isAbove cX0_isAbove 4 (Option.some Jvm.ClassFile.FieldType.boolean) [] 0 0 [vL a0, vL a2] W (some (.returned (some (.int (fcl_isAbove a0 a2))), W)) := 
  jM.of (mm := some (fcl_isAbove a0 a2)) (en := fun q => some (.returned (some (.int q)), W)) (Nat.le_of_ble_eq_true rfl) (fun x hx hm hr => wcl_isAbove ⟨hx, hm, hr, fun _ => rfl⟩)
def hsh_segment (x : jCx) (en : ((Nat × jW) ⊕ jW) → Option (Outcome × jW)) (t : Nat) (a1 : Int32) : Prop :=
  jOK x RX3 cX3_segment 13 ∧
  jMt x "segment" (Option.none : Option Jvm.ClassFile.FieldType) [] ∧
  jRm x 6 84 ∧
  (∀ q : jW, en (.inr q) = some (.returned none, q)) ∧
  (∀ z : Nat × jW, en (.inl z) = some (.threw (z.1 - 1), z.2))
theorem wsh_segment_451 {x : jCx} {en : ((Nat × jW) ⊕ jW) → Option (Outcome × jW)} {t : Nat} {a1 : Int32} (h : hsh_segment x en t a1) (l2 : Int32) (l3 : Int64) (l7 : Int64) (l11 : Int64) (s0 : Int32) (s1 : Nat) (W : jW) : jJ x 13 451 [(0, vR t), (1, vI a1), (2, vI l2), (3, vL l3), (7, vL l7), (11, vL l11)] [vI s0, vR s1] W (fsh_segment_451 t a1 l2 l3 l7 l11 s0 s1 W) en := by
  have h0 := h
  obtain ⟨hx, hm, hr, he, ht⟩ := h0
  unfold fsh_segment_451
  refine j_runA hx 4 (tb := [(451, .iconst 2), (452, .iload_n 2), (453, .bipush 48), (455, .iadd)]) (jtb_ok (by decide +kernel)) (pc' := 456) (lv' := [(0, vR t), (1, vI a1), (2, vI l2), (3, vL l3), (7, vL l7), (11, vL l11)]) (st' := [vI (l2 + (kI 48)), vI (kI 2), vI s0, vR s1]) rfl ?_
  refine j_gd (fun h72 => ?_)
  refine j_EV (j_callV (av := [vI s0, vI (kI 2), vI (l2 + (kI 48))]) (st := []) hx hr (Or.inl q757) q758 q759 rfl md_ftr_must np_ftr_must (ctr_must s1 s0 (kI 2) (l2 + (kI 48)) W) (by decide) (Nat.le_of_ble_eq_true rfl) h72 (by decide) (by decide +kernel)) (fun z _ r h9 => j_upE hm hx (ht z) h9) (fun q73 _ => ?_)
  refine j_runA hx 1 (tb := [(459, .aload_n 0)]) (jtb_ok (by decide +kernel)) (pc' := 460) (lv' := [(0, vR t), (1, vI a1), (2, vI l2), (3, vL l3), (7, vL l7), (11, vL l11)]) (st' := [vR t]) rfl ?_
  refine j_gd (fun h75 => ?_)
  refine j_getR hx flX3_15 kl408 h75 (by decide) (by decide +kernel) ?_
  refine j_runA hx 2 (tb := [(463, .iload_n 1), (464, .lload 7)]) (jtb_ok (by decide +kernel)) (pc' := 466) (lv' := [(0, vR t), (1, vI a1), (2, vI l2), (3, vL l3), (7, vL l7), (11, vL l11)]) (st' := [vL l7, vI a1, vR (jR q73 408 t)]) rfl ?_
  refine j_gd (fun h76 => ?_)
  refine j_last hx (f := 408) (o := t) kd408 rfl (by decide +kernel) h76 ?_
  refine j_ltw rfl (fun W77 hc78 => ?_)
  have h79 : jC W77 t = 4 := (congrFun hc78 _).trans h75
  refine j_runA hx 1 (tb := [(467, .aload_n 0)]) (jtb_ok (by decide +kernel)) (pc' := 468) (lv' := [(0, vR t), (1, vI a1), (2, vI l2), (3, vL l3), (7, vL l7), (11, vL l11)]) (st' := [vR t]) rfl ?_
  refine j_getR hx flX3_19 kl409 h79 (by decide) (by decide +kernel) ?_
  refine j_runA hx 3 (tb := [(471, .iload_n 1), (472, .lload_n 3), (473, .l2i)]) (jtb_ok (by decide +kernel)) (pc' := 474) (lv' := [(0, vR t), (1, vI a1), (2, vI l2), (3, vL l3), (7, vL l7), (11, vL l11)]) (st' := [vI l3.toInt32, vI a1, vR (jR W77 409 t)]) rfl ?_
  refine j_gd (fun h81 => ?_)
  refine j_iast hx (f := 409) (o := t) kd409 rfl (by decide +kernel) h81 ?_
  refine j_ltw rfl (fun W82 hc83 => ?_)
  have h84 : jC W82 t = 4 := (congrFun hc83 _).trans h79
  refine j_runA hx 1 (tb := [(475, .aload_n 0)]) (jtb_ok (by decide +kernel)) (pc' := 476) (lv' := [(0, vR t), (1, vI a1), (2, vI l2), (3, vL l3), (7, vL l7), (11, vL l11)]) (st' := [vR t]) rfl ?_
  refine j_getR hx flX3_22 kl410 h84 (by decide) (by decide +kernel) ?_
  refine j_runA hx 3 (tb := [(479, .iload_n 1), (480, .lload 11), (482, .l2i)]) (jtb_ok (by decide +kernel)) (pc' := 483) (lv' := [(0, vR t), (1, vI a1), (2, vI l2), (3, vL l3), (7, vL l7), (11, vL l11)]) (st' := [vI l11.toInt32, vI a1, vR (jR W82 410 t)]) rfl ?_
  refine j_gd (fun h86 => ?_)
  refine j_iast hx (f := 410) (o := t) kd410 rfl (by decide +kernel) h86 ?_
  refine j_ltw rfl (fun W87 hc88 => ?_)
  have h89 : jC W87 t = 4 := (congrFun hc88 _).trans h84
  exact j_vret hx hm (by decide +kernel) (he _)
theorem wsh_segment_416 {x : jCx} {en : ((Nat × jW) ⊕ jW) → Option (Outcome × jW)} {t : Nat} {a1 : Int32} (h : hsh_segment x en t a1) (l2 : Int32) (l3 : Int64) (l7 : Int64) (l11 : Int64) (s0 : Int32) (s1 : Nat) (W : jW) : jJ x 13 416 [(0, vR t), (1, vI a1), (2, vI l2), (3, vL l3), (7, vL l7), (11, vL l11)] [vI s0, vR s1] W (fsh_segment_416 t a1 l2 l3 l7 l11 s0 s1 W) en := by
  have h0 := h
  obtain ⟨hx, hm, hr, he, ht⟩ := h0
  unfold fsh_segment_416
  refine j_runA hx 4 (tb := [(416, .iconst 2), (417, .iload_n 2), (418, .bipush 40), (420, .iadd)]) (jtb_ok (by decide +kernel)) (pc' := 421) (lv' := [(0, vR t), (1, vI a1), (2, vI l2), (3, vL l3), (7, vL l7), (11, vL l11)]) (st' := [vI (l2 + (kI 40)), vI (kI 2), vI s0, vR s1]) rfl ?_
  refine j_gd (fun h65 => ?_)
  refine j_EV (j_callV (av := [vI s0, vI (kI 2), vI (l2 + (kI 40))]) (st := []) hx hr (Or.inl q757) q758 q759 rfl md_ftr_must np_ftr_must (ctr_must s1 s0 (kI 2) (l2 + (kI 40)) W) (by decide) (Nat.le_of_ble_eq_true rfl) h65 (by decide) (by decide +kernel)) (fun z _ r h9 => j_upE hm hx (ht z) h9) (fun q66 _ => ?_)
  refine j_runA hx 1 (tb := [(424, .aload_n 0)]) (jtb_ok (by decide +kernel)) (pc' := 425) (lv' := [(0, vR t), (1, vI a1), (2, vI l2), (3, vL l3), (7, vL l7), (11, vL l11)]) (st' := [vR t]) rfl ?_
  refine j_gd (fun h68 => ?_)
  refine j_getR hx flX3_53 kl400 h68 (by decide) (by decide +kernel) ?_
  refine j_runA hx 1 (tb := [(428, .aload_n 0)]) (jtb_ok (by decide +kernel)) (pc' := 429) (lv' := [(0, vR t), (1, vI a1), (2, vI l2), (3, vL l3), (7, vL l7), (11, vL l11)]) (st' := [vR t, vR (jR q66 400 t)]) rfl ?_
  refine j_getR hx flX3_57 kl401 h68 (by decide) (by decide +kernel) ?_
  refine j_runA hx 3 (tb := [(432, .iload_n 2), (433, .bipush 48), (435, .iadd)]) (jtb_ok (by decide +kernel)) (pc' := 436) (lv' := [(0, vR t), (1, vI a1), (2, vI l2), (3, vL l3), (7, vL l7), (11, vL l11)]) (st' := [vI (l2 + (kI 48)), vR (jR q66 401 t), vR (jR q66 400 t)]) rfl ?_
  refine j_gd (fun h69 => ?_)
  refine j_OL (h69.elim (fun hh => j_callU (av := [vI (l2 + (kI 48))]) (st := [vR (jR q66 400 t)]) hx hr q761 q763 (hde_fsr_pair) (by decide) q762 q764 rfl md_fsr_pair np_fsr_pair (csr_pair (jR q66 401 t) (l2 + (kI 48)) q66) (by decide) (Nat.le_of_ble_eq_true rfl) hh (by decide) (by decide +kernel)) (fun hh => j_callU (av := [vI (l2 + (kI 48))]) (st := [vR (jR q66 400 t)]) hx hr q761 q763 (hde_fsr_pair) (by decide) q762 q765 rfl md_fsr_pair np_fsr_pair (csr_pair (jR q66 401 t) (l2 + (kI 48)) q66) (by decide) (Nat.le_of_ble_eq_true rfl) hh (by decide) (by decide +kernel))) (fun q70 _ => ?_)
  refine j_ldc2 hx (v := (kJ 16)) (jkd2 q827 (by decide +kernel)) (by decide +kernel) ?_
  refine j_lcmp_ne hx (off := 7) (tgt := 450) (by decide +kernel) (by decide +kernel) (by decide) (fun _ => ?_) (fun _ => ?_)
  · refine j_runA hx 1 (tb := [(450, .iconst 0)]) (jtb_ok (by decide +kernel)) (pc' := 451) (lv' := [(0, vR t), (1, vI a1), (2, vI l2), (3, vL l3), (7, vL l7), (11, vL l11)]) (st' := [vI (kI 0), vR (jR q66 400 t)]) rfl ?_
    exact wsh_segment_451 h l2 l3 l7 l11 (kI 0) (jR q66 400 t) q66
  refine j_runA hx 1 (tb := [(446, .iconst 1)]) (jtb_ok (by decide +kernel)) (pc' := 447) (lv' := [(0, vR t), (1, vI a1), (2, vI l2), (3, vL l3), (7, vL l7), (11, vL l11)]) (st' := [vI (kI 1), vR (jR q66 400 t)]) rfl ?_
  refine j_goto hx (off := 4) (by decide +kernel) (tgt := 451) (by decide) ?_
  exact wsh_segment_451 h l2 l3 l7 l11 (kI 1) (jR q66 400 t) q66
theorem wsh_segment_382 {x : jCx} {en : ((Nat × jW) ⊕ jW) → Option (Outcome × jW)} {t : Nat} {a1 : Int32} (h : hsh_segment x en t a1) (l2 : Int32) (l3 : Int64) (l7 : Int64) (l11 : Int64) (s0 : Int32) (s1 : Nat) (W : jW) : jJ x 13 382 [(0, vR t), (1, vI a1), (2, vI l2), (3, vL l3), (7, vL l7), (11, vL l11)] [vI s0, vR s1] W (fsh_segment_382 t a1 l2 l3 l7 l11 s0 s1 W) en := by
  have h0 := h
  obtain ⟨hx, hm, hr, he, ht⟩ := h0
  unfold fsh_segment_382
  refine j_runA hx 4 (tb := [(382, .iconst 2), (383, .iload_n 2), (384, .bipush 32), (386, .iadd)]) (jtb_ok (by decide +kernel)) (pc' := 387) (lv' := [(0, vR t), (1, vI a1), (2, vI l2), (3, vL l3), (7, vL l7), (11, vL l11)]) (st' := [vI (l2 + (kI 32)), vI (kI 2), vI s0, vR s1]) rfl ?_
  refine j_gd (fun h58 => ?_)
  refine j_EV (j_callV (av := [vI s0, vI (kI 2), vI (l2 + (kI 32))]) (st := []) hx hr (Or.inl q757) q758 q759 rfl md_ftr_must np_ftr_must (ctr_must s1 s0 (kI 2) (l2 + (kI 32)) W) (by decide) (Nat.le_of_ble_eq_true rfl) h58 (by decide) (by decide +kernel)) (fun z _ r h9 => j_upE hm hx (ht z) h9) (fun q59 _ => ?_)
  refine j_runA hx 1 (tb := [(390, .aload_n 0)]) (jtb_ok (by decide +kernel)) (pc' := 391) (lv' := [(0, vR t), (1, vI a1), (2, vI l2), (3, vL l3), (7, vL l7), (11, vL l11)]) (st' := [vR t]) rfl ?_
  refine j_gd (fun h61 => ?_)
  refine j_getR hx flX3_53 kl400 h61 (by decide) (by decide +kernel) ?_
  refine j_runA hx 1 (tb := [(394, .aload_n 0)]) (jtb_ok (by decide +kernel)) (pc' := 395) (lv' := [(0, vR t), (1, vI a1), (2, vI l2), (3, vL l3), (7, vL l7), (11, vL l11)]) (st' := [vR t, vR (jR q59 400 t)]) rfl ?_
  refine j_getR hx flX3_57 kl401 h61 (by decide) (by decide +kernel) ?_
  refine j_runA hx 3 (tb := [(398, .iload_n 2), (399, .bipush 40), (401, .iadd)]) (jtb_ok (by decide +kernel)) (pc' := 402) (lv' := [(0, vR t), (1, vI a1), (2, vI l2), (3, vL l3), (7, vL l7), (11, vL l11)]) (st' := [vI (l2 + (kI 40)), vR (jR q59 401 t), vR (jR q59 400 t)]) rfl ?_
  refine j_gd (fun h62 => ?_)
  refine j_OL (h62.elim (fun hh => j_callU (av := [vI (l2 + (kI 40))]) (st := [vR (jR q59 400 t)]) hx hr q761 q763 (hde_fsr_pair) (by decide) q762 q764 rfl md_fsr_pair np_fsr_pair (csr_pair (jR q59 401 t) (l2 + (kI 40)) q59) (by decide) (Nat.le_of_ble_eq_true rfl) hh (by decide) (by decide +kernel)) (fun hh => j_callU (av := [vI (l2 + (kI 40))]) (st := [vR (jR q59 400 t)]) hx hr q761 q763 (hde_fsr_pair) (by decide) q762 q765 rfl md_fsr_pair np_fsr_pair (csr_pair (jR q59 401 t) (l2 + (kI 40)) q59) (by decide) (Nat.le_of_ble_eq_true rfl) hh (by decide) (by decide +kernel))) (fun q63 _ => ?_)
  refine j_runA hx 1 (tb := [(405, .lload 11)]) (jtb_ok (by decide +kernel)) (pc' := 407) (lv' := [(0, vR t), (1, vI a1), (2, vI l2), (3, vL l3), (7, vL l7), (11, vL l11)]) (st' := [vL l11, vL q63, vR (jR q59 400 t)]) rfl ?_
  refine j_lcmp_ne hx (off := 7) (tgt := 415) (by decide +kernel) (by decide +kernel) (by decide) (fun _ => ?_) (fun _ => ?_)
  · refine j_runA hx 1 (tb := [(415, .iconst 0)]) (jtb_ok (by decide +kernel)) (pc' := 416) (lv' := [(0, vR t), (1, vI a1), (2, vI l2), (3, vL l3), (7, vL l7), (11, vL l11)]) (st' := [vI (kI 0), vR (jR q59 400 t)]) rfl ?_
    exact wsh_segment_416 h l2 l3 l7 l11 (kI 0) (jR q59 400 t) q59
  refine j_runA hx 1 (tb := [(411, .iconst 1)]) (jtb_ok (by decide +kernel)) (pc' := 412) (lv' := [(0, vR t), (1, vI a1), (2, vI l2), (3, vL l3), (7, vL l7), (11, vL l11)]) (st' := [vI (kI 1), vR (jR q59 400 t)]) rfl ?_
  refine j_goto hx (off := 4) (by decide +kernel) (tgt := 416) (by decide) ?_
  exact wsh_segment_416 h l2 l3 l7 l11 (kI 1) (jR q59 400 t) q59
theorem wsh_segment_381 {x : jCx} {en : ((Nat × jW) ⊕ jW) → Option (Outcome × jW)} {t : Nat} {a1 : Int32} (h : hsh_segment x en t a1) (l2 : Int32) (l3 : Int64) (l7 : Int64) (l11 : Int64) (s0 : Nat) (W : jW) : jJ x 13 381 [(0, vR t), (1, vI a1), (2, vI l2), (3, vL l3), (7, vL l7), (11, vL l11)] [vR s0] W (fsh_segment_381 t a1 l2 l3 l7 l11 s0 W) en := by
  have h0 := h
  obtain ⟨hx, hm, hr, he, ht⟩ := h0
  unfold fsh_segment_381
  refine j_runA hx 1 (tb := [(381, .iconst 0)]) (jtb_ok (by decide +kernel)) (pc' := 382) (lv' := [(0, vR t), (1, vI a1), (2, vI l2), (3, vL l3), (7, vL l7), (11, vL l11)]) (st' := [vI (kI 0), vR s0]) rfl ?_
  exact wsh_segment_382 h l2 l3 l7 l11 (kI 0) s0 W
theorem wsh_segment_311 {x : jCx} {en : ((Nat × jW) ⊕ jW) → Option (Outcome × jW)} {t : Nat} {a1 : Int32} (h : hsh_segment x en t a1) (l2 : Int32) (l3 : Int64) (l7 : Int64) (s0 : Int32) (s1 : Nat) (W : jW) : jJ x 13 311 [(0, vR t), (1, vI a1), (2, vI l2), (3, vL l3), (7, vL l7)] [vI s0, vR s1] W (fsh_segment_311 t a1 l2 l3 l7 s0 s1 W) en := by
  have h0 := h
  obtain ⟨hx, hm, hr, he, ht⟩ := h0
  unfold fsh_segment_311
  refine j_runA hx 4 (tb := [(311, .iconst 2), (312, .iload_n 2), (313, .bipush 24), (315, .iadd)]) (jtb_ok (by decide +kernel)) (pc' := 316) (lv' := [(0, vR t), (1, vI a1), (2, vI l2), (3, vL l3), (7, vL l7)]) (st' := [vI (l2 + (kI 24)), vI (kI 2), vI s0, vR s1]) rfl ?_
  refine j_gd (fun h51 => ?_)
  refine j_EV (j_callV (av := [vI s0, vI (kI 2), vI (l2 + (kI 24))]) (st := []) hx hr (Or.inl q757) q758 q759 rfl md_ftr_must np_ftr_must (ctr_must s1 s0 (kI 2) (l2 + (kI 24)) W) (by decide) (Nat.le_of_ble_eq_true rfl) h51 (by decide) (by decide +kernel)) (fun z _ r h9 => j_upE hm hx (ht z) h9) (fun q52 _ => ?_)
  refine j_runA hx 1 (tb := [(319, .aload_n 0)]) (jtb_ok (by decide +kernel)) (pc' := 320) (lv' := [(0, vR t), (1, vI a1), (2, vI l2), (3, vL l3), (7, vL l7)]) (st' := [vR t]) rfl ?_
  refine j_gd (fun h54 => ?_)
  refine j_getR hx flX3_57 kl401 h54 (by decide) (by decide +kernel) ?_
  refine j_runA hx 3 (tb := [(323, .iload_n 2), (324, .bipush 32), (326, .iadd)]) (jtb_ok (by decide +kernel)) (pc' := 327) (lv' := [(0, vR t), (1, vI a1), (2, vI l2), (3, vL l3), (7, vL l7)]) (st' := [vI (l2 + (kI 32)), vR (jR q52 401 t)]) rfl ?_
  refine j_gd (fun h55 => ?_)
  refine j_OL (h55.elim (fun hh => j_callU (av := [vI (l2 + (kI 32))]) (st := []) hx hr q761 q763 (hde_fsr_pair) (by decide) q762 q764 rfl md_fsr_pair np_fsr_pair (csr_pair (jR q52 401 t) (l2 + (kI 32)) q52) (by decide) (Nat.le_of_ble_eq_true rfl) hh (by decide) (by decide +kernel)) (fun hh => j_callU (av := [vI (l2 + (kI 32))]) (st := []) hx hr q761 q763 (hde_fsr_pair) (by decide) q762 q765 rfl md_fsr_pair np_fsr_pair (csr_pair (jR q52 401 t) (l2 + (kI 32)) q52) (by decide) (Nat.le_of_ble_eq_true rfl) hh (by decide) (by decide +kernel))) (fun q56 _ => ?_)
  refine j_runA hx 2 (tb := [(330, .lstore 11), (332, .aload_n 0)]) (jtb_ok (by decide +kernel)) (pc' := 333) (lv' := [(11, vL q56), (0, vR t), (1, vI a1), (2, vI l2), (3, vL l3), (7, vL l7)]) (st' := [vR t]) rfl ?_
  refine j_getR hx flX3_53 kl400 h54 (by decide) (by decide +kernel) ?_
  refine j_runA hx 2 (tb := [(336, .lload 11), (338, .lconst 1)]) (jtb_ok (by decide +kernel)) (pc' := 339) (lv' := [(11, vL q56), (0, vR t), (1, vI a1), (2, vI l2), (3, vL l3), (7, vL l7)]) (st' := [vL (kJ 1), vL q56, vR (jR q52 400 t)]) rfl ?_
  refine j_lcmp_lt hx (off := 41) (tgt := 381) (by decide +kernel) (by decide +kernel) (by decide) (fun _ => ?_) (fun _ => ?_)
  · refine j_lv (lv' := [(0, vR t), (1, vI a1), (2, vI l2), (3, vL l3), (7, vL l7), (11, vL q56)]) ⟨rfl, rfl, rfl, rfl, rfl, rfl, trivial⟩ ?_
    exact wsh_segment_381 h l2 l3 l7 q56 (jR q52 400 t) q52
  refine j_runA hx 1 (tb := [(343, .lload 11)]) (jtb_ok (by decide +kernel)) (pc' := 345) (lv' := [(11, vL q56), (0, vR t), (1, vI a1), (2, vI l2), (3, vL l3), (7, vL l7)]) (st' := [vL q56, vR (jR q52 400 t)]) rfl ?_
  refine j_ldc2 hx (v := (kJ 4194304)) (jkd2 q828 (by decide +kernel)) (by decide +kernel) ?_
  refine j_lcmp_gt hx (off := 32) (tgt := 381) (by decide +kernel) (by decide +kernel) (by decide) (fun _ => ?_) (fun _ => ?_)
  · refine j_lv (lv' := [(0, vR t), (1, vI a1), (2, vI l2), (3, vL l3), (7, vL l7), (11, vL q56)]) ⟨rfl, rfl, rfl, rfl, rfl, rfl, trivial⟩ ?_
    exact wsh_segment_381 h l2 l3 l7 q56 (jR q52 400 t) q52
  refine j_runA hx 2 (tb := [(352, .lload_n 3), (353, .aload_n 0)]) (jtb_ok (by decide +kernel)) (pc' := 354) (lv' := [(11, vL q56), (0, vR t), (1, vI a1), (2, vI l2), (3, vL l3), (7, vL l7)]) (st' := [vR t, vL l3, vR (jR q52 400 t)]) rfl ?_
  refine j_getI hx flX3_143 kd405 h54 (by decide) (by decide +kernel) ?_
  refine j_runA hx 1 (tb := [(357, .i2l)]) (jtb_ok (by decide +kernel)) (pc' := 358) (lv' := [(11, vL q56), (0, vR t), (1, vI a1), (2, vI l2), (3, vL l3), (7, vL l7)]) (st' := [vL ((jI q52 405 t).toInt64), vL l3, vR (jR q52 400 t)]) rfl ?_
  refine j_TI (j_callS (av := [vL l3, vL ((jI q52 405 t).toInt64)]) (st := [vR (jR q52 400 t)]) hx hr (Or.inr ⟨_, q818⟩) q819 q226 md_fcl_isAbove np_fcl_isAbove (ccl_isAbove l3 ((jI q52 405 t).toInt64) q52) (by decide) (Nat.le_of_ble_eq_true rfl) (by decide +kernel)) ?_
  refine j_if_ne hx (off := 20) (tgt := 381) (by decide +kernel) (by decide) (fun _ => ?_) (fun _ => ?_)
  · refine j_lv (lv' := [(0, vR t), (1, vI a1), (2, vI l2), (3, vL l3), (7, vL l7), (11, vL q56)]) ⟨rfl, rfl, rfl, rfl, rfl, rfl, trivial⟩ ?_
    exact wsh_segment_381 h l2 l3 l7 q56 (jR q52 400 t) q52
  refine j_runA hx 4 (tb := [(364, .lload_n 3), (365, .lload 11), (367, .ladd), (368, .aload_n 0)]) (jtb_ok (by decide +kernel)) (pc' := 369) (lv' := [(11, vL q56), (0, vR t), (1, vI a1), (2, vI l2), (3, vL l3), (7, vL l7)]) (st' := [vR t, vL (l3 + q56), vR (jR q52 400 t)]) rfl ?_
  refine j_getI hx flX3_143 kd405 h54 (by decide) (by decide +kernel) ?_
  refine j_runA hx 1 (tb := [(372, .i2l)]) (jtb_ok (by decide +kernel)) (pc' := 373) (lv' := [(11, vL q56), (0, vR t), (1, vI a1), (2, vI l2), (3, vL l3), (7, vL l7)]) (st' := [vL ((jI q52 405 t).toInt64), vL (l3 + q56), vR (jR q52 400 t)]) rfl ?_
  refine j_lcmp_gt hx (off := 7) (tgt := 381) (by decide +kernel) (by decide +kernel) (by decide) (fun _ => ?_) (fun _ => ?_)
  · refine j_lv (lv' := [(0, vR t), (1, vI a1), (2, vI l2), (3, vL l3), (7, vL l7), (11, vL q56)]) ⟨rfl, rfl, rfl, rfl, rfl, rfl, trivial⟩ ?_
    exact wsh_segment_381 h l2 l3 l7 q56 (jR q52 400 t) q52
  refine j_runA hx 1 (tb := [(377, .iconst 1)]) (jtb_ok (by decide +kernel)) (pc' := 378) (lv' := [(11, vL q56), (0, vR t), (1, vI a1), (2, vI l2), (3, vL l3), (7, vL l7)]) (st' := [vI (kI 1), vR (jR q52 400 t)]) rfl ?_
  refine j_goto hx (off := 4) (by decide +kernel) (tgt := 382) (by decide) ?_
  refine j_lv (lv' := [(0, vR t), (1, vI a1), (2, vI l2), (3, vL l3), (7, vL l7), (11, vL q56)]) ⟨rfl, rfl, rfl, rfl, rfl, rfl, trivial⟩ ?_
  exact wsh_segment_382 h l2 l3 l7 q56 (kI 1) (jR q52 400 t) q52
theorem wsh_segment_277 {x : jCx} {en : ((Nat × jW) ⊕ jW) → Option (Outcome × jW)} {t : Nat} {a1 : Int32} (h : hsh_segment x en t a1) (l2 : Int32) (l3 : Int64) (l7 : Int64) (s0 : Int32) (s1 : Nat) (W : jW) : jJ x 13 277 [(0, vR t), (1, vI a1), (2, vI l2), (3, vL l3), (7, vL l7)] [vI s0, vR s1] W (fsh_segment_277 t a1 l2 l3 l7 s0 s1 W) en := by
  have h0 := h
  obtain ⟨hx, hm, hr, he, ht⟩ := h0
  unfold fsh_segment_277
  refine j_runA hx 4 (tb := [(277, .iconst 2), (278, .iload_n 2), (279, .bipush 16), (281, .iadd)]) (jtb_ok (by decide +kernel)) (pc' := 282) (lv' := [(0, vR t), (1, vI a1), (2, vI l2), (3, vL l3), (7, vL l7)]) (st' := [vI (l2 + (kI 16)), vI (kI 2), vI s0, vR s1]) rfl ?_
  refine j_gd (fun h44 => ?_)
  refine j_EV (j_callV (av := [vI s0, vI (kI 2), vI (l2 + (kI 16))]) (st := []) hx hr (Or.inl q757) q758 q759 rfl md_ftr_must np_ftr_must (ctr_must s1 s0 (kI 2) (l2 + (kI 16)) W) (by decide) (Nat.le_of_ble_eq_true rfl) h44 (by decide) (by decide +kernel)) (fun z _ r h9 => j_upE hm hx (ht z) h9) (fun q45 _ => ?_)
  refine j_runA hx 1 (tb := [(285, .aload_n 0)]) (jtb_ok (by decide +kernel)) (pc' := 286) (lv' := [(0, vR t), (1, vI a1), (2, vI l2), (3, vL l3), (7, vL l7)]) (st' := [vR t]) rfl ?_
  refine j_gd (fun h47 => ?_)
  refine j_getR hx flX3_53 kl400 h47 (by decide) (by decide +kernel) ?_
  refine j_runA hx 1 (tb := [(289, .aload_n 0)]) (jtb_ok (by decide +kernel)) (pc' := 290) (lv' := [(0, vR t), (1, vI a1), (2, vI l2), (3, vL l3), (7, vL l7)]) (st' := [vR t, vR (jR q45 400 t)]) rfl ?_
  refine j_getR hx flX3_57 kl401 h47 (by decide) (by decide +kernel) ?_
  refine j_runA hx 3 (tb := [(293, .iload_n 2), (294, .bipush 24), (296, .iadd)]) (jtb_ok (by decide +kernel)) (pc' := 297) (lv' := [(0, vR t), (1, vI a1), (2, vI l2), (3, vL l3), (7, vL l7)]) (st' := [vI (l2 + (kI 24)), vR (jR q45 401 t), vR (jR q45 400 t)]) rfl ?_
  refine j_gd (fun h48 => ?_)
  refine j_OL (h48.elim (fun hh => j_callU (av := [vI (l2 + (kI 24))]) (st := [vR (jR q45 400 t)]) hx hr q761 q763 (hde_fsr_pair) (by decide) q762 q764 rfl md_fsr_pair np_fsr_pair (csr_pair (jR q45 401 t) (l2 + (kI 24)) q45) (by decide) (Nat.le_of_ble_eq_true rfl) hh (by decide) (by decide +kernel)) (fun hh => j_callU (av := [vI (l2 + (kI 24))]) (st := [vR (jR q45 400 t)]) hx hr q761 q763 (hde_fsr_pair) (by decide) q762 q765 rfl md_fsr_pair np_fsr_pair (csr_pair (jR q45 401 t) (l2 + (kI 24)) q45) (by decide) (Nat.le_of_ble_eq_true rfl) hh (by decide) (by decide +kernel))) (fun q49 _ => ?_)
  refine j_runA hx 1 (tb := [(300, .lload 7)]) (jtb_ok (by decide +kernel)) (pc' := 302) (lv' := [(0, vR t), (1, vI a1), (2, vI l2), (3, vL l3), (7, vL l7)]) (st' := [vL l7, vL q49, vR (jR q45 400 t)]) rfl ?_
  refine j_lcmp_ne hx (off := 7) (tgt := 310) (by decide +kernel) (by decide +kernel) (by decide) (fun _ => ?_) (fun _ => ?_)
  · refine j_runA hx 1 (tb := [(310, .iconst 0)]) (jtb_ok (by decide +kernel)) (pc' := 311) (lv' := [(0, vR t), (1, vI a1), (2, vI l2), (3, vL l3), (7, vL l7)]) (st' := [vI (kI 0), vR (jR q45 400 t)]) rfl ?_
    exact wsh_segment_311 h l2 l3 l7 (kI 0) (jR q45 400 t) q45
  refine j_runA hx 1 (tb := [(306, .iconst 1)]) (jtb_ok (by decide +kernel)) (pc' := 307) (lv' := [(0, vR t), (1, vI a1), (2, vI l2), (3, vL l3), (7, vL l7)]) (st' := [vI (kI 1), vR (jR q45 400 t)]) rfl ?_
  refine j_goto hx (off := 4) (by decide +kernel) (tgt := 311) (by decide) ?_
  exact wsh_segment_311 h l2 l3 l7 (kI 1) (jR q45 400 t) q45
theorem wsh_segment_276 {x : jCx} {en : ((Nat × jW) ⊕ jW) → Option (Outcome × jW)} {t : Nat} {a1 : Int32} (h : hsh_segment x en t a1) (l2 : Int32) (l3 : Int64) (l7 : Int64) (s0 : Nat) (W : jW) : jJ x 13 276 [(0, vR t), (1, vI a1), (2, vI l2), (3, vL l3), (7, vL l7)] [vR s0] W (fsh_segment_276 t a1 l2 l3 l7 s0 W) en := by
  have h0 := h
  obtain ⟨hx, hm, hr, he, ht⟩ := h0
  unfold fsh_segment_276
  refine j_runA hx 1 (tb := [(276, .iconst 0)]) (jtb_ok (by decide +kernel)) (pc' := 277) (lv' := [(0, vR t), (1, vI a1), (2, vI l2), (3, vL l3), (7, vL l7)]) (st' := [vI (kI 0), vR s0]) rfl ?_
  exact wsh_segment_277 h l2 l3 l7 (kI 0) s0 W
theorem wsh_segment_236 {x : jCx} {en : ((Nat × jW) ⊕ jW) → Option (Outcome × jW)} {t : Nat} {a1 : Int32} (h : hsh_segment x en t a1) (l2 : Int32) (l3 : Int64) (l7 : Int64) (s0 : Int64) (W : jW) : jJ x 13 236 [(0, vR t), (1, vI a1), (2, vI l2), (3, vL l3), (7, vL l7)] [vL s0] W (fsh_segment_236 t a1 l2 l3 l7 s0 W) en := by
  have h0 := h
  obtain ⟨hx, hm, hr, he, ht⟩ := h0
  unfold fsh_segment_236
  refine j_runA hx 2 (tb := [(236, .lstore 9), (238, .aload_n 0)]) (jtb_ok (by decide +kernel)) (pc' := 239) (lv' := [(9, vL s0), (0, vR t), (1, vI a1), (2, vI l2), (3, vL l3), (7, vL l7)]) (st' := [vR t]) rfl ?_
  refine j_gd (fun h42 => ?_)
  refine j_getR hx flX3_53 kl400 h42 (by decide) (by decide +kernel) ?_
  refine j_runA hx 2 (tb := [(242, .lload 7), (244, .lload 9)]) (jtb_ok (by decide +kernel)) (pc' := 246) (lv' := [(9, vL s0), (0, vR t), (1, vI a1), (2, vI l2), (3, vL l3), (7, vL l7)]) (st' := [vL s0, vL l7, vR (jR W 400 t)]) rfl ?_
  refine j_lcmp_lt hx (off := 29) (tgt := 276) (by decide +kernel) (by decide +kernel) (by decide) (fun _ => ?_) (fun _ => ?_)
  · refine j_lv (lv' := [(0, vR t), (1, vI a1), (2, vI l2), (3, vL l3), (7, vL l7)]) ⟨rfl, rfl, rfl, rfl, rfl, trivial⟩ ?_
    exact wsh_segment_276 h l2 l3 l7 (jR W 400 t) W
  refine j_runA hx 1 (tb := [(250, .lload 7)]) (jtb_ok (by decide +kernel)) (pc' := 252) (lv' := [(9, vL s0), (0, vR t), (1, vI a1), (2, vI l2), (3, vL l3), (7, vL l7)]) (st' := [vL l7, vR (jR W 400 t)]) rfl ?_
  refine j_ldc2 hx (v := (kJ 134217728)) (jkd2 q826 (by decide +kernel)) (by decide +kernel) ?_
  refine j_lcmp_gt hx (off := 20) (tgt := 276) (by decide +kernel) (by decide +kernel) (by decide) (fun _ => ?_) (fun _ => ?_)
  · refine j_lv (lv' := [(0, vR t), (1, vI a1), (2, vI l2), (3, vL l3), (7, vL l7)]) ⟨rfl, rfl, rfl, rfl, rfl, trivial⟩ ?_
    exact wsh_segment_276 h l2 l3 l7 (jR W 400 t) W
  refine j_runA hx 3 (tb := [(259, .lload 7), (261, .lload_n 3), (262, .lsub)]) (jtb_ok (by decide +kernel)) (pc' := 263) (lv' := [(9, vL s0), (0, vR t), (1, vI a1), (2, vI l2), (3, vL l3), (7, vL l7)]) (st' := [vL (l7 - l3), vR (jR W 400 t)]) rfl ?_
  refine j_ldc2 hx (v := (kJ 16)) (jkd2 q827 (by decide +kernel)) (by decide +kernel) ?_
  refine j_lrem hx (by decide +kernel) (by decide +kernel) ?_
  refine j_runA hx 1 (tb := [(267, .lconst 0)]) (jtb_ok (by decide +kernel)) (pc' := 268) (lv' := [(9, vL s0), (0, vR t), (1, vI a1), (2, vI l2), (3, vL l3), (7, vL l7)]) (st' := [vL (kJ 0), vL (lrm (l7 - l3) (kJ 16)), vR (jR W 400 t)]) rfl ?_
  refine j_lcmp_ne hx (off := 7) (tgt := 276) (by decide +kernel) (by decide +kernel) (by decide) (fun _ => ?_) (fun _ => ?_)
  · refine j_lv (lv' := [(0, vR t), (1, vI a1), (2, vI l2), (3, vL l3), (7, vL l7)]) ⟨rfl, rfl, rfl, rfl, rfl, trivial⟩ ?_
    exact wsh_segment_276 h l2 l3 l7 (jR W 400 t) W
  refine j_runA hx 1 (tb := [(272, .iconst 1)]) (jtb_ok (by decide +kernel)) (pc' := 273) (lv' := [(9, vL s0), (0, vR t), (1, vI a1), (2, vI l2), (3, vL l3), (7, vL l7)]) (st' := [vI (kI 1), vR (jR W 400 t)]) rfl ?_
  refine j_goto hx (off := 4) (by decide +kernel) (tgt := 277) (by decide) ?_
  refine j_lv (lv' := [(0, vR t), (1, vI a1), (2, vI l2), (3, vL l3), (7, vL l7)]) ⟨rfl, rfl, rfl, rfl, rfl, trivial⟩ ?_
  exact wsh_segment_277 h l2 l3 l7 (kI 1) (jR W 400 t) W
theorem wsh_segment_181 {x : jCx} {en : ((Nat × jW) ⊕ jW) → Option (Outcome × jW)} {t : Nat} {a1 : Int32} (h : hsh_segment x en t a1) (l2 : Int32) (l3 : Int64) (s0 : Int32) (s1 : Nat) (W : jW) : jJ x 13 181 [(0, vR t), (1, vI a1), (2, vI l2), (3, vL l3)] [vI s0, vR s1] W (fsh_segment_181 t a1 l2 l3 s0 s1 W) en := by
  have h0 := h
  obtain ⟨hx, hm, hr, he, ht⟩ := h0
  unfold fsh_segment_181
  refine j_runA hx 4 (tb := [(181, .iconst 2), (182, .iload_n 2), (183, .bipush 8), (185, .iadd)]) (jtb_ok (by decide +kernel)) (pc' := 186) (lv' := [(0, vR t), (1, vI a1), (2, vI l2), (3, vL l3)]) (st' := [vI (l2 + (kI 8)), vI (kI 2), vI s0, vR s1]) rfl ?_
  refine j_gd (fun h33 => ?_)
  refine j_EV (j_callV (av := [vI s0, vI (kI 2), vI (l2 + (kI 8))]) (st := []) hx hr (Or.inl q757) q758 q759 rfl md_ftr_must np_ftr_must (ctr_must s1 s0 (kI 2) (l2 + (kI 8)) W) (by decide) (Nat.le_of_ble_eq_true rfl) h33 (by decide) (by decide +kernel)) (fun z _ r h9 => j_upE hm hx (ht z) h9) (fun q34 _ => ?_)
  refine j_runA hx 1 (tb := [(189, .aload_n 0)]) (jtb_ok (by decide +kernel)) (pc' := 190) (lv' := [(0, vR t), (1, vI a1), (2, vI l2), (3, vL l3)]) (st' := [vR t]) rfl ?_
  refine j_gd (fun h36 => ?_)
  refine j_getR hx flX3_57 kl401 h36 (by decide) (by decide +kernel) ?_
  refine j_runA hx 3 (tb := [(193, .iload_n 2), (194, .bipush 16), (196, .iadd)]) (jtb_ok (by decide +kernel)) (pc' := 197) (lv' := [(0, vR t), (1, vI a1), (2, vI l2), (3, vL l3)]) (st' := [vI (l2 + (kI 16)), vR (jR q34 401 t)]) rfl ?_
  refine j_gd (fun h37 => ?_)
  refine j_OL (h37.elim (fun hh => j_callU (av := [vI (l2 + (kI 16))]) (st := []) hx hr q761 q763 (hde_fsr_pair) (by decide) q762 q764 rfl md_fsr_pair np_fsr_pair (csr_pair (jR q34 401 t) (l2 + (kI 16)) q34) (by decide) (Nat.le_of_ble_eq_true rfl) hh (by decide) (by decide +kernel)) (fun hh => j_callU (av := [vI (l2 + (kI 16))]) (st := []) hx hr q761 q763 (hde_fsr_pair) (by decide) q762 q765 rfl md_fsr_pair np_fsr_pair (csr_pair (jR q34 401 t) (l2 + (kI 16)) q34) (by decide) (Nat.le_of_ble_eq_true rfl) hh (by decide) (by decide +kernel))) (fun q38 _ => ?_)
  refine j_runA hx 2 (tb := [(200, .lstore 7), (202, .iload_n 1)]) (jtb_ok (by decide +kernel)) (pc' := 203) (lv' := [(7, vL q38), (0, vR t), (1, vI a1), (2, vI l2), (3, vL l3)]) (st' := [vI a1]) rfl ?_
  refine j_if_ne hx (off := 9) (tgt := 212) (by decide +kernel) (by decide) (fun _ => ?_) (fun _ => ?_)
  · refine j_ldc2 hx (v := (kJ 65536)) (jkd2 q822 (by decide +kernel)) (by decide +kernel) ?_
    refine j_runA hx 1 (tb := [(215, .aload_n 0)]) (jtb_ok (by decide +kernel)) (pc' := 216) (lv' := [(7, vL q38), (0, vR t), (1, vI a1), (2, vI l2), (3, vL l3)]) (st' := [vR t, vL (kJ 65536)]) rfl ?_
    refine j_getR hx flX3_15 kl408 h36 (by decide) (by decide +kernel) ?_
    refine j_runA hx 3 (tb := [(219, .iload_n 1), (220, .iconst 1), (221, .isub)]) (jtb_ok (by decide +kernel)) (pc' := 222) (lv' := [(7, vL q38), (0, vR t), (1, vI a1), (2, vI l2), (3, vL l3)]) (st' := [vI (a1 - (kI 1)), vR (jR q34 408 t), vL (kJ 65536)]) rfl ?_
    refine j_gd (fun h39 => ?_)
    refine j_lald hx (f := 408) (o := t) kd408 rfl (by decide +kernel) h39 ?_
    refine j_runA hx 1 (tb := [(223, .aload_n 0)]) (jtb_ok (by decide +kernel)) (pc' := 224) (lv' := [(7, vL q38), (0, vR t), (1, vI a1), (2, vI l2), (3, vL l3)]) (st' := [vR t, vL (jB q34 408 t (ix (a1 - (kI 1)))), vL (kJ 65536)]) rfl ?_
    refine j_getR hx flX3_22 kl410 h36 (by decide) (by decide +kernel) ?_
    refine j_runA hx 3 (tb := [(227, .iload_n 1), (228, .iconst 1), (229, .isub)]) (jtb_ok (by decide +kernel)) (pc' := 230) (lv' := [(7, vL q38), (0, vR t), (1, vI a1), (2, vI l2), (3, vL l3)]) (st' := [vI (a1 - (kI 1)), vR (jR q34 410 t), vL (jB q34 408 t (ix (a1 - (kI 1)))), vL (kJ 65536)]) rfl ?_
    refine j_gd (fun h40 => ?_)
    refine j_iald hx (f := 410) (o := t) kd410 rfl (by decide +kernel) h40 ?_
    refine j_runA hx 2 (tb := [(231, .i2l), (232, .ladd)]) (jtb_ok (by decide +kernel)) (pc' := 233) (lv' := [(7, vL q38), (0, vR t), (1, vI a1), (2, vI l2), (3, vL l3)]) (st' := [vL ((jB q34 408 t (ix (a1 - (kI 1)))) + ((jA q34 410 t (ix (a1 - (kI 1)))).toInt64)), vL (kJ 65536)]) rfl ?_
    refine j_TL (j_callS (av := [vL (kJ 65536), vL ((jB q34 408 t (ix (a1 - (kI 1)))) + ((jA q34 410 t (ix (a1 - (kI 1)))).toInt64))]) (st := []) hx hr (Or.inl q823) q824 q246 md_fjm_max np_fjm_max (cjm_max (kJ 65536) ((jB q34 408 t (ix (a1 - (kI 1)))) + ((jA q34 410 t (ix (a1 - (kI 1)))).toInt64)) q34) (by decide) (Nat.le_of_ble_eq_true rfl) (by decide +kernel)) ?_
    refine j_lv (lv' := [(0, vR t), (1, vI a1), (2, vI l2), (3, vL l3), (7, vL q38)]) ⟨rfl, rfl, rfl, rfl, rfl, trivial⟩ ?_
    exact wsh_segment_236 h l2 l3 q38 (fjm_max (kJ 65536) ((jB q34 408 t (ix (a1 - (kI 1)))) + ((jA q34 410 t (ix (a1 - (kI 1)))).toInt64))) q34
  refine j_ldc2 hx (v := (kJ 65536)) (jkd2 q822 (by decide +kernel)) (by decide +kernel) ?_
  refine j_goto hx (off := 27) (by decide +kernel) (tgt := 236) (by decide) ?_
  refine j_lv (lv' := [(0, vR t), (1, vI a1), (2, vI l2), (3, vL l3), (7, vL q38)]) ⟨rfl, rfl, rfl, rfl, rfl, trivial⟩ ?_
  exact wsh_segment_236 h l2 l3 q38 (kJ 65536) q34
theorem wsh_segment_161 {x : jCx} {en : ((Nat × jW) ⊕ jW) → Option (Outcome × jW)} {t : Nat} {a1 : Int32} (h : hsh_segment x en t a1) (l2 : Int32) (l3 : Int64) (s0 : Int64) (W : jW) : jJ x 13 161 [(0, vR t), (1, vI a1), (2, vI l2), (3, vL l3)] [vL s0] W (fsh_segment_161 t a1 l2 l3 s0 W) en := by
  have h0 := h
  obtain ⟨hx, hm, hr, he, ht⟩ := h0
  unfold fsh_segment_161
  refine j_runA hx 2 (tb := [(161, .lstore 5), (163, .aload_n 0)]) (jtb_ok (by decide +kernel)) (pc' := 164) (lv' := [(5, vL s0), (0, vR t), (1, vI a1), (2, vI l2), (3, vL l3)]) (st' := [vR t]) rfl ?_
  refine j_gd (fun h31 => ?_)
  refine j_getR hx flX3_53 kl400 h31 (by decide) (by decide +kernel) ?_
  refine j_runA hx 2 (tb := [(167, .lload 5), (169, .lload_n 3)]) (jtb_ok (by decide +kernel)) (pc' := 170) (lv' := [(5, vL s0), (0, vR t), (1, vI a1), (2, vI l2), (3, vL l3)]) (st' := [vL l3, vL s0, vR (jR W 400 t)]) rfl ?_
  refine j_TI (j_callS (av := [vL s0, vL l3]) (st := [vR (jR W 400 t)]) hx hr (Or.inr ⟨_, q818⟩) q819 q226 md_fcl_isAbove np_fcl_isAbove (ccl_isAbove s0 l3 W) (by decide) (Nat.le_of_ble_eq_true rfl) (by decide +kernel)) ?_
  refine j_if_ne hx (off := 7) (tgt := 180) (by decide +kernel) (by decide) (fun _ => ?_) (fun _ => ?_)
  · refine j_runA hx 1 (tb := [(180, .iconst 0)]) (jtb_ok (by decide +kernel)) (pc' := 181) (lv' := [(5, vL s0), (0, vR t), (1, vI a1), (2, vI l2), (3, vL l3)]) (st' := [vI (kI 0), vR (jR W 400 t)]) rfl ?_
    refine j_lv (lv' := [(0, vR t), (1, vI a1), (2, vI l2), (3, vL l3)]) ⟨rfl, rfl, rfl, rfl, trivial⟩ ?_
    exact wsh_segment_181 h l2 l3 (kI 0) (jR W 400 t) W
  refine j_runA hx 1 (tb := [(176, .iconst 1)]) (jtb_ok (by decide +kernel)) (pc' := 177) (lv' := [(5, vL s0), (0, vR t), (1, vI a1), (2, vI l2), (3, vL l3)]) (st' := [vI (kI 1), vR (jR W 400 t)]) rfl ?_
  refine j_goto hx (off := 4) (by decide +kernel) (tgt := 181) (by decide) ?_
  refine j_lv (lv' := [(0, vR t), (1, vI a1), (2, vI l2), (3, vL l3)]) ⟨rfl, rfl, rfl, rfl, trivial⟩ ?_
  exact wsh_segment_181 h l2 l3 (kI 1) (jR W 400 t) W
theorem wsh_segment_106 {x : jCx} {en : ((Nat × jW) ⊕ jW) → Option (Outcome × jW)} {t : Nat} {a1 : Int32} (h : hsh_segment x en t a1) (l2 : Int32) (s0 : Int32) (s1 : Nat) (W : jW) : jJ x 13 106 [(0, vR t), (1, vI a1), (2, vI l2)] [vI s0, vR s1] W (fsh_segment_106 t a1 l2 s0 s1 W) en := by
  have h0 := h
  obtain ⟨hx, hm, hr, he, ht⟩ := h0
  unfold fsh_segment_106
  refine j_runA hx 4 (tb := [(106, .iconst 2), (107, .iload_n 2), (108, .iconst 4), (109, .iadd)]) (jtb_ok (by decide +kernel)) (pc' := 110) (lv' := [(0, vR t), (1, vI a1), (2, vI l2)]) (st' := [vI (l2 + (kI 4)), vI (kI 2), vI s0, vR s1]) rfl ?_
  refine j_gd (fun h22 => ?_)
  refine j_EV (j_callV (av := [vI s0, vI (kI 2), vI (l2 + (kI 4))]) (st := []) hx hr (Or.inl q757) q758 q759 rfl md_ftr_must np_ftr_must (ctr_must s1 s0 (kI 2) (l2 + (kI 4)) W) (by decide) (Nat.le_of_ble_eq_true rfl) h22 (by decide) (by decide +kernel)) (fun z _ r h9 => j_upE hm hx (ht z) h9) (fun q23 _ => ?_)
  refine j_runA hx 1 (tb := [(113, .aload_n 0)]) (jtb_ok (by decide +kernel)) (pc' := 114) (lv' := [(0, vR t), (1, vI a1), (2, vI l2)]) (st' := [vR t]) rfl ?_
  refine j_gd (fun h25 => ?_)
  refine j_getR hx flX3_57 kl401 h25 (by decide) (by decide +kernel) ?_
  refine j_runA hx 3 (tb := [(117, .iload_n 2), (118, .bipush 8), (120, .iadd)]) (jtb_ok (by decide +kernel)) (pc' := 121) (lv' := [(0, vR t), (1, vI a1), (2, vI l2)]) (st' := [vI (l2 + (kI 8)), vR (jR q23 401 t)]) rfl ?_
  refine j_gd (fun h26 => ?_)
  refine j_OL (h26.elim (fun hh => j_callU (av := [vI (l2 + (kI 8))]) (st := []) hx hr q761 q763 (hde_fsr_pair) (by decide) q762 q764 rfl md_fsr_pair np_fsr_pair (csr_pair (jR q23 401 t) (l2 + (kI 8)) q23) (by decide) (Nat.le_of_ble_eq_true rfl) hh (by decide) (by decide +kernel)) (fun hh => j_callU (av := [vI (l2 + (kI 8))]) (st := []) hx hr q761 q763 (hde_fsr_pair) (by decide) q762 q765 rfl md_fsr_pair np_fsr_pair (csr_pair (jR q23 401 t) (l2 + (kI 8)) q23) (by decide) (Nat.le_of_ble_eq_true rfl) hh (by decide) (by decide +kernel))) (fun q27 _ => ?_)
  refine j_runA hx 2 (tb := [(124, .lstore_n 3), (125, .iload_n 1)]) (jtb_ok (by decide +kernel)) (pc' := 126) (lv' := [(3, vL q27), (0, vR t), (1, vI a1), (2, vI l2)]) (st' := [vI a1]) rfl ?_
  refine j_if_ne hx (off := 17) (tgt := 143) (by decide +kernel) (by decide) (fun _ => ?_) (fun _ => ?_)
  · refine j_runA hx 1 (tb := [(143, .aload_n 0)]) (jtb_ok (by decide +kernel)) (pc' := 144) (lv' := [(3, vL q27), (0, vR t), (1, vI a1), (2, vI l2)]) (st' := [vR t]) rfl ?_
    refine j_getR hx flX3_19 kl409 h25 (by decide) (by decide +kernel) ?_
    refine j_runA hx 3 (tb := [(147, .iload_n 1), (148, .iconst 1), (149, .isub)]) (jtb_ok (by decide +kernel)) (pc' := 150) (lv' := [(3, vL q27), (0, vR t), (1, vI a1), (2, vI l2)]) (st' := [vI (a1 - (kI 1)), vR (jR q23 409 t)]) rfl ?_
    refine j_gd (fun h28 => ?_)
    refine j_iald hx (f := 409) (o := t) kd409 rfl (by decide +kernel) h28 ?_
    refine j_runA hx 1 (tb := [(151, .aload_n 0)]) (jtb_ok (by decide +kernel)) (pc' := 152) (lv' := [(3, vL q27), (0, vR t), (1, vI a1), (2, vI l2)]) (st' := [vR t, vI (jA q23 409 t (ix (a1 - (kI 1))))]) rfl ?_
    refine j_getR hx flX3_22 kl410 h25 (by decide) (by decide +kernel) ?_
    refine j_runA hx 3 (tb := [(155, .iload_n 1), (156, .iconst 1), (157, .isub)]) (jtb_ok (by decide +kernel)) (pc' := 158) (lv' := [(3, vL q27), (0, vR t), (1, vI a1), (2, vI l2)]) (st' := [vI (a1 - (kI 1)), vR (jR q23 410 t), vI (jA q23 409 t (ix (a1 - (kI 1))))]) rfl ?_
    refine j_gd (fun h29 => ?_)
    refine j_iald hx (f := 410) (o := t) kd410 rfl (by decide +kernel) h29 ?_
    refine j_runA hx 2 (tb := [(159, .iadd), (160, .i2l)]) (jtb_ok (by decide +kernel)) (pc' := 161) (lv' := [(3, vL q27), (0, vR t), (1, vI a1), (2, vI l2)]) (st' := [vL (((jA q23 409 t (ix (a1 - (kI 1)))) + (jA q23 410 t (ix (a1 - (kI 1))))).toInt64)]) rfl ?_
    refine j_lv (lv' := [(0, vR t), (1, vI a1), (2, vI l2), (3, vL q27)]) ⟨rfl, rfl, rfl, rfl, trivial⟩ ?_
    exact wsh_segment_161 h l2 q27 (((jA q23 409 t (ix (a1 - (kI 1)))) + (jA q23 410 t (ix (a1 - (kI 1))))).toInt64) q23
  refine j_runA hx 3 (tb := [(129, .bipush 64), (131, .bipush 56), (133, .aload_n 0)]) (jtb_ok (by decide +kernel)) (pc' := 134) (lv' := [(3, vL q27), (0, vR t), (1, vI a1), (2, vI l2)]) (st' := [vR t, vI (kI 56), vI (kI 64)]) rfl ?_
  refine j_getI hx flX3_64 kd402 h25 (by decide) (by decide +kernel) ?_
  refine j_runA hx 3 (tb := [(137, .imul), (138, .iadd), (139, .i2l)]) (jtb_ok (by decide +kernel)) (pc' := 140) (lv' := [(3, vL q27), (0, vR t), (1, vI a1), (2, vI l2)]) (st' := [vL (((kI 64) + ((kI 56) * (jI q23 402 t))).toInt64)]) rfl ?_
  refine j_goto hx (off := 21) (by decide +kernel) (tgt := 161) (by decide) ?_
  refine j_lv (lv' := [(0, vR t), (1, vI a1), (2, vI l2), (3, vL q27)]) ⟨rfl, rfl, rfl, rfl, trivial⟩ ?_
  exact wsh_segment_161 h l2 q27 (((kI 64) + ((kI 56) * (jI q23 402 t))).toInt64) q23
theorem wsh_segment_101 {x : jCx} {en : ((Nat × jW) ⊕ jW) → Option (Outcome × jW)} {t : Nat} {a1 : Int32} (h : hsh_segment x en t a1) (l2 : Int32) (s0 : Nat) (W : jW) : jJ x 13 101 [(0, vR t), (1, vI a1), (2, vI l2)] [vR s0] W (fsh_segment_101 t a1 l2 s0 W) en := by
  have h0 := h
  obtain ⟨hx, hm, hr, he, ht⟩ := h0
  unfold fsh_segment_101
  refine j_runA hx 1 (tb := [(101, .iconst 1)]) (jtb_ok (by decide +kernel)) (pc' := 102) (lv' := [(0, vR t), (1, vI a1), (2, vI l2)]) (st' := [vI (kI 1), vR s0]) rfl ?_
  refine j_goto hx (off := 4) (by decide +kernel) (tgt := 106) (by decide) ?_
  exact wsh_segment_106 h l2 (kI 1) s0 W
theorem wsh_segment_29 {x : jCx} {en : ((Nat × jW) ⊕ jW) → Option (Outcome × jW)} {t : Nat} {a1 : Int32} (h : hsh_segment x en t a1) (l2 : Int32) (s0 : Int32) (s1 : Nat) (W : jW) : jJ x 13 29 [(0, vR t), (1, vI a1), (2, vI l2)] [vI s0, vR s1] W (fsh_segment_29 t a1 l2 s0 s1 W) en := by
  have h0 := h
  obtain ⟨hx, hm, hr, he, ht⟩ := h0
  unfold fsh_segment_29
  refine j_runA hx 2 (tb := [(29, .iconst 2), (30, .iload_n 2)]) (jtb_ok (by decide +kernel)) (pc' := 31) (lv' := [(0, vR t), (1, vI a1), (2, vI l2)]) (st' := [vI l2, vI (kI 2), vI s0, vR s1]) rfl ?_
  refine j_gd (fun h6 => ?_)
  refine j_EV (j_callV (av := [vI s0, vI (kI 2), vI l2]) (st := []) hx hr (Or.inl q757) q758 q759 rfl md_ftr_must np_ftr_must (ctr_must s1 s0 (kI 2) l2 W) (by decide) (Nat.le_of_ble_eq_true rfl) h6 (by decide) (by decide +kernel)) (fun z _ r h9 => j_upE hm hx (ht z) h9) (fun q7 _ => ?_)
  refine j_runA hx 1 (tb := [(34, .aload_n 0)]) (jtb_ok (by decide +kernel)) (pc' := 35) (lv' := [(0, vR t), (1, vI a1), (2, vI l2)]) (st' := [vR t]) rfl ?_
  refine j_gd (fun h9 => ?_)
  refine j_getR hx flX3_9 kl407 h9 (by decide) (by decide +kernel) ?_
  refine j_runA hx 2 (tb := [(38, .iload_n 1), (39, .aload_n 0)]) (jtb_ok (by decide +kernel)) (pc' := 40) (lv' := [(0, vR t), (1, vI a1), (2, vI l2)]) (st' := [vR t, vI a1, vR (jR q7 407 t)]) rfl ?_
  refine j_getR hx flX3_57 kl401 h9 (by decide) (by decide +kernel) ?_
  refine j_runA hx 3 (tb := [(43, .iload_n 2), (44, .iconst 4), (45, .iadd)]) (jtb_ok (by decide +kernel)) (pc' := 46) (lv' := [(0, vR t), (1, vI a1), (2, vI l2)]) (st' := [vI (l2 + (kI 4)), vR (jR q7 401 t), vI a1, vR (jR q7 407 t)]) rfl ?_
  refine j_gd (fun h10 => ?_)
  refine j_OI (h10.elim (fun hh => j_callU (av := [vI (l2 + (kI 4))]) (st := [vI a1, vR (jR q7 407 t)]) hx hr q808 q769 (hde_fsr_word) (by decide) q768 q770 rfl md_fsr_word np_fsr_word (csr_word (jR q7 401 t) (l2 + (kI 4)) q7) (by decide) (Nat.le_of_ble_eq_true rfl) hh (by decide) (by decide +kernel)) (fun hh => j_callU (av := [vI (l2 + (kI 4))]) (st := [vI a1, vR (jR q7 407 t)]) hx hr q808 q769 (hde_fsr_word) (by decide) q768 q771 rfl md_fsr_word np_fsr_word (csr_word (jR q7 401 t) (l2 + (kI 4)) q7) (by decide) (Nat.le_of_ble_eq_true rfl) hh (by decide) (by decide +kernel))) (fun q11 _ => ?_)
  refine j_gd (fun h12 => ?_)
  refine j_iast hx (f := 407) (o := t) kd407 rfl (by decide +kernel) h12 ?_
  refine j_ltw rfl (fun W13 hc14 => ?_)
  have h15 : jC W13 t = 4 := (congrFun hc14 _).trans h9
  refine j_runA hx 1 (tb := [(50, .aload_n 0)]) (jtb_ok (by decide +kernel)) (pc' := 51) (lv' := [(0, vR t), (1, vI a1), (2, vI l2)]) (st' := [vR t]) rfl ?_
  refine j_getR hx flX3_53 kl400 h15 (by decide) (by decide +kernel) ?_
  refine j_runA hx 2 (tb := [(54, .iload_n 1), (55, .aload_n 0)]) (jtb_ok (by decide +kernel)) (pc' := 56) (lv' := [(0, vR t), (1, vI a1), (2, vI l2)]) (st' := [vR t, vI a1, vR (jR W13 400 t)]) rfl ?_
  refine j_OI (j_callV (av := []) (st := [vI a1, vR (jR W13 400 t)]) hx hr (Or.inl q792) q793 q794 rfl md_fsh_last np_fsh_last (csh_last t W13) (by decide) (Nat.le_of_ble_eq_true rfl) h15 (by decide) (by decide +kernel)) (fun q17 _ => ?_)
  refine j_icmp_ne hx (off := 21) (tgt := 80) (by decide +kernel) (by decide) (fun _ => ?_) (fun _ => ?_)
  · refine j_runA hx 1 (tb := [(80, .aload_n 0)]) (jtb_ok (by decide +kernel)) (pc' := 81) (lv' := [(0, vR t), (1, vI a1), (2, vI l2)]) (st' := [vR t, vR (jR W13 400 t)]) rfl ?_
    refine j_getR hx flX3_9 kl407 h15 (by decide) (by decide +kernel) ?_
    refine j_runA hx 1 (tb := [(84, .iload_n 1)]) (jtb_ok (by decide +kernel)) (pc' := 85) (lv' := [(0, vR t), (1, vI a1), (2, vI l2)]) (st' := [vI a1, vR (jR W13 407 t), vR (jR W13 400 t)]) rfl ?_
    refine j_gd (fun h18 => ?_)
    refine j_iald hx (f := 407) (o := t) kd407 rfl (by decide +kernel) h18 ?_
    refine j_runA hx 1 (tb := [(86, .iconst 4)]) (jtb_ok (by decide +kernel)) (pc' := 87) (lv' := [(0, vR t), (1, vI a1), (2, vI l2)]) (st' := [vI (kI 4), vI (jA W13 407 t (ix a1)), vR (jR W13 400 t)]) rfl ?_
    refine j_icmp_eq hx (off := 14) (tgt := 101) (by decide +kernel) (by decide) (fun _ => ?_) (fun _ => ?_)
    · exact wsh_segment_101 h l2 (jR W13 400 t) W13
    refine j_runA hx 1 (tb := [(90, .aload_n 0)]) (jtb_ok (by decide +kernel)) (pc' := 91) (lv' := [(0, vR t), (1, vI a1), (2, vI l2)]) (st' := [vR t, vR (jR W13 400 t)]) rfl ?_
    refine j_getR hx flX3_9 kl407 h15 (by decide) (by decide +kernel) ?_
    refine j_runA hx 1 (tb := [(94, .iload_n 1)]) (jtb_ok (by decide +kernel)) (pc' := 95) (lv' := [(0, vR t), (1, vI a1), (2, vI l2)]) (st' := [vI a1, vR (jR W13 407 t), vR (jR W13 400 t)]) rfl ?_
    refine j_gd (fun h19 => ?_)
    refine j_iald hx (f := 407) (o := t) kd407 rfl (by decide +kernel) h19 ?_
    refine j_runA hx 1 (tb := [(96, .bipush 6)]) (jtb_ok (by decide +kernel)) (pc' := 98) (lv' := [(0, vR t), (1, vI a1), (2, vI l2)]) (st' := [vI (kI 6), vI (jA W13 407 t (ix a1)), vR (jR W13 400 t)]) rfl ?_
    refine j_icmp_ne hx (off := 7) (tgt := 105) (by decide +kernel) (by decide) (fun _ => ?_) (fun _ => ?_)
    · refine j_runA hx 1 (tb := [(105, .iconst 0)]) (jtb_ok (by decide +kernel)) (pc' := 106) (lv' := [(0, vR t), (1, vI a1), (2, vI l2)]) (st' := [vI (kI 0), vR (jR W13 400 t)]) rfl ?_
      exact wsh_segment_106 h l2 (kI 0) (jR W13 400 t) W13
    exact wsh_segment_101 h l2 (jR W13 400 t) W13
  refine j_runA hx 1 (tb := [(62, .aload_n 0)]) (jtb_ok (by decide +kernel)) (pc' := 63) (lv' := [(0, vR t), (1, vI a1), (2, vI l2)]) (st' := [vR t, vR (jR W13 400 t)]) rfl ?_
  refine j_getR hx flX3_9 kl407 h15 (by decide) (by decide +kernel) ?_
  refine j_runA hx 1 (tb := [(66, .iload_n 1)]) (jtb_ok (by decide +kernel)) (pc' := 67) (lv' := [(0, vR t), (1, vI a1), (2, vI l2)]) (st' := [vI a1, vR (jR W13 407 t), vR (jR W13 400 t)]) rfl ?_
  refine j_gd (fun h20 => ?_)
  refine j_iald hx (f := 407) (o := t) kd407 rfl (by decide +kernel) h20 ?_
  refine j_runA hx 1 (tb := [(68, .iconst 5)]) (jtb_ok (by decide +kernel)) (pc' := 69) (lv' := [(0, vR t), (1, vI a1), (2, vI l2)]) (st' := [vI (kI 5), vI (jA W13 407 t (ix a1)), vR (jR W13 400 t)]) rfl ?_
  refine j_icmp_ne hx (off := 7) (tgt := 76) (by decide +kernel) (by decide) (fun _ => ?_) (fun _ => ?_)
  · refine j_runA hx 1 (tb := [(76, .iconst 0)]) (jtb_ok (by decide +kernel)) (pc' := 77) (lv' := [(0, vR t), (1, vI a1), (2, vI l2)]) (st' := [vI (kI 0), vR (jR W13 400 t)]) rfl ?_
    refine j_goto hx (off := 29) (by decide +kernel) (tgt := 106) (by decide) ?_
    exact wsh_segment_106 h l2 (kI 0) (jR W13 400 t) W13
  refine j_runA hx 1 (tb := [(72, .iconst 1)]) (jtb_ok (by decide +kernel)) (pc' := 73) (lv' := [(0, vR t), (1, vI a1), (2, vI l2)]) (st' := [vI (kI 1), vR (jR W13 400 t)]) rfl ?_
  refine j_goto hx (off := 33) (by decide +kernel) (tgt := 106) (by decide) ?_
  exact wsh_segment_106 h l2 (kI 1) (jR W13 400 t) W13
theorem wsh_segment {x : jCx} {en : ((Nat × jW) ⊕ jW) → Option (Outcome × jW)} {t : Nat} {a1 : Int32} (h : hsh_segment x en t a1) (W : jW) : jJ x 13 0 [(0, vR t), (1, vI a1)] [] W (fsh_segment t a1 W) en := by
  have h0 := h
  obtain ⟨hx, hm, hr, he, ht⟩ := h0
  unfold fsh_segment
  refine j_runA hx 6 (tb := [(0, .bipush 64), (2, .bipush 56), (4, .iload_n 1), (5, .imul), (6, .iadd), (7, .istore_n 2)]) (jtb_ok (by decide +kernel)) (pc' := 8) (lv' := [(2, vI ((kI 64) + ((kI 56) * a1))), (0, vR t), (1, vI a1)]) (st' := []) rfl ?_
  refine j_let (v := ((kI 64) + ((kI 56) * a1))) (lv := fun v1 => [(2, vI v1), (0, vR t), (1, vI a1)]) (st := fun _ => []) (fun v1 => ?_)
  refine j_runA hx 1 (tb := [(8, .aload_n 0)]) (jtb_ok (by decide +kernel)) (pc' := 9) (lv' := [(2, vI v1), (0, vR t), (1, vI a1)]) (st' := [vR t]) rfl ?_
  refine j_gd (fun h2 => ?_)
  refine j_getR hx flX3_53 kl400 h2 (by decide) (by decide +kernel) ?_
  refine j_runA hx 1 (tb := [(12, .aload_n 0)]) (jtb_ok (by decide +kernel)) (pc' := 13) (lv' := [(2, vI v1), (0, vR t), (1, vI a1)]) (st' := [vR t, vR (jR W 400 t)]) rfl ?_
  refine j_getR hx flX3_57 kl401 h2 (by decide) (by decide +kernel) ?_
  refine j_runA hx 1 (tb := [(16, .iload_n 2)]) (jtb_ok (by decide +kernel)) (pc' := 17) (lv' := [(2, vI v1), (0, vR t), (1, vI a1)]) (st' := [vI v1, vR (jR W 401 t), vR (jR W 400 t)]) rfl ?_
  refine j_gd (fun h3 => ?_)
  refine j_OI (h3.elim (fun hh => j_callU (av := [vI v1]) (st := [vR (jR W 400 t)]) hx hr q808 q769 (hde_fsr_word) (by decide) q768 q770 rfl md_fsr_word np_fsr_word (csr_word (jR W 401 t) v1 W) (by decide) (Nat.le_of_ble_eq_true rfl) hh (by decide) (by decide +kernel)) (fun hh => j_callU (av := [vI v1]) (st := [vR (jR W 400 t)]) hx hr q808 q769 (hde_fsr_word) (by decide) q768 q771 rfl md_fsr_word np_fsr_word (csr_word (jR W 401 t) v1 W) (by decide) (Nat.le_of_ble_eq_true rfl) hh (by decide) (by decide +kernel))) (fun q4 _ => ?_)
  refine j_runA hx 1 (tb := [(20, .iconst 1)]) (jtb_ok (by decide +kernel)) (pc' := 21) (lv' := [(2, vI v1), (0, vR t), (1, vI a1)]) (st' := [vI (kI 1), vI q4, vR (jR W 400 t)]) rfl ?_
  refine j_icmp_ne hx (off := 7) (tgt := 28) (by decide +kernel) (by decide) (fun _ => ?_) (fun _ => ?_)
  · refine j_runA hx 1 (tb := [(28, .iconst 0)]) (jtb_ok (by decide +kernel)) (pc' := 29) (lv' := [(2, vI v1), (0, vR t), (1, vI a1)]) (st' := [vI (kI 0), vR (jR W 400 t)]) rfl ?_
    refine j_lv (lv' := [(0, vR t), (1, vI a1), (2, vI v1)]) ⟨rfl, rfl, rfl, trivial⟩ ?_
    exact wsh_segment_29 h v1 (kI 0) (jR W 400 t) W
  refine j_runA hx 1 (tb := [(24, .iconst 1)]) (jtb_ok (by decide +kernel)) (pc' := 25) (lv' := [(2, vI v1), (0, vR t), (1, vI a1)]) (st' := [vI (kI 1), vR (jR W 400 t)]) rfl ?_
  refine j_goto hx (off := 4) (by decide +kernel) (tgt := 29) (by decide) ?_
  refine j_lv (lv' := [(0, vR t), (1, vI a1), (2, vI v1)]) ⟨rfl, rfl, rfl, trivial⟩ ?_
  exact wsh_segment_29 h v1 (kI 1) (jR W 400 t) W
theorem csh_segment (t : Nat) (a1 : Int32) (W : jW) : jM yX3_segment cX3_segment 13 (Option.none : Option Jvm.ClassFile.FieldType) [] 6 84 [vR t, vI a1] W ((fsh_segment t a1 W).bind (fun q => some (Sum.elim (fun z => (.threw (z.1 - 1), z.2)) (fun q => (.returned none, q)) q))) := 
  jM.of (Nat.le_of_ble_eq_true rfl) (fun x hx hm hr => wsh_segment ⟨hx, hm, hr, fun _ => rfl, fun _ => rfl⟩ W)
def hsh_headOf (x : jCx) (en : (Int32) → Option (Outcome × jW)) (t : Nat) (a1 : Int32) (W : jW) : Prop :=
  jOK x RX3 cX3_headOf 2 ∧
  jMt x "headOf" (Option.some Jvm.ClassFile.FieldType.int) [] ∧
  jRm x 0 0 ∧
  (∀ q : Int32, en q = some (.returned (some (.int q)), W))
theorem wsh_headOf {x : jCx} {en : (Int32) → Option (Outcome × jW)} {W : jW} {t : Nat} {a1 : Int32} (h : hsh_headOf x en t a1 W) : jJ x 2 0 [(0, vR t), (1, vI a1)] [] W (fsh_headOf t a1 W) en := by
  have h0 := h
  obtain ⟨hx, hm, hr, he⟩ := h0
  unfold fsh_headOf
  refine j_runA hx 1 (tb := [(0, .aload_n 0)]) (jtb_ok (by decide +kernel)) (pc' := 1) (lv' := [(0, vR t), (1, vI a1)]) (st' := [vR t]) rfl ?_
  refine j_gd (fun h1 => ?_)
  refine j_getI hx flX3_143 kd405 h1 (by decide) (by decide +kernel) ?_
  refine j_runA hx 4 (tb := [(4, .bipush 64), (6, .iload_n 1), (7, .imul), (8, .iadd)]) (jtb_ok (by decide +kernel)) (pc' := 9) (lv' := [(0, vR t), (1, vI a1)]) (st' := [vI ((jI W 405 t) + ((kI 64) * a1))]) rfl ?_
  exact j_iret hx hm (by decide +kernel) rfl (he _)
theorem csh_headOf (t : Nat) (a1 : Int32) (W : jW) : jM yX3_headOf cX3_headOf 2 (Option.some Jvm.ClassFile.FieldType.int) [] 0 0 [vR t, vI a1] W ((fsh_headOf t a1 W).bind (fun q => some (.returned (some (.int q)), W))) := 
  jM.of (Nat.le_of_ble_eq_true rfl) (fun x hx hm hr => wsh_headOf ⟨hx, hm, hr, fun _ => rfl⟩)
