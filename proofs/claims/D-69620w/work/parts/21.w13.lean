/-! ===== walks: fwr_fixed fwr_emit fwo_going fwr_go fwo_turned fwr_end fwr_block fwr_emitAll fwr_set fsh_isTextSymbol fwr_newOf fwr_isCold fwr_partOf fwr_fix ===== -/
set_option maxRecDepth 100000
def hwr_fixed (x : jCx) (en : (Int32) → Option (Outcome × jW)) (t : Nat) (a1 : Int32) (W : jW) : Prop :=
  jOK x RX14 cX14_fixed 5 ∧
  jMt x "fixed" (Option.some Jvm.ClassFile.FieldType.int) [] ∧
  jRm x 9 123 ∧
  (∀ q : Int32, en q = some (.returned (some (.int q)), W))
theorem wwr_fixed_94 {x : jCx} {en : (Int32) → Option (Outcome × jW)} {W : jW} {t : Nat} {a1 : Int32} (h : hwr_fixed x en t a1 W) (s0 : Int64) (s1 : Int64) (s2 : Int32) : jJ x 5 94 [(0, vR t), (1, vI a1)] [vL s0, vL s1, vI s2] W (fwr_fixed_94 t a1 s0 s1 s2 W) en := by
  have h0 := h
  obtain ⟨hx, hm, hr, he⟩ := h0
  unfold fwr_fixed_94
  refine j_TI (j_callS (av := [vI s2, vL s1, vL s0]) (st := []) hx hr (Or.inl q1848) q1849 q247 md_fwo_paging np_fwo_paging (cwo_paging s2 s1 s0 W) (by decide) (Nat.le_of_ble_eq_true rfl) (by decide +kernel)) ?_
  exact j_iret hx hm (by decide +kernel) rfl (he _)
theorem wwr_fixed_131 {x : jCx} {en : (Int32) → Option (Outcome × jW)} {W : jW} {t : Nat} {a1 : Int32} (h : hwr_fixed x en t a1 W) : jJ x 5 131 [(0, vR t), (1, vI a1)] [] W (fwr_fixed_131 t a1 W) en := by
  have h0 := h
  obtain ⟨hx, hm, hr, he⟩ := h0
  unfold fwr_fixed_131
  refine j_runA hx 1 (tb := [(131, .aload_n 0)]) (jtb_ok (by decide +kernel)) (pc' := 132) (lv' := [(0, vR t), (1, vI a1)]) (st' := [vR t]) rfl ?_
  refine j_gd (fun h25 => ?_)
  refine j_getR hx flX14_30 kl900 h25 (by decide) (by decide +kernel) ?_
  refine j_gd (fun h26 => ?_)
  refine j_getR hx flX14_193 kl204 h26 (by decide) (by decide +kernel) ?_
  refine j_runA hx 1 (tb := [(138, .iload_n 1)]) (jtb_ok (by decide +kernel)) (pc' := 139) (lv' := [(0, vR t), (1, vI a1)]) (st' := [vI a1, vR (jR W 204 (jR W 900 t))]) rfl ?_
  refine j_gd (fun h27 => ?_)
  refine j_iald hx (f := 204) (o := (jR W 900 t)) kd204 rfl (by decide +kernel) h27 ?_
  exact j_iret hx hm (by decide +kernel) rfl (he _)
theorem wwr_fixed_46 {x : jCx} {en : (Int32) → Option (Outcome × jW)} {W : jW} {t : Nat} {a1 : Int32} (h : hwr_fixed x en t a1 W) (l2 : Int32) (l3 : Int32) (s0 : Int32) : jJ x 5 46 [(0, vR t), (1, vI a1), (2, vI l2), (3, vI l3)] [vI s0] W (fwr_fixed_46 t a1 l2 l3 s0 W) en := by
  have h0 := h
  obtain ⟨hx, hm, hr, he⟩ := h0
  unfold fwr_fixed_46
  refine j_runA hx 3 (tb := [(46, .istore 4), (48, .iload_n 3), (49, .sipush 275)]) (jtb_ok (by decide +kernel)) (pc' := 52) (lv' := [(4, vI s0), (0, vR t), (1, vI a1), (2, vI l2), (3, vI l3)]) (st' := [vI (kI 275), vI l3]) rfl ?_
  refine j_icmp_ne hx (off := 46) (tgt := 98) (by decide +kernel) (by decide) (fun _ => ?_) (fun _ => ?_)
  · refine j_runA hx 2 (tb := [(98, .iload_n 3), (99, .sipush 277)]) (jtb_ok (by decide +kernel)) (pc' := 102) (lv' := [(4, vI s0), (0, vR t), (1, vI a1), (2, vI l2), (3, vI l3)]) (st' := [vI (kI 277), vI l3]) rfl ?_
    refine j_icmp_ne hx (off := 29) (tgt := 131) (by decide +kernel) (by decide) (fun _ => ?_) (fun _ => ?_)
    · refine j_lv (lv' := [(0, vR t), (1, vI a1)]) ⟨rfl, rfl, trivial⟩ ?_
      exact wwr_fixed_131 h
    refine j_runA hx 1 (tb := [(105, .iload 4)]) (jtb_ok (by decide +kernel)) (pc' := 107) (lv' := [(4, vI s0), (0, vR t), (1, vI a1), (2, vI l2), (3, vI l3)]) (st' := [vI s0]) rfl ?_
    refine j_if_lt hx (off := 24) (tgt := 131) (by decide +kernel) (by decide) (fun _ => ?_) (fun _ => ?_)
    · refine j_lv (lv' := [(0, vR t), (1, vI a1)]) ⟨rfl, rfl, trivial⟩ ?_
      exact wwr_fixed_131 h
    refine j_runA hx 1 (tb := [(110, .aload_n 0)]) (jtb_ok (by decide +kernel)) (pc' := 111) (lv' := [(4, vI s0), (0, vR t), (1, vI a1), (2, vI l2), (3, vI l3)]) (st' := [vR t]) rfl ?_
    refine j_gd (fun h12 => ?_)
    refine j_getR hx flX14_30 kl900 h12 (by decide) (by decide +kernel) ?_
    refine j_gd (fun h13 => ?_)
    refine j_getR hx flX14_193 kl204 h13 (by decide) (by decide +kernel) ?_
    refine j_runA hx 1 (tb := [(117, .iload_n 1)]) (jtb_ok (by decide +kernel)) (pc' := 118) (lv' := [(4, vI s0), (0, vR t), (1, vI a1), (2, vI l2), (3, vI l3)]) (st' := [vI a1, vR (jR W 204 (jR W 900 t))]) rfl ?_
    refine j_gd (fun h14 => ?_)
    refine j_iald hx (f := 204) (o := (jR W 900 t)) kd204 rfl (by decide +kernel) h14 ?_
    refine j_runA hx 2 (tb := [(119, .aload_n 0), (120, .iload 4)]) (jtb_ok (by decide +kernel)) (pc' := 122) (lv' := [(4, vI s0), (0, vR t), (1, vI a1), (2, vI l2), (3, vI l3)]) (st' := [vI s0, vR t, vI (jA W 204 (jR W 900 t) (ix a1))]) rfl ?_
    refine j_OL (j_callV (av := [vI s0]) (st := [vI (jA W 204 (jR W 900 t) (ix a1))]) hx hr (Or.inl q1838) q1839 q1840 rfl md_fwr_movedWord np_fwr_movedWord (cwr_movedWord t s0 W) (by decide) (Nat.le_of_ble_eq_true rfl) h12 (by decide) (by decide +kernel)) (fun q15 _ => ?_)
    refine j_TI (j_callS (av := [vI (jA W 204 (jR W 900 t) (ix a1)), vL q15]) (st := []) hx hr (Or.inl q1853) q1854 q247 md_fwo_adding np_fwo_adding (cwo_adding (jA W 204 (jR W 900 t) (ix a1)) q15 W) (by decide) (Nat.le_of_ble_eq_true rfl) (by decide +kernel)) ?_
    refine j_goto hx (off := 12) (by decide +kernel) (tgt := 140) (by decide) ?_
    exact j_iret hx hm (by decide +kernel) rfl (he _)
  refine j_runA hx 1 (tb := [(55, .aload_n 0)]) (jtb_ok (by decide +kernel)) (pc' := 56) (lv' := [(4, vI s0), (0, vR t), (1, vI a1), (2, vI l2), (3, vI l3)]) (st' := [vR t]) rfl ?_
  refine j_gd (fun h16 => ?_)
  refine j_getR hx flX14_30 kl900 h16 (by decide) (by decide +kernel) ?_
  refine j_gd (fun h17 => ?_)
  refine j_getR hx flX14_193 kl204 h17 (by decide) (by decide +kernel) ?_
  refine j_runA hx 1 (tb := [(62, .iload_n 1)]) (jtb_ok (by decide +kernel)) (pc' := 63) (lv' := [(4, vI s0), (0, vR t), (1, vI a1), (2, vI l2), (3, vI l3)]) (st' := [vI a1, vR (jR W 204 (jR W 900 t))]) rfl ?_
  refine j_gd (fun h18 => ?_)
  refine j_iald hx (f := 204) (o := (jR W 900 t)) kd204 rfl (by decide +kernel) h18 ?_
  refine j_runA hx 2 (tb := [(64, .aload_n 0), (65, .iload_n 1)]) (jtb_ok (by decide +kernel)) (pc' := 66) (lv' := [(4, vI s0), (0, vR t), (1, vI a1), (2, vI l2), (3, vI l3)]) (st' := [vI a1, vR t, vI (jA W 204 (jR W 900 t) (ix a1))]) rfl ?_
  refine j_OL (j_callV (av := [vI a1]) (st := [vI (jA W 204 (jR W 900 t) (ix a1))]) hx hr (Or.inl q1838) q1839 q1840 rfl md_fwr_movedWord np_fwr_movedWord (cwr_movedWord t a1 W) (by decide) (Nat.le_of_ble_eq_true rfl) h16 (by decide) (by decide +kernel)) (fun q19 _ => ?_)
  refine j_runA hx 1 (tb := [(69, .iload 4)]) (jtb_ok (by decide +kernel)) (pc' := 71) (lv' := [(4, vI s0), (0, vR t), (1, vI a1), (2, vI l2), (3, vI l3)]) (st' := [vI s0, vL q19, vI (jA W 204 (jR W 900 t) (ix a1))]) rfl ?_
  refine j_if_ge hx (off := 17) (tgt := 88) (by decide +kernel) (by decide) (fun _ => ?_) (fun _ => ?_)
  · refine j_runA hx 2 (tb := [(88, .aload_n 0), (89, .iload 4)]) (jtb_ok (by decide +kernel)) (pc' := 91) (lv' := [(4, vI s0), (0, vR t), (1, vI a1), (2, vI l2), (3, vI l3)]) (st' := [vI s0, vR t, vL q19, vI (jA W 204 (jR W 900 t) (ix a1))]) rfl ?_
    refine j_OL (j_callV (av := [vI s0]) (st := [vL q19, vI (jA W 204 (jR W 900 t) (ix a1))]) hx hr (Or.inl q1838) q1839 q1840 rfl md_fwr_movedWord np_fwr_movedWord (cwr_movedWord t s0 W) (by decide) (Nat.le_of_ble_eq_true rfl) h16 (by decide) (by decide +kernel)) (fun q20 _ => ?_)
    refine j_lv (lv' := [(0, vR t), (1, vI a1)]) ⟨rfl, rfl, trivial⟩ ?_
    exact wwr_fixed_94 h q20 q19 (jA W 204 (jR W 900 t) (ix a1))
  refine j_runA hx 1 (tb := [(74, .aload_n 0)]) (jtb_ok (by decide +kernel)) (pc' := 75) (lv' := [(4, vI s0), (0, vR t), (1, vI a1), (2, vI l2), (3, vI l3)]) (st' := [vR t, vL q19, vI (jA W 204 (jR W 900 t) (ix a1))]) rfl ?_
  refine j_getR hx flX14_30 kl900 h16 (by decide) (by decide +kernel) ?_
  refine j_getR hx flX14_181 kl201 h17 (by decide) (by decide +kernel) ?_
  refine j_runA hx 1 (tb := [(81, .iload_n 2)]) (jtb_ok (by decide +kernel)) (pc' := 82) (lv' := [(4, vI s0), (0, vR t), (1, vI a1), (2, vI l2), (3, vI l3)]) (st' := [vI l2, vR (jR W 201 (jR W 900 t)), vL q19, vI (jA W 204 (jR W 900 t) (ix a1))]) rfl ?_
  refine j_gd (fun h21 => ?_)
  refine j_OL (j_callV (av := [vI l2]) (st := [vL q19, vI (jA W 204 (jR W 900 t) (ix a1))]) hx hr (Or.inl q1847) q1061 q1062 rfl md_fsh_target np_fsh_target (csh_target (jR W 201 (jR W 900 t)) l2 W) (by decide) (Nat.le_of_ble_eq_true rfl) h21 (by decide) (by decide +kernel)) (fun q22 _ => ?_)
  refine j_goto hx (off := 9) (by decide +kernel) (tgt := 94) (by decide) ?_
  refine j_lv (lv' := [(0, vR t), (1, vI a1)]) ⟨rfl, rfl, trivial⟩ ?_
  exact wwr_fixed_94 h q22 q19 (jA W 204 (jR W 900 t) (ix a1))
theorem wwr_fixed_29 {x : jCx} {en : (Int32) → Option (Outcome × jW)} {W : jW} {t : Nat} {a1 : Int32} (h : hwr_fixed x en t a1 W) (l2 : Int32) (s0 : Int32) : jJ x 5 29 [(0, vR t), (1, vI a1), (2, vI l2)] [vI s0] W (fwr_fixed_29 t a1 l2 s0 W) en := by
  have h0 := h
  obtain ⟨hx, hm, hr, he⟩ := h0
  unfold fwr_fixed_29
  refine j_runA hx 2 (tb := [(29, .istore_n 3), (30, .iload_n 2)]) (jtb_ok (by decide +kernel)) (pc' := 31) (lv' := [(3, vI s0), (0, vR t), (1, vI a1), (2, vI l2)]) (st' := [vI l2]) rfl ?_
  refine j_if_ne hx (off := 7) (tgt := 38) (by decide +kernel) (by decide) (fun _ => ?_) (fun _ => ?_)
  · refine j_runA hx 1 (tb := [(38, .aload_n 0)]) (jtb_ok (by decide +kernel)) (pc' := 39) (lv' := [(3, vI s0), (0, vR t), (1, vI a1), (2, vI l2)]) (st' := [vR t]) rfl ?_
    refine j_gd (fun h8 => ?_)
    refine j_getR hx flX14_30 kl900 h8 (by decide) (by decide +kernel) ?_
    refine j_runA hx 1 (tb := [(42, .iload_n 2)]) (jtb_ok (by decide +kernel)) (pc' := 43) (lv' := [(3, vI s0), (0, vR t), (1, vI a1), (2, vI l2)]) (st' := [vI l2, vR (jR W 900 t)]) rfl ?_
    refine j_gd (fun h9 => ?_)
    refine j_OI (j_callV (av := [vI l2]) (st := []) hx hr (Or.inl q1837) q1121 q1122 rfl md_fpg_targetWord np_fpg_targetWord (cpg_targetWord (jR W 900 t) l2 W) (by decide) (Nat.le_of_ble_eq_true rfl) h9 (by decide) (by decide +kernel)) (fun q10 _ => ?_)
    refine j_lv (lv' := [(0, vR t), (1, vI a1), (2, vI l2), (3, vI s0)]) ⟨rfl, rfl, rfl, rfl, trivial⟩ ?_
    exact wwr_fixed_46 h l2 s0 q10
  refine j_runA hx 1 (tb := [(34, .iconst (-1))]) (jtb_ok (by decide +kernel)) (pc' := 35) (lv' := [(3, vI s0), (0, vR t), (1, vI a1), (2, vI l2)]) (st' := [vI (kI (-1))]) rfl ?_
  refine j_goto hx (off := 11) (by decide +kernel) (tgt := 46) (by decide) ?_
  refine j_lv (lv' := [(0, vR t), (1, vI a1), (2, vI l2), (3, vI s0)]) ⟨rfl, rfl, rfl, rfl, trivial⟩ ?_
  exact wwr_fixed_46 h l2 s0 (kI (-1))
theorem wwr_fixed {x : jCx} {en : (Int32) → Option (Outcome × jW)} {W : jW} {t : Nat} {a1 : Int32} (h : hwr_fixed x en t a1 W) : jJ x 5 0 [(0, vR t), (1, vI a1)] [] W (fwr_fixed t a1 W) en := by
  have h0 := h
  obtain ⟨hx, hm, hr, he⟩ := h0
  unfold fwr_fixed
  refine j_runA hx 1 (tb := [(0, .aload_n 0)]) (jtb_ok (by decide +kernel)) (pc' := 1) (lv' := [(0, vR t), (1, vI a1)]) (st' := [vR t]) rfl ?_
  refine j_gd (fun h1 => ?_)
  refine j_getR hx flX14_30 kl900 h1 (by decide) (by decide +kernel) ?_
  refine j_gd (fun h2 => ?_)
  refine j_getR hx flX14_178 kl207 h2 (by decide) (by decide +kernel) ?_
  refine j_runA hx 1 (tb := [(7, .iload_n 1)]) (jtb_ok (by decide +kernel)) (pc' := 8) (lv' := [(0, vR t), (1, vI a1)]) (st' := [vI a1, vR (jR W 207 (jR W 900 t))]) rfl ?_
  refine j_gd (fun h3 => ?_)
  refine j_iald hx (f := 207) (o := (jR W 900 t)) kd207 rfl (by decide +kernel) h3 ?_
  refine j_runA hx 1 (tb := [(9, .istore_n 2)]) (jtb_ok (by decide +kernel)) (pc' := 10) (lv' := [(2, vI (jA W 207 (jR W 900 t) (ix a1))), (0, vR t), (1, vI a1)]) (st' := []) rfl ?_
  refine j_let (v := (jA W 207 (jR W 900 t) (ix a1))) (lv := fun v4 => [(2, vI v4), (0, vR t), (1, vI a1)]) (st := fun _ => []) (fun v4 => ?_)
  refine j_runA hx 1 (tb := [(10, .iload_n 2)]) (jtb_ok (by decide +kernel)) (pc' := 11) (lv' := [(2, vI v4), (0, vR t), (1, vI a1)]) (st' := [vI v4]) rfl ?_
  refine j_if_ne hx (off := 7) (tgt := 18) (by decide +kernel) (by decide) (fun _ => ?_) (fun _ => ?_)
  · refine j_runA hx 1 (tb := [(18, .aload_n 0)]) (jtb_ok (by decide +kernel)) (pc' := 19) (lv' := [(2, vI v4), (0, vR t), (1, vI a1)]) (st' := [vR t]) rfl ?_
    refine j_getR hx flX14_30 kl900 h1 (by decide) (by decide +kernel) ?_
    refine j_getR hx flX14_181 kl201 h2 (by decide) (by decide +kernel) ?_
    refine j_runA hx 1 (tb := [(25, .iload_n 2)]) (jtb_ok (by decide +kernel)) (pc' := 26) (lv' := [(2, vI v4), (0, vR t), (1, vI a1)]) (st' := [vI v4, vR (jR W 201 (jR W 900 t))]) rfl ?_
    refine j_gd (fun h5 => ?_)
    refine j_OI (j_callV (av := [vI v4]) (st := []) hx hr (Or.inl q1836) q913 q914 rfl md_fsh_fixType np_fsh_fixType (csh_fixType (jR W 201 (jR W 900 t)) v4 W) (by decide) (Nat.le_of_ble_eq_true rfl) h5 (by decide) (by decide +kernel)) (fun q6 _ => ?_)
    refine j_lv (lv' := [(0, vR t), (1, vI a1), (2, vI v4)]) ⟨rfl, rfl, rfl, trivial⟩ ?_
    exact wwr_fixed_29 h v4 q6
  refine j_runA hx 1 (tb := [(14, .iconst 0)]) (jtb_ok (by decide +kernel)) (pc' := 15) (lv' := [(2, vI v4), (0, vR t), (1, vI a1)]) (st' := [vI (kI 0)]) rfl ?_
  refine j_goto hx (off := 14) (by decide +kernel) (tgt := 29) (by decide) ?_
  refine j_lv (lv' := [(0, vR t), (1, vI a1), (2, vI v4)]) ⟨rfl, rfl, rfl, trivial⟩ ?_
  exact wwr_fixed_29 h v4 (kI 0)
theorem cwr_fixed (t : Nat) (a1 : Int32) (W : jW) : jM yX14_fixed cX14_fixed 5 (Option.some Jvm.ClassFile.FieldType.int) [] 9 123 [vR t, vI a1] W ((fwr_fixed t a1 W).bind (fun q => some (.returned (some (.int q)), W))) := 
  jM.of (Nat.le_of_ble_eq_true rfl) (fun x hx hm hr => wwr_fixed ⟨hx, hm, hr, fun _ => rfl⟩)
def hwr_emit (x : jCx) (en : (jW) → Option (Outcome × jW)) (t : Nat) (a1 : Int32) : Prop :=
  jOK x RX14 cX14_emit 2 ∧
  jMt x "emit" (Option.none : Option Jvm.ClassFile.FieldType) [] ∧
  jRm x 0 0 ∧
  (∀ q : jW, en q = some (.returned none, q))
theorem wwr_emit {x : jCx} {en : (jW) → Option (Outcome × jW)} {t : Nat} {a1 : Int32} (h : hwr_emit x en t a1) (W : jW) : jJ x 2 0 [(0, vR t), (1, vI a1)] [] W (fwr_emit t a1 W) en := by
  have h0 := h
  obtain ⟨hx, hm, hr, he⟩ := h0
  unfold fwr_emit
  refine j_runA hx 1 (tb := [(0, .aload_n 0)]) (jtb_ok (by decide +kernel)) (pc' := 1) (lv' := [(0, vR t), (1, vI a1)]) (st' := [vR t]) rfl ?_
  refine j_gd (fun h1 => ?_)
  refine j_getR hx flX14_22 kl908 h1 (by decide) (by decide +kernel) ?_
  refine j_runA hx 1 (tb := [(4, .aload_n 0)]) (jtb_ok (by decide +kernel)) (pc' := 5) (lv' := [(0, vR t), (1, vI a1)]) (st' := [vR t, vR (jR W 908 t)]) rfl ?_
  refine j_getI hx flX14_138 kd920 h1 (by decide) (by decide +kernel) ?_
  refine j_runA hx 1 (tb := [(8, .iload_n 1)]) (jtb_ok (by decide +kernel)) (pc' := 9) (lv' := [(0, vR t), (1, vI a1)]) (st' := [vI a1, vI (jI W 920 t), vR (jR W 908 t)]) rfl ?_
  refine j_gd (fun h2 => ?_)
  refine j_iast hx (f := 908) (o := t) kd908 rfl (by decide +kernel) h2 ?_
  refine j_ltw rfl (fun W3 hc4 => ?_)
  have h5 : jC W3 t = 9 := (congrFun hc4 _).trans h1
  refine j_runA hx 2 (tb := [(10, .aload_n 0), (11, .dup)]) (jtb_ok (by decide +kernel)) (pc' := 12) (lv' := [(0, vR t), (1, vI a1)]) (st' := [vR t, vR t]) rfl ?_
  refine j_getI hx flX14_138 kd920 h5 (by decide) (by decide +kernel) ?_
  refine j_runA hx 2 (tb := [(15, .iconst 1), (16, .iadd)]) (jtb_ok (by decide +kernel)) (pc' := 17) (lv' := [(0, vR t), (1, vI a1)]) (st' := [vI ((jI W3 920 t) + (kI 1)), vR t]) rfl ?_
  refine j_putI hx fwX14_138 wf920 kd920 h5 (by decide) (by decide +kernel) (ni920 _) (fi920 _) ?_
  refine j_ltw rfl (fun W7 hc8 => ?_)
  have h9 : jC W7 t = 9 := (congrFun hc8 _).trans h5
  exact j_vret hx hm (by decide +kernel) (he _)
theorem cwr_emit (t : Nat) (a1 : Int32) (W : jW) : jM yX14_emit cX14_emit 2 (Option.none : Option Jvm.ClassFile.FieldType) [] 0 0 [vR t, vI a1] W ((fwr_emit t a1 W).bind (fun q => some (.returned none, q))) := 
  jM.of (Nat.le_of_ble_eq_true rfl) (fun x hx hm hr => wwr_emit ⟨hx, hm, hr, fun _ => rfl⟩ W)
def hwo_going (x : jCx) (en : (Int32) → Option (Outcome × jW)) (a0 : Int32) (a1 : Int32) (a2 : Int64) (W : jW) : Prop :=
  jOK x RX12 cX12_going 6 ∧
  jMt x "going" (Option.some Jvm.ClassFile.FieldType.int) [] ∧
  jRm x 1 13 ∧
  (∀ q : Int32, en q = some (.returned (some (.int q)), W))
theorem wwo_going_33 {x : jCx} {en : (Int32) → Option (Outcome × jW)} {W : jW} {a0 : Int32} {a1 : Int32} {a2 : Int64} (h : hwo_going x en a0 a1 a2 W) (l4 : Int32) (l5 : Int32) : jJ x 6 33 [(0, vI a0), (1, vI a1), (2, vL a2), (4, vI l4), (5, vI l5)] [] W (fwo_going_33 a0 a1 a2 l4 l5 W) en := by
  have h0 := h
  obtain ⟨hx, hm, hr, he⟩ := h0
  unfold fwo_going_33
  refine j_runA hx 7 (tb := [(33, .iload_n 0), (34, .iload 4), (36, .iconst (-1)), (37, .ixor), (38, .iand), (39, .iload 5), (41, .ior)]) (jtb_ok (by decide +kernel)) (pc' := 42) (lv' := [(0, vI a0), (1, vI a1), (2, vL a2), (4, vI l4), (5, vI l5)]) (st' := [vI ((a0 &&& (l4 ^^^ (kI (-1)))) ||| l5)]) rfl ?_
  exact j_iret hx hm (by decide +kernel) rfl (he _)
theorem wwo_going {x : jCx} {en : (Int32) → Option (Outcome × jW)} {W : jW} {a0 : Int32} {a1 : Int32} {a2 : Int64} (h : hwo_going x en a0 a1 a2 W) : jJ x 6 0 [(0, vI a0), (1, vI a1), (2, vL a2)] [] W (fwo_going a0 a1 a2 W) en := by
  have h0 := h
  obtain ⟨hx, hm, hr, he⟩ := h0
  unfold fwo_going
  refine j_runA hx 2 (tb := [(0, .iconst 1), (1, .iload_n 1)]) (jtb_ok (by decide +kernel)) (pc' := 2) (lv' := [(0, vI a0), (1, vI a1), (2, vL a2)]) (st' := [vI a1, vI (kI 1)]) rfl ?_
  refine j_TI (j_callS (av := [vI a1]) (st := [vI (kI 1)]) hx hr (Or.inl q1088) q1089 q247 md_fwo_bitsOf np_fwo_bitsOf (cwo_bitsOf a1 W) (by decide) (Nat.le_of_ble_eq_true rfl) (by decide +kernel)) ?_
  refine j_runA hx 4 (tb := [(5, .ishl), (6, .iconst 1), (7, .isub), (8, .istore 4)]) (jtb_ok (by decide +kernel)) (pc' := 10) (lv' := [(4, vI ((ixl (kI 1) (fwo_bitsOf a1)) - (kI 1))), (0, vI a0), (1, vI a1), (2, vL a2)]) (st' := []) rfl ?_
  refine j_let (v := ((ixl (kI 1) (fwo_bitsOf a1)) - (kI 1))) (lv := fun v1 => [(4, vI v1), (0, vI a0), (1, vI a1), (2, vL a2)]) (st := fun _ => []) (fun v1 => ?_)
  refine j_runA hx 1 (tb := [(10, .lload_n 2)]) (jtb_ok (by decide +kernel)) (pc' := 11) (lv' := [(4, vI v1), (0, vI a0), (1, vI a1), (2, vL a2)]) (st' := [vL a2]) rfl ?_
  refine j_ldc2 hx (v := (kJ 4)) (jkd2 q1873 (by decide +kernel)) (by decide +kernel) ?_
  refine j_ldiv hx (by decide +kernel) (by decide +kernel) ?_
  refine j_runA hx 4 (tb := [(15, .l2i), (16, .iload 4), (18, .iand), (19, .istore 5)]) (jtb_ok (by decide +kernel)) (pc' := 21) (lv' := [(5, vI (((a2 / (kJ 4)).toInt32) &&& v1)), (4, vI v1), (0, vI a0), (1, vI a1), (2, vL a2)]) (st' := []) rfl ?_
  refine j_let (v := (((a2 / (kJ 4)).toInt32) &&& v1)) (lv := fun v2 => [(5, vI v2), (4, vI v1), (0, vI a0), (1, vI a1), (2, vL a2)]) (st := fun _ => []) (fun v2 => ?_)
  refine j_runA hx 2 (tb := [(21, .iload_n 1), (22, .bipush 12)]) (jtb_ok (by decide +kernel)) (pc' := 24) (lv' := [(5, vI v2), (4, vI v1), (0, vI a0), (1, vI a1), (2, vL a2)]) (st' := [vI (kI 12), vI a1]) rfl ?_
  refine j_icmp_eq hx (off := 9) (tgt := 33) (by decide +kernel) (by decide) (fun _ => ?_) (fun _ => ?_)
  · refine j_lv (lv' := [(0, vI a0), (1, vI a1), (2, vL a2), (4, vI v1), (5, vI v2)]) ⟨rfl, rfl, rfl, rfl, rfl, trivial⟩ ?_
    exact wwo_going_33 h v1 v2
  refine j_runA hx 2 (tb := [(27, .iload_n 1), (28, .bipush 13)]) (jtb_ok (by decide +kernel)) (pc' := 30) (lv' := [(5, vI v2), (4, vI v1), (0, vI a0), (1, vI a1), (2, vL a2)]) (st' := [vI (kI 13), vI a1]) rfl ?_
  refine j_icmp_ne hx (off := 13) (tgt := 43) (by decide +kernel) (by decide) (fun _ => ?_) (fun _ => ?_)
  · refine j_runA hx 11 (tb := [(43, .iload_n 0), (44, .iload 4), (46, .iconst 5), (47, .ishl), (48, .iconst (-1)), (49, .ixor), (50, .iand), (51, .iload 5), (53, .iconst 5), (54, .ishl), (55, .ior)]) (jtb_ok (by decide +kernel)) (pc' := 56) (lv' := [(5, vI v2), (4, vI v1), (0, vI a0), (1, vI a1), (2, vL a2)]) (st' := [vI ((a0 &&& ((ixl v1 (kI 5)) ^^^ (kI (-1)))) ||| (ixl v2 (kI 5)))]) rfl ?_
    exact j_iret hx hm (by decide +kernel) rfl (he _)
  refine j_lv (lv' := [(0, vI a0), (1, vI a1), (2, vL a2), (4, vI v1), (5, vI v2)]) ⟨rfl, rfl, rfl, rfl, rfl, trivial⟩ ?_
  exact wwo_going_33 h v1 v2
theorem cwo_going (a0 : Int32) (a1 : Int32) (a2 : Int64) (W : jW) : jM yX12_going cX12_going 6 (Option.some Jvm.ClassFile.FieldType.int) [] 1 13 [vI a0, vI a1, vL a2] W ((fwo_going a0 a1 a2 W).bind (fun q => some (.returned (some (.int q)), W))) := 
  jM.of (Nat.le_of_ble_eq_true rfl) (fun x hx hm hr => wwo_going ⟨hx, hm, hr, fun _ => rfl⟩)
def hwr_go (x : jCx) (en : (jW) → Option (Outcome × jW)) (t : Nat) (a1 : Int32) (a2 : Int32) (a3 : Int64) : Prop :=
  jOK x RX14 cX14_go 5 ∧
  jMt x "go" (Option.none : Option Jvm.ClassFile.FieldType) [] ∧
  jRm x 2 31 ∧
  (∀ q : jW, en q = some (.returned none, q))
theorem wwr_go_18 {x : jCx} {en : (jW) → Option (Outcome × jW)} {t : Nat} {a1 : Int32} {a2 : Int32} {a3 : Int64} (h : hwr_go x en t a1 a2 a3) (W : jW) : jJ x 5 18 [(0, vR t), (1, vI a1), (2, vI a2), (3, vL a3)] [] W (fwr_go_18 t a1 a2 a3 W) en := by
  have h0 := h
  obtain ⟨hx, hm, hr, he⟩ := h0
  unfold fwr_go_18
  refine j_runA hx 4 (tb := [(18, .aload_n 0), (19, .iload_n 1), (20, .iload_n 2), (21, .lload_n 3)]) (jtb_ok (by decide +kernel)) (pc' := 22) (lv' := [(0, vR t), (1, vI a1), (2, vI a2), (3, vL a3)]) (st' := [vL a3, vI a2, vI a1, vR t]) rfl ?_
  refine j_OI (j_callS (av := [vI a1, vI a2, vL a3]) (st := [vR t]) hx hr (Or.inl q1870) q1871 q247 md_fwo_going np_fwo_going (cwo_going a1 a2 a3 W) (by decide) (Nat.le_of_ble_eq_true rfl) (by decide +kernel)) (fun q7 _ => ?_)
  refine j_gd (fun h8 => ?_)
  refine j_WV (j_callV (av := [vI q7]) (st := []) hx hr (Or.inl q1858) q1860 qs63 rfl md_fwr_emit np_fwr_emit (cwr_emit t q7 W) (by decide) (Nat.le_of_ble_eq_true rfl) h8 (by decide) (by decide +kernel)) (fun q9 _ => ?_)
  exact j_vret hx hm (by decide +kernel) (he _)
theorem wwr_go {x : jCx} {en : (jW) → Option (Outcome × jW)} {t : Nat} {a1 : Int32} {a2 : Int32} {a3 : Int64} (h : hwr_go x en t a1 a2 a3) (W : jW) : jJ x 5 0 [(0, vR t), (1, vI a1), (2, vI a2), (3, vL a3)] [] W (fwr_go t a1 a2 a3 W) en := by
  have h0 := h
  obtain ⟨hx, hm, hr, he⟩ := h0
  unfold fwr_go
  refine j_runA hx 2 (tb := [(0, .iload_n 2), (1, .lload_n 3)]) (jtb_ok (by decide +kernel)) (pc' := 2) (lv' := [(0, vR t), (1, vI a1), (2, vI a2), (3, vL a3)]) (st' := [vL a3, vI a2]) rfl ?_
  refine j_TI (j_callS (av := [vI a2, vL a3]) (st := []) hx hr (Or.inl q1820) q1821 q247 md_fwo_reaches np_fwo_reaches (cwo_reaches a2 a3 W) (by decide) (Nat.le_of_ble_eq_true rfl) (by decide +kernel)) ?_
  refine j_if_ne hx (off := 13) (tgt := 18) (by decide +kernel) (by decide) (fun _ => ?_) (fun _ => ?_)
  · exact wwr_go_18 h W
  refine j_runA hx 2 (tb := [(8, .aload_n 0), (9, .dup)]) (jtb_ok (by decide +kernel)) (pc' := 10) (lv' := [(0, vR t), (1, vI a1), (2, vI a2), (3, vL a3)]) (st' := [vR t, vR t]) rfl ?_
  refine j_gd (fun h1 => ?_)
  refine j_getI hx flX14_141 kd919 h1 (by decide) (by decide +kernel) ?_
  refine j_runA hx 2 (tb := [(13, .iconst 1), (14, .iadd)]) (jtb_ok (by decide +kernel)) (pc' := 15) (lv' := [(0, vR t), (1, vI a1), (2, vI a2), (3, vL a3)]) (st' := [vI ((jI W 919 t) + (kI 1)), vR t]) rfl ?_
  refine j_putI hx fwX14_141 wf919 kd919 h1 (by decide) (by decide +kernel) (ni919 _) (fi919 _) ?_
  refine j_ltw rfl (fun W2 hc3 => ?_)
  have h4 : jC W2 t = 9 := (congrFun hc3 _).trans h1
  exact wwr_go_18 h W2
theorem cwr_go (t : Nat) (a1 : Int32) (a2 : Int32) (a3 : Int64) (W : jW) : jM yX14_go cX14_go 5 (Option.none : Option Jvm.ClassFile.FieldType) [] 2 31 [vR t, vI a1, vI a2, vL a3] W ((fwr_go t a1 a2 a3 W).bind (fun q => some (.returned none, q))) := 
  jM.of (Nat.le_of_ble_eq_true rfl) (fun x hx hm hr => wwr_go ⟨hx, hm, hr, fun _ => rfl⟩ W)
def hwo_turned (x : jCx) (en : (Int32) → Option (Outcome × jW)) (a0 : Int32) (a1 : Int32) (W : jW) : Prop :=
  jOK x RX12 cX12_turned 2 ∧
  jMt x "turned" (Option.some Jvm.ClassFile.FieldType.int) [] ∧
  jRm x 0 0 ∧
  (∀ q : Int32, en q = some (.returned (some (.int q)), W))
theorem wwo_turned {x : jCx} {en : (Int32) → Option (Outcome × jW)} {W : jW} {a0 : Int32} {a1 : Int32} (h : hwo_turned x en a0 a1 W) : jJ x 2 0 [(0, vI a0), (1, vI a1)] [] W (some (fwo_turned a0 a1)) en := by
  have h0 := h
  obtain ⟨hx, hm, hr, he⟩ := h0
  unfold fwo_turned
  refine j_runA hx 2 (tb := [(0, .iload_n 1), (1, .bipush 14)]) (jtb_ok (by decide +kernel)) (pc' := 3) (lv' := [(0, vI a0), (1, vI a1)]) (st' := [vI (kI 14), vI a1]) rfl ?_
  refine j_tot (j_icmp_ne hx (off := 9) (tgt := 12) (by decide +kernel) (by decide) (fun _ => ?_) (fun _ => ?_))
  · refine j_runA hx 1 (tb := [(12, .iload_n 0)]) (jtb_ok (by decide +kernel)) (pc' := 13) (lv' := [(0, vI a0), (1, vI a1)]) (st' := [vI a0]) rfl ?_
    refine j_ldc hx (v := (kI 16777216)) (jkc q1877 (by decide +kernel)) (by decide +kernel) ?_
    refine j_runA hx 1 (tb := [(15, .ixor)]) (jtb_ok (by decide +kernel)) (pc' := 16) (lv' := [(0, vI a0), (1, vI a1)]) (st' := [vI (a0 ^^^ (kI 16777216))]) rfl ?_
    exact j_iret hx hm (by decide +kernel) rfl (he _)
  refine j_runA hx 3 (tb := [(6, .iload_n 0), (7, .iconst 1), (8, .ixor)]) (jtb_ok (by decide +kernel)) (pc' := 9) (lv' := [(0, vI a0), (1, vI a1)]) (st' := [vI (a0 ^^^ (kI 1))]) rfl ?_
  refine j_goto hx (off := 7) (by decide +kernel) (tgt := 16) (by decide) ?_
  exact j_iret hx hm (by decide +kernel) rfl (he _)
theorem cwo_turned (a0 : Int32) (a1 : Int32) (W : jW) : jM yX12_turned cX12_turned 2 (Option.some Jvm.ClassFile.FieldType.int) [] 0 0 [vI a0, vI a1] W (some (.returned (some (.int (fwo_turned a0 a1))), W)) := 
  jM.of (mm := some (fwo_turned a0 a1)) (en := fun q => some (.returned (some (.int q)), W)) (Nat.le_of_ble_eq_true rfl) (fun x hx hm hr => wwo_turned ⟨hx, hm, hr, fun _ => rfl⟩)
def hwr_end (x : jCx) (en : (jW) → Option (Outcome × jW)) (t : Nat) (a1 : Int32) (a2 : Int32) : Prop :=
  jOK x RX14 cX14_end 7 ∧
  jMt x "end" (Option.none : Option Jvm.ClassFile.FieldType) [] ∧
  jRm x 3 47 ∧
  (∀ q : jW, en q = some (.returned none, q))
theorem wwr_end_68 {x : jCx} {en : (jW) → Option (Outcome × jW)} {t : Nat} {a1 : Int32} {a2 : Int32} (h : hwr_end x en t a1 a2) (l3 : Int32) (l4 : Int32) (l5 : Int32) (W : jW) : jJ x 7 68 [(0, vR t), (1, vI a1), (2, vI a2), (3, vI l3), (4, vI l4), (5, vI l5)] [] W (fwr_end_68 t a1 a2 l3 l4 l5 W) en := by
  have h0 := h
  obtain ⟨hx, hm, hr, he⟩ := h0
  unfold fwr_end_68
  refine j_runA hx 2 (tb := [(68, .aload_n 0), (69, .iload_n 1)]) (jtb_ok (by decide +kernel)) (pc' := 70) (lv' := [(0, vR t), (1, vI a1), (2, vI a2), (3, vI l3), (4, vI l4), (5, vI l5)]) (st' := [vI a1, vR t]) rfl ?_
  refine j_gd (fun h46 => ?_)
  refine j_OI (j_callV (av := [vI a1]) (st := []) hx hr (Or.inl q1794) q1796 qs54 rfl md_fwr_isLeft np_fwr_isLeft (cwr_isLeft t a1 W) (by decide) (Nat.le_of_ble_eq_true rfl) h46 (by decide) (by decide +kernel)) (fun q47 _ => ?_)
  refine j_if_eq hx (off := 16) (tgt := 89) (by decide +kernel) (by decide) (fun _ => ?_) (fun _ => ?_)
  · refine j_runA hx 4 (tb := [(89, .aload_n 0), (90, .iload_n 3), (91, .iload 4), (93, .aload_n 0)]) (jtb_ok (by decide +kernel)) (pc' := 94) (lv' := [(0, vR t), (1, vI a1), (2, vI a2), (3, vI l3), (4, vI l4), (5, vI l5)]) (st' := [vR t, vI l4, vI l3, vR t]) rfl ?_
    refine j_getR hx flX14_9 kl905 h46 (by decide) (by decide +kernel) ?_
    refine j_runA hx 1 (tb := [(97, .aload_n 0)]) (jtb_ok (by decide +kernel)) (pc' := 98) (lv' := [(0, vR t), (1, vI a1), (2, vI a2), (3, vI l3), (4, vI l4), (5, vI l5)]) (st' := [vR t, vR (jR W 905 t), vI l4, vI l3, vR t]) rfl ?_
    refine j_getR hx flX14_30 kl900 h46 (by decide) (by decide +kernel) ?_
    refine j_gd (fun h48 => ?_)
    refine j_getR hx flX14_71 kl215 h48 (by decide) (by decide +kernel) ?_
    refine j_runA hx 1 (tb := [(104, .iload_n 1)]) (jtb_ok (by decide +kernel)) (pc' := 105) (lv' := [(0, vR t), (1, vI a1), (2, vI a2), (3, vI l3), (4, vI l4), (5, vI l5)]) (st' := [vI a1, vR (jR W 215 (jR W 900 t)), vR (jR W 905 t), vI l4, vI l3, vR t]) rfl ?_
    refine j_gd (fun h49 => ?_)
    refine j_iald hx (f := 215) (o := (jR W 900 t)) kd215 rfl (by decide +kernel) h49 ?_
    refine j_gd (fun h50 => ?_)
    refine j_iald hx (f := 905) (o := t) kd905 rfl (by decide +kernel) h50 ?_
    refine j_runA hx 3 (tb := [(107, .iload 5), (109, .isub), (110, .i2l)]) (jtb_ok (by decide +kernel)) (pc' := 111) (lv' := [(0, vR t), (1, vI a1), (2, vI a2), (3, vI l3), (4, vI l4), (5, vI l5)]) (st' := [vL (((jA W 905 t (ix (jA W 215 (jR W 900 t) (ix a1)))) - l5).toInt64), vI l4, vI l3, vR t]) rfl ?_
    refine j_WV (j_callV (av := [vI l3, vI l4, vL (((jA W 905 t (ix (jA W 215 (jR W 900 t) (ix a1)))) - l5).toInt64)]) (st := []) hx hr (Or.inl q1866) q1868 qs65 rfl md_fwr_go np_fwr_go (cwr_go t l3 l4 (((jA W 905 t (ix (jA W 215 (jR W 900 t) (ix a1)))) - l5).toInt64) W) (by decide) (Nat.le_of_ble_eq_true rfl) h46 (by decide) (by decide +kernel)) (fun q51 _ => ?_)
    exact j_vret hx hm (by decide +kernel) (he _)
  refine j_runA hx 2 (tb := [(76, .aload_n 0), (77, .dup)]) (jtb_ok (by decide +kernel)) (pc' := 78) (lv' := [(0, vR t), (1, vI a1), (2, vI a2), (3, vI l3), (4, vI l4), (5, vI l5)]) (st' := [vR t, vR t]) rfl ?_
  refine j_getI hx flX14_155 kd916 h46 (by decide) (by decide +kernel) ?_
  refine j_runA hx 2 (tb := [(81, .iconst 1), (82, .iadd)]) (jtb_ok (by decide +kernel)) (pc' := 83) (lv' := [(0, vR t), (1, vI a1), (2, vI a2), (3, vI l3), (4, vI l4), (5, vI l5)]) (st' := [vI ((jI W 916 t) + (kI 1)), vR t]) rfl ?_
  refine j_putI hx fwX14_155 wf916 kd916 h46 (by decide) (by decide +kernel) (ni916 _) (fi916 _) ?_
  refine j_ltw rfl (fun W53 hc54 => ?_)
  have h55 : jC W53 t = 9 := (congrFun hc54 _).trans h46
  refine j_goto hx (off := 28) (by decide +kernel) (tgt := 114) (by decide) ?_
  exact j_vret hx hm (by decide +kernel) (he _)
theorem wwr_end_172 {x : jCx} {en : (jW) → Option (Outcome × jW)} {t : Nat} {a1 : Int32} {a2 : Int32} (h : hwr_end x en t a1 a2) (l4 : Int32) (l5 : Int32) (s0 : Int32) (s1 : Nat) (W : jW) : jJ x 7 172 [(0, vR t), (1, vI a1), (2, vI a2), (4, vI l4), (5, vI l5)] [vI s0, vR s1] W (fwr_end_172 t a1 a2 l4 l5 s0 s1 W) en := by
  have h0 := h
  obtain ⟨hx, hm, hr, he⟩ := h0
  unfold fwr_end_172
  refine j_runA hx 1 (tb := [(172, .iload 4)]) (jtb_ok (by decide +kernel)) (pc' := 174) (lv' := [(0, vR t), (1, vI a1), (2, vI a2), (4, vI l4), (5, vI l5)]) (st' := [vI l4, vI s0, vR s1]) rfl ?_
  refine j_ldc2 hx (v := (kJ 8)) (jkd2 q1878 (by decide +kernel)) (by decide +kernel) ?_
  refine j_gd (fun h30 => ?_)
  refine j_WV (j_callV (av := [vI s0, vI l4, vL (kJ 8)]) (st := []) hx hr (Or.inl q1866) q1868 qs65 rfl md_fwr_go np_fwr_go (cwr_go s1 s0 l4 (kJ 8) W) (by decide) (Nat.le_of_ble_eq_true rfl) h30 (by decide) (by decide +kernel)) (fun q31 _ => ?_)
  refine j_runA hx 1 (tb := [(180, .aload_n 0)]) (jtb_ok (by decide +kernel)) (pc' := 181) (lv' := [(0, vR t), (1, vI a1), (2, vI a2), (4, vI l4), (5, vI l5)]) (st' := [vR t]) rfl ?_
  refine j_ldc hx (v := (kI 335544320)) (jkc q1879 (by decide +kernel)) (by decide +kernel) ?_
  refine j_runA hx 2 (tb := [(183, .bipush 12), (185, .aload_n 0)]) (jtb_ok (by decide +kernel)) (pc' := 186) (lv' := [(0, vR t), (1, vI a1), (2, vI a2), (4, vI l4), (5, vI l5)]) (st' := [vR t, vI (kI 12), vI (kI 335544320), vR t]) rfl ?_
  refine j_gd (fun h33 => ?_)
  refine j_getR hx flX14_9 kl905 h33 (by decide) (by decide +kernel) ?_
  refine j_runA hx 2 (tb := [(189, .aload_n 0), (190, .iload_n 1)]) (jtb_ok (by decide +kernel)) (pc' := 191) (lv' := [(0, vR t), (1, vI a1), (2, vI a2), (4, vI l4), (5, vI l5)]) (st' := [vI a1, vR t, vR (jR q31 905 t), vI (kI 12), vI (kI 335544320), vR t]) rfl ?_
  refine j_OI (j_callV (av := [vI a1]) (st := [vR (jR q31 905 t), vI (kI 12), vI (kI 335544320), vR t]) hx hr (Or.inl q1812) q1814 qs58 rfl md_fwr_goalOf np_fwr_goalOf (cwr_goalOf t a1 q31) (by decide) (Nat.le_of_ble_eq_true rfl) h33 (by decide) (by decide +kernel)) (fun q34 _ => ?_)
  refine j_gd (fun h35 => ?_)
  refine j_iald hx (f := 905) (o := t) kd905 rfl (by decide +kernel) h35 ?_
  refine j_runA hx 5 (tb := [(195, .iload 5), (197, .isub), (198, .iconst 4), (199, .isub), (200, .i2l)]) (jtb_ok (by decide +kernel)) (pc' := 201) (lv' := [(0, vR t), (1, vI a1), (2, vI a2), (4, vI l4), (5, vI l5)]) (st' := [vL ((((jA q31 905 t (ix q34)) - l5) - (kI 4)).toInt64), vI (kI 12), vI (kI 335544320), vR t]) rfl ?_
  refine j_WV (j_callV (av := [vI (kI 335544320), vI (kI 12), vL ((((jA q31 905 t (ix q34)) - l5) - (kI 4)).toInt64)]) (st := []) hx hr (Or.inl q1866) q1868 qs65 rfl md_fwr_go np_fwr_go (cwr_go t (kI 335544320) (kI 12) ((((jA q31 905 t (ix q34)) - l5) - (kI 4)).toInt64) q31) (by decide) (Nat.le_of_ble_eq_true rfl) h33 (by decide) (by decide +kernel)) (fun q36 _ => ?_)
  refine j_goto hx (off := 38) (by decide +kernel) (tgt := 242) (by decide) ?_
  exact j_vret hx hm (by decide +kernel) (he _)
theorem wwr_end_223 {x : jCx} {en : (jW) → Option (Outcome × jW)} {t : Nat} {a1 : Int32} {a2 : Int32} (h : hwr_end x en t a1 a2) (l4 : Int32) (l5 : Int32) (s0 : Int32) (s1 : Nat) (W : jW) : jJ x 7 223 [(0, vR t), (1, vI a1), (2, vI a2), (4, vI l4), (5, vI l5)] [vI s0, vR s1] W (fwr_end_223 t a1 a2 l4 l5 s0 s1 W) en := by
  have h0 := h
  obtain ⟨hx, hm, hr, he⟩ := h0
  unfold fwr_end_223
  refine j_runA hx 2 (tb := [(223, .iload 4), (225, .aload_n 0)]) (jtb_ok (by decide +kernel)) (pc' := 226) (lv' := [(0, vR t), (1, vI a1), (2, vI a2), (4, vI l4), (5, vI l5)]) (st' := [vR t, vI l4, vI s0, vR s1]) rfl ?_
  refine j_gd (fun h39 => ?_)
  refine j_getR hx flX14_9 kl905 h39 (by decide) (by decide +kernel) ?_
  refine j_runA hx 2 (tb := [(229, .aload_n 0), (230, .iload_n 1)]) (jtb_ok (by decide +kernel)) (pc' := 231) (lv' := [(0, vR t), (1, vI a1), (2, vI a2), (4, vI l4), (5, vI l5)]) (st' := [vI a1, vR t, vR (jR W 905 t), vI l4, vI s0, vR s1]) rfl ?_
  refine j_OI (j_callV (av := [vI a1]) (st := [vR (jR W 905 t), vI l4, vI s0, vR s1]) hx hr (Or.inl q1812) q1814 qs58 rfl md_fwr_goalOf np_fwr_goalOf (cwr_goalOf t a1 W) (by decide) (Nat.le_of_ble_eq_true rfl) h39 (by decide) (by decide +kernel)) (fun q40 _ => ?_)
  refine j_gd (fun h41 => ?_)
  refine j_iald hx (f := 905) (o := t) kd905 rfl (by decide +kernel) h41 ?_
  refine j_runA hx 3 (tb := [(235, .iload 5), (237, .isub), (238, .i2l)]) (jtb_ok (by decide +kernel)) (pc' := 239) (lv' := [(0, vR t), (1, vI a1), (2, vI a2), (4, vI l4), (5, vI l5)]) (st' := [vL (((jA W 905 t (ix q40)) - l5).toInt64), vI l4, vI s0, vR s1]) rfl ?_
  refine j_gd (fun h42 => ?_)
  refine j_WV (j_callV (av := [vI s0, vI l4, vL (((jA W 905 t (ix q40)) - l5).toInt64)]) (st := []) hx hr (Or.inl q1866) q1868 qs65 rfl md_fwr_go np_fwr_go (cwr_go s1 s0 l4 (((jA W 905 t (ix q40)) - l5).toInt64) W) (by decide) (Nat.le_of_ble_eq_true rfl) h42 (by decide) (by decide +kernel)) (fun q43 _ => ?_)
  exact j_vret hx hm (by decide +kernel) (he _)
theorem wwr_end_137 {x : jCx} {en : (jW) → Option (Outcome × jW)} {t : Nat} {a1 : Int32} {a2 : Int32} (h : hwr_end x en t a1 a2) (l3 : Int32) (l4 : Int32) (l5 : Int32) (l6 : Int32) (W : jW) : jJ x 7 137 [(0, vR t), (1, vI a1), (2, vI a2), (3, vI l3), (4, vI l4), (5, vI l5), (6, vI l6)] [] W (fwr_end_137 t a1 a2 l3 l4 l5 l6 W) en := by
  have h0 := h
  obtain ⟨hx, hm, hr, he⟩ := h0
  unfold fwr_end_137
  refine j_runA hx 1 (tb := [(137, .aload_n 0)]) (jtb_ok (by decide +kernel)) (pc' := 138) (lv' := [(0, vR t), (1, vI a1), (2, vI a2), (3, vI l3), (4, vI l4), (5, vI l5), (6, vI l6)]) (st' := [vR t]) rfl ?_
  refine j_gd (fun h23 => ?_)
  refine j_getR hx flX14_18 kl907 h23 (by decide) (by decide +kernel) ?_
  refine j_runA hx 1 (tb := [(141, .iload_n 1)]) (jtb_ok (by decide +kernel)) (pc' := 142) (lv' := [(0, vR t), (1, vI a1), (2, vI a2), (3, vI l3), (4, vI l4), (5, vI l5), (6, vI l6)]) (st' := [vI a1, vR (jR W 907 t)]) rfl ?_
  refine j_gd (fun h24 => ?_)
  refine j_zald hx (f := 907) (o := t) kd907 rfl (by decide +kernel) h24 ?_
  refine j_if_eq hx (off := 64) (tgt := 207) (by decide +kernel) (by decide) (fun _ => ?_) (fun _ => ?_)
  · refine j_runA hx 2 (tb := [(207, .aload_n 0), (208, .iload 6)]) (jtb_ok (by decide +kernel)) (pc' := 210) (lv' := [(0, vR t), (1, vI a1), (2, vI a2), (3, vI l3), (4, vI l4), (5, vI l5), (6, vI l6)]) (st' := [vI l6, vR t]) rfl ?_
    refine j_if_eq hx (off := 12) (tgt := 222) (by decide +kernel) (by decide) (fun _ => ?_) (fun _ => ?_)
    · refine j_runA hx 1 (tb := [(222, .iload_n 3)]) (jtb_ok (by decide +kernel)) (pc' := 223) (lv' := [(0, vR t), (1, vI a1), (2, vI a2), (3, vI l3), (4, vI l4), (5, vI l5), (6, vI l6)]) (st' := [vI l3, vR t]) rfl ?_
      refine j_lv (lv' := [(0, vR t), (1, vI a1), (2, vI a2), (4, vI l4), (5, vI l5)]) ⟨rfl, rfl, rfl, rfl, rfl, trivial⟩ ?_
      exact wwr_end_223 h l4 l5 l3 t W
    refine j_runA hx 2 (tb := [(213, .iload_n 3), (214, .iload 4)]) (jtb_ok (by decide +kernel)) (pc' := 216) (lv' := [(0, vR t), (1, vI a1), (2, vI a2), (3, vI l3), (4, vI l4), (5, vI l5), (6, vI l6)]) (st' := [vI l4, vI l3, vR t]) rfl ?_
    refine j_TI (j_callS (av := [vI l3, vI l4]) (st := [vR t]) hx hr (Or.inl q1874) q1875 q247 md_fwo_turned np_fwo_turned (cwo_turned l3 l4 W) (by decide) (Nat.le_of_ble_eq_true rfl) (by decide +kernel)) ?_
    refine j_goto hx (off := 4) (by decide +kernel) (tgt := 223) (by decide) ?_
    refine j_lv (lv' := [(0, vR t), (1, vI a1), (2, vI a2), (4, vI l4), (5, vI l5)]) ⟨rfl, rfl, rfl, rfl, rfl, trivial⟩ ?_
    exact wwr_end_223 h l4 l5 (fwo_turned l3 l4) t W
  refine j_runA hx 2 (tb := [(146, .aload_n 0), (147, .dup)]) (jtb_ok (by decide +kernel)) (pc' := 148) (lv' := [(0, vR t), (1, vI a1), (2, vI a2), (3, vI l3), (4, vI l4), (5, vI l5), (6, vI l6)]) (st' := [vR t, vR t]) rfl ?_
  refine j_getI hx flX14_152 kd915 h23 (by decide) (by decide +kernel) ?_
  refine j_runA hx 2 (tb := [(151, .iconst 1), (152, .iadd)]) (jtb_ok (by decide +kernel)) (pc' := 153) (lv' := [(0, vR t), (1, vI a1), (2, vI a2), (3, vI l3), (4, vI l4), (5, vI l5), (6, vI l6)]) (st' := [vI ((jI W 915 t) + (kI 1)), vR t]) rfl ?_
  refine j_putI hx fwX14_152 wf915 kd915 h23 (by decide) (by decide +kernel) (ni915 _) (fi915 _) ?_
  refine j_ltw rfl (fun W25 hc26 => ?_)
  have h27 : jC W25 t = 9 := (congrFun hc26 _).trans h23
  refine j_runA hx 2 (tb := [(156, .aload_n 0), (157, .iload 6)]) (jtb_ok (by decide +kernel)) (pc' := 159) (lv' := [(0, vR t), (1, vI a1), (2, vI a2), (3, vI l3), (4, vI l4), (5, vI l5), (6, vI l6)]) (st' := [vI l6, vR t]) rfl ?_
  refine j_if_eq hx (off := 7) (tgt := 166) (by decide +kernel) (by decide) (fun _ => ?_) (fun _ => ?_)
  · refine j_runA hx 2 (tb := [(166, .iload_n 3), (167, .iload 4)]) (jtb_ok (by decide +kernel)) (pc' := 169) (lv' := [(0, vR t), (1, vI a1), (2, vI a2), (3, vI l3), (4, vI l4), (5, vI l5), (6, vI l6)]) (st' := [vI l4, vI l3, vR t]) rfl ?_
    refine j_TI (j_callS (av := [vI l3, vI l4]) (st := [vR t]) hx hr (Or.inl q1874) q1875 q247 md_fwo_turned np_fwo_turned (cwo_turned l3 l4 W25) (by decide) (Nat.le_of_ble_eq_true rfl) (by decide +kernel)) ?_
    refine j_lv (lv' := [(0, vR t), (1, vI a1), (2, vI a2), (4, vI l4), (5, vI l5)]) ⟨rfl, rfl, rfl, rfl, rfl, trivial⟩ ?_
    exact wwr_end_172 h l4 l5 (fwo_turned l3 l4) t W25
  refine j_runA hx 1 (tb := [(162, .iload_n 3)]) (jtb_ok (by decide +kernel)) (pc' := 163) (lv' := [(0, vR t), (1, vI a1), (2, vI a2), (3, vI l3), (4, vI l4), (5, vI l5), (6, vI l6)]) (st' := [vI l3, vR t]) rfl ?_
  refine j_goto hx (off := 9) (by decide +kernel) (tgt := 172) (by decide) ?_
  refine j_lv (lv' := [(0, vR t), (1, vI a1), (2, vI a2), (4, vI l4), (5, vI l5)]) ⟨rfl, rfl, rfl, rfl, rfl, trivial⟩ ?_
  exact wwr_end_172 h l4 l5 l3 t W25
theorem wwr_end {x : jCx} {en : (jW) → Option (Outcome × jW)} {t : Nat} {a1 : Int32} {a2 : Int32} (h : hwr_end x en t a1 a2) (W : jW) : jJ x 7 0 [(0, vR t), (1, vI a1), (2, vI a2)] [] W (fwr_end t a1 a2 W) en := by
  have h0 := h
  obtain ⟨hx, hm, hr, he⟩ := h0
  unfold fwr_end
  refine j_runA hx 1 (tb := [(0, .aload_n 0)]) (jtb_ok (by decide +kernel)) (pc' := 1) (lv' := [(0, vR t), (1, vI a1), (2, vI a2)]) (st' := [vR t]) rfl ?_
  refine j_gd (fun h1 => ?_)
  refine j_getR hx flX14_30 kl900 h1 (by decide) (by decide +kernel) ?_
  refine j_gd (fun h2 => ?_)
  refine j_getR hx flX14_193 kl204 h2 (by decide) (by decide +kernel) ?_
  refine j_runA hx 1 (tb := [(7, .iload_n 2)]) (jtb_ok (by decide +kernel)) (pc' := 8) (lv' := [(0, vR t), (1, vI a1), (2, vI a2)]) (st' := [vI a2, vR (jR W 204 (jR W 900 t))]) rfl ?_
  refine j_gd (fun h3 => ?_)
  refine j_iald hx (f := 204) (o := (jR W 900 t)) kd204 rfl (by decide +kernel) h3 ?_
  refine j_runA hx 1 (tb := [(9, .istore_n 3)]) (jtb_ok (by decide +kernel)) (pc' := 10) (lv' := [(3, vI (jA W 204 (jR W 900 t) (ix a2))), (0, vR t), (1, vI a1), (2, vI a2)]) (st' := []) rfl ?_
  refine j_let (v := (jA W 204 (jR W 900 t) (ix a2))) (lv := fun v4 => [(3, vI v4), (0, vR t), (1, vI a1), (2, vI a2)]) (st := fun _ => []) (fun v4 => ?_)
  refine j_runA hx 1 (tb := [(10, .aload_n 0)]) (jtb_ok (by decide +kernel)) (pc' := 11) (lv' := [(3, vI v4), (0, vR t), (1, vI a1), (2, vI a2)]) (st' := [vR t]) rfl ?_
  refine j_getR hx flX14_30 kl900 h1 (by decide) (by decide +kernel) ?_
  refine j_getR hx flX14_90 kl205 h2 (by decide) (by decide +kernel) ?_
  refine j_runA hx 1 (tb := [(17, .iload_n 2)]) (jtb_ok (by decide +kernel)) (pc' := 18) (lv' := [(3, vI v4), (0, vR t), (1, vI a1), (2, vI a2)]) (st' := [vI a2, vR (jR W 205 (jR W 900 t))]) rfl ?_
  refine j_gd (fun h5 => ?_)
  refine j_iald hx (f := 205) (o := (jR W 900 t)) kd205 rfl (by decide +kernel) h5 ?_
  refine j_runA hx 1 (tb := [(19, .istore 4)]) (jtb_ok (by decide +kernel)) (pc' := 21) (lv' := [(4, vI (jA W 205 (jR W 900 t) (ix a2))), (3, vI v4), (0, vR t), (1, vI a1), (2, vI a2)]) (st' := []) rfl ?_
  refine j_let (v := (jA W 205 (jR W 900 t) (ix a2))) (lv := fun v6 => [(4, vI v6), (3, vI v4), (0, vR t), (1, vI a1), (2, vI a2)]) (st := fun _ => []) (fun v6 => ?_)
  refine j_runA hx 2 (tb := [(21, .aload_n 0), (22, .iload_n 1)]) (jtb_ok (by decide +kernel)) (pc' := 23) (lv' := [(4, vI v6), (3, vI v4), (0, vR t), (1, vI a1), (2, vI a2)]) (st' := [vI a1, vR t]) rfl ?_
  refine j_OI (j_callV (av := [vI a1]) (st := []) hx hr (Or.inl q1816) q1818 qs59 rfl md_fwr_endAt np_fwr_endAt (cwr_endAt t a1 W) (by decide) (Nat.le_of_ble_eq_true rfl) h1 (by decide) (by decide +kernel)) (fun q7 _ => ?_)
  refine j_runA hx 2 (tb := [(26, .istore 5), (28, .aload_n 0)]) (jtb_ok (by decide +kernel)) (pc' := 29) (lv' := [(5, vI q7), (4, vI v6), (3, vI v4), (0, vR t), (1, vI a1), (2, vI a2)]) (st' := [vR t]) rfl ?_
  refine j_getR hx flX14_30 kl900 h1 (by decide) (by decide +kernel) ?_
  refine j_getR hx flX14_68 kl214 h2 (by decide) (by decide +kernel) ?_
  refine j_runA hx 1 (tb := [(35, .iload_n 1)]) (jtb_ok (by decide +kernel)) (pc' := 36) (lv' := [(5, vI q7), (4, vI v6), (3, vI v4), (0, vR t), (1, vI a1), (2, vI a2)]) (st' := [vI a1, vR (jR W 214 (jR W 900 t))]) rfl ?_
  refine j_gd (fun h8 => ?_)
  refine j_iald hx (f := 214) (o := (jR W 900 t)) kd214 rfl (by decide +kernel) h8 ?_
  refine j_let (v := (jA W 214 (jR W 900 t) (ix a1))) (lv := fun _ => [(5, vI q7), (4, vI v6), (3, vI v4), (0, vR t), (1, vI a1), (2, vI a2)]) (st := fun v9 => [vI v9]) (fun v9 => ?_)
  refine j_tab hx (dflt := 206) (lo := 1) (hi := 4) (offs := #[31, 31, 78, 31]) (len := 31) (k := 1) (off := 31) (tgt := 68) (by decide +kernel) (by decide) (by decide) (by decide) rfl (by decide) (fun _ => ?_) (fun h10 => ?_)
  · refine j_lv (lv' := [(0, vR t), (1, vI a1), (2, vI a2), (3, vI v4), (4, vI v6), (5, vI q7)]) ⟨rfl, rfl, rfl, rfl, rfl, rfl, trivial⟩ ?_
    exact wwr_end_68 h v4 v6 q7 W
  refine j_tab hx (dflt := 206) (lo := 1) (hi := 4) (offs := #[31, 31, 78, 31]) (len := 31) (k := 2) (off := 31) (tgt := 68) (by decide +kernel) (by decide) (by decide) (by decide) rfl (by decide) (fun _ => ?_) (fun h11 => ?_)
  · refine j_lv (lv' := [(0, vR t), (1, vI a1), (2, vI a2), (3, vI v4), (4, vI v6), (5, vI q7)]) ⟨rfl, rfl, rfl, rfl, rfl, rfl, trivial⟩ ?_
    exact wwr_end_68 h v4 v6 q7 W
  refine j_tab hx (dflt := 206) (lo := 1) (hi := 4) (offs := #[31, 31, 78, 31]) (len := 31) (k := 3) (off := 78) (tgt := 115) (by decide +kernel) (by decide) (by decide) (by decide) rfl (by decide) (fun _ => ?_) (fun h12 => ?_)
  · refine j_runA hx 2 (tb := [(115, .aload_n 0), (116, .iload_n 1)]) (jtb_ok (by decide +kernel)) (pc' := 117) (lv' := [(5, vI q7), (4, vI v6), (3, vI v4), (0, vR t), (1, vI a1), (2, vI a2)]) (st' := [vI a1, vR t]) rfl ?_
    refine j_OI (j_callV (av := [vI a1]) (st := []) hx hr (Or.inl q1803) q1805 qs56 rfl md_fwr_isTurned np_fwr_isTurned (cwr_isTurned t a1 W) (by decide) (Nat.le_of_ble_eq_true rfl) h1 (by decide) (by decide +kernel)) (fun q13 _ => ?_)
    refine j_runA hx 2 (tb := [(120, .istore 6), (122, .iload 6)]) (jtb_ok (by decide +kernel)) (pc' := 124) (lv' := [(6, vI q13), (5, vI q7), (4, vI v6), (3, vI v4), (0, vR t), (1, vI a1), (2, vI a2)]) (st' := [vI q13]) rfl ?_
    refine j_if_eq hx (off := 13) (tgt := 137) (by decide +kernel) (by decide) (fun _ => ?_) (fun _ => ?_)
    · refine j_lv (lv' := [(0, vR t), (1, vI a1), (2, vI a2), (3, vI v4), (4, vI v6), (5, vI q7), (6, vI q13)]) ⟨rfl, rfl, rfl, rfl, rfl, rfl, rfl, trivial⟩ ?_
      exact wwr_end_137 h v4 v6 q7 q13 W
    refine j_runA hx 2 (tb := [(127, .aload_n 0), (128, .dup)]) (jtb_ok (by decide +kernel)) (pc' := 129) (lv' := [(6, vI q13), (5, vI q7), (4, vI v6), (3, vI v4), (0, vR t), (1, vI a1), (2, vI a2)]) (st' := [vR t, vR t]) rfl ?_
    refine j_getI hx flX14_158 kd917 h1 (by decide) (by decide +kernel) ?_
    refine j_runA hx 2 (tb := [(132, .iconst 1), (133, .iadd)]) (jtb_ok (by decide +kernel)) (pc' := 134) (lv' := [(6, vI q13), (5, vI q7), (4, vI v6), (3, vI v4), (0, vR t), (1, vI a1), (2, vI a2)]) (st' := [vI ((jI W 917 t) + (kI 1)), vR t]) rfl ?_
    refine j_putI hx fwX14_158 wf917 kd917 h1 (by decide) (by decide +kernel) (ni917 _) (fi917 _) ?_
    refine j_ltw rfl (fun W14 hc15 => ?_)
    have h16 : jC W14 t = 9 := (congrFun hc15 _).trans h1
    have h17 : jC W14 (jR W 900 t) = 2 := (congrFun hc15 _).trans h2
    refine j_lv (lv' := [(0, vR t), (1, vI a1), (2, vI a2), (3, vI v4), (4, vI v6), (5, vI q7), (6, vI q13)]) ⟨rfl, rfl, rfl, rfl, rfl, rfl, rfl, trivial⟩ ?_
    exact wwr_end_137 h v4 v6 q7 q13 W14
  refine j_tab hx (dflt := 206) (lo := 1) (hi := 4) (offs := #[31, 31, 78, 31]) (len := 31) (k := 4) (off := 31) (tgt := 68) (by decide +kernel) (by decide) (by decide) (by decide) rfl (by decide) (fun _ => ?_) (fun h19 => ?_)
  · refine j_lv (lv' := [(0, vR t), (1, vI a1), (2, vI a2), (3, vI v4), (4, vI v6), (5, vI q7)]) ⟨rfl, rfl, rfl, rfl, rfl, rfl, trivial⟩ ?_
    exact wwr_end_68 h v4 v6 q7 W
  refine j_tabD hx (dflt := 206) (lo := 1) (hi := 4) (offs := #[31, 31, 78, 31]) (len := 31) (tgt := 243) (by decide +kernel) (by decide) (fun i hi => by
    match i, hi with
    | 0, _ => exact Or.inr h10
    | 1, _ => exact Or.inr h11
    | 2, _ => exact Or.inr h12
    | 3, _ => exact Or.inr h19
    | n + 4, h => exact absurd h (by omega)) ?_
  refine j_runA hx 2 (tb := [(243, .aload_n 0), (244, .iload_n 3)]) (jtb_ok (by decide +kernel)) (pc' := 245) (lv' := [(5, vI q7), (4, vI v6), (3, vI v4), (0, vR t), (1, vI a1), (2, vI a2)]) (st' := [vI v4, vR t]) rfl ?_
  refine j_WV (j_callV (av := [vI v4]) (st := []) hx hr (Or.inl q1858) q1860 qs63 rfl md_fwr_emit np_fwr_emit (cwr_emit t v4 W) (by decide) (Nat.le_of_ble_eq_true rfl) h1 (by decide) (by decide +kernel)) (fun q20 _ => ?_)
  exact j_vret hx hm (by decide +kernel) (he _)
theorem cwr_end (t : Nat) (a1 : Int32) (a2 : Int32) (W : jW) : jM yX14_end cX14_end 7 (Option.none : Option Jvm.ClassFile.FieldType) [] 3 47 [vR t, vI a1, vI a2] W ((fwr_end t a1 a2 W).bind (fun q => some (.returned none, q))) := 
  jM.of (Nat.le_of_ble_eq_true rfl) (fun x hx hm hr => wwr_end ⟨hx, hm, hr, fun _ => rfl⟩ W)
def hwr_block (x : jCx) (en : (fwr_block_S ⊕ (jW)) → Option (Outcome × jW)) (t : Nat) (a1 : Int32) : Prop :=
  jOK x RX14 cX14_block 6 ∧
  jMt x "block" (Option.none : Option Jvm.ClassFile.FieldType) [] ∧
  jRm x 10 140 ∧
  (∀ q : jW, en (.inr q) = some (.returned none, q)) ∧
  (∀ (l2 : Int32) (l3 : Int32) (l4 : Int32) (W : jW), jJ x 6 41 [(0, vR t), (1, vI a1), (2, vI l2), (3, vI l3), (4, vI l4)] [] W (some (.inl (l2, l3, l4, W))) en)
theorem wwr_block_56 {x : jCx} {en : (fwr_block_S ⊕ (jW)) → Option (Outcome × jW)} {t : Nat} {a1 : Int32} (h : hwr_block x en t a1) (l2 : Int32) (l3 : Int32) (l4 : Int32) (W : jW) : jJ x 6 56 [(0, vR t), (1, vI a1), (2, vI l2), (3, vI l3), (4, vI l4)] [] W (fwr_block_56 t a1 l2 l3 l4 W) en := by
  have h0 := h
  obtain ⟨hx, hm, hr, he, k41⟩ := h0
  unfold fwr_block_56
  refine j_runA hx 3 (tb := [(56, .aload_n 0), (57, .aload_n 0), (58, .iload_n 2)]) (jtb_ok (by decide +kernel)) (pc' := 59) (lv' := [(0, vR t), (1, vI a1), (2, vI l2), (3, vI l3), (4, vI l4)]) (st' := [vI l2, vR t, vR t]) rfl ?_
  refine j_gd (fun h28 => ?_)
  refine j_OI (j_callV (av := [vI l2]) (st := [vR t]) hx hr (Or.inl q1832) q1834 qs62 rfl md_fwr_fixed np_fwr_fixed (cwr_fixed t l2 W) (by decide) (Nat.le_of_ble_eq_true rfl) h28 (by decide) (by decide +kernel)) (fun q29 _ => ?_)
  refine j_WV (j_callV (av := [vI q29]) (st := []) hx hr (Or.inl q1858) q1860 qs63 rfl md_fwr_emit np_fwr_emit (cwr_emit t q29 W) (by decide) (Nat.le_of_ble_eq_true rfl) h28 (by decide) (by decide +kernel)) (fun q30 _ => ?_)
  refine j_runA hx 1 (tb := [(65, .iinc 2 1)]) (jtb_ok (by decide +kernel)) (pc' := 68) (lv' := [(2, vI (l2 + (kI 1))), (0, vR t), (1, vI a1), (3, vI l3), (4, vI l4)]) (st' := []) rfl ?_
  refine j_let (v := (l2 + (kI 1))) (lv := fun v32 => [(2, vI v32), (0, vR t), (1, vI a1), (3, vI l3), (4, vI l4)]) (st := fun _ => []) (fun v32 => ?_)
  refine j_goto hx (off := -27) (by decide +kernel) (tgt := 41) (by decide) ?_
  refine j_lv (lv' := [(0, vR t), (1, vI a1), (2, vI v32), (3, vI l3), (4, vI l4)]) ⟨rfl, rfl, rfl, rfl, rfl, trivial⟩ ?_
  exact k41 v32 l3 l4 q30
theorem wwr_block_82 {x : jCx} {en : (fwr_block_S ⊕ (jW)) → Option (Outcome × jW)} {t : Nat} {a1 : Int32} (h : hwr_block x en t a1) (W : jW) : jJ x 6 82 [(0, vR t), (1, vI a1)] [] W (fwr_block_82 t a1 W) en := by
  have h0 := h
  obtain ⟨hx, hm, hr, he, k41⟩ := h0
  unfold fwr_block_82
  refine j_runA hx 2 (tb := [(82, .aload_n 0), (83, .iload_n 1)]) (jtb_ok (by decide +kernel)) (pc' := 84) (lv' := [(0, vR t), (1, vI a1)]) (st' := [vI a1, vR t]) rfl ?_
  refine j_gd (fun h15 => ?_)
  refine j_OI (j_callV (av := [vI a1]) (st := []) hx hr (Or.inl q1798) q1800 qs55 rfl md_fwr_isPut np_fwr_isPut (cwr_isPut t a1 W) (by decide) (Nat.le_of_ble_eq_true rfl) h15 (by decide) (by decide +kernel)) (fun q16 _ => ?_)
  refine j_if_ne hx (off := 4) (tgt := 91) (by decide +kernel) (by decide) (fun _ => ?_) (fun _ => ?_)
  · refine j_runA hx 2 (tb := [(91, .aload_n 0), (92, .dup)]) (jtb_ok (by decide +kernel)) (pc' := 93) (lv' := [(0, vR t), (1, vI a1)]) (st' := [vR t, vR t]) rfl ?_
    refine j_getI hx flX14_161 kd918 h15 (by decide) (by decide +kernel) ?_
    refine j_runA hx 2 (tb := [(96, .iconst 1), (97, .iadd)]) (jtb_ok (by decide +kernel)) (pc' := 98) (lv' := [(0, vR t), (1, vI a1)]) (st' := [vI ((jI W 918 t) + (kI 1)), vR t]) rfl ?_
    refine j_putI hx fwX14_161 wf918 kd918 h15 (by decide) (by decide +kernel) (ni918 _) (fi918 _) ?_
    refine j_ltw rfl (fun W17 hc18 => ?_)
    have h19 : jC W17 t = 9 := (congrFun hc18 _).trans h15
    refine j_runA hx 1 (tb := [(101, .aload_n 0)]) (jtb_ok (by decide +kernel)) (pc' := 102) (lv' := [(0, vR t), (1, vI a1)]) (st' := [vR t]) rfl ?_
    refine j_getR hx flX14_9 kl905 h19 (by decide) (by decide +kernel) ?_
    refine j_runA hx 1 (tb := [(105, .iload_n 1)]) (jtb_ok (by decide +kernel)) (pc' := 106) (lv' := [(0, vR t), (1, vI a1)]) (st' := [vI a1, vR (jR W17 905 t)]) rfl ?_
    refine j_gd (fun h21 => ?_)
    refine j_iald hx (f := 905) (o := t) kd905 rfl (by decide +kernel) h21 ?_
    refine j_runA hx 2 (tb := [(107, .aload_n 0), (108, .iload_n 1)]) (jtb_ok (by decide +kernel)) (pc' := 109) (lv' := [(0, vR t), (1, vI a1)]) (st' := [vI a1, vR t, vI (jA W17 905 t (ix a1))]) rfl ?_
    refine j_OI (j_callV (av := [vI a1]) (st := [vI (jA W17 905 t (ix a1))]) hx hr (Or.inl q1789) q1791 qs53 rfl md_fwr_sizeOf np_fwr_sizeOf (cwr_sizeOf t a1 W17) (by decide) (Nat.le_of_ble_eq_true rfl) h19 (by decide) (by decide +kernel)) (fun q22 _ => ?_)
    refine j_runA hx 4 (tb := [(112, .iadd), (113, .iconst 4), (114, .isub), (115, .istore 5)]) (jtb_ok (by decide +kernel)) (pc' := 117) (lv' := [(5, vI (((jA W17 905 t (ix a1)) + q22) - (kI 4))), (0, vR t), (1, vI a1)]) (st' := []) rfl ?_
    refine j_let (v := (((jA W17 905 t (ix a1)) + q22) - (kI 4))) (lv := fun v23 => [(5, vI v23), (0, vR t), (1, vI a1)]) (st := fun _ => []) (fun v23 => ?_)
    refine j_runA hx 1 (tb := [(117, .aload_n 0)]) (jtb_ok (by decide +kernel)) (pc' := 118) (lv' := [(5, vI v23), (0, vR t), (1, vI a1)]) (st' := [vR t]) rfl ?_
    refine j_ldc hx (v := (kI 335544320)) (jkc q1879 (by decide +kernel)) (by decide +kernel) ?_
    refine j_runA hx 2 (tb := [(120, .bipush 12), (122, .aload_n 0)]) (jtb_ok (by decide +kernel)) (pc' := 123) (lv' := [(5, vI v23), (0, vR t), (1, vI a1)]) (st' := [vR t, vI (kI 12), vI (kI 335544320), vR t]) rfl ?_
    refine j_getR hx flX14_9 kl905 h19 (by decide) (by decide +kernel) ?_
    refine j_runA hx 3 (tb := [(126, .iload_n 1), (127, .iconst 1), (128, .iadd)]) (jtb_ok (by decide +kernel)) (pc' := 129) (lv' := [(5, vI v23), (0, vR t), (1, vI a1)]) (st' := [vI (a1 + (kI 1)), vR (jR W17 905 t), vI (kI 12), vI (kI 335544320), vR t]) rfl ?_
    refine j_gd (fun h24 => ?_)
    refine j_iald hx (f := 905) (o := t) kd905 rfl (by decide +kernel) h24 ?_
    refine j_runA hx 3 (tb := [(130, .iload 5), (132, .isub), (133, .i2l)]) (jtb_ok (by decide +kernel)) (pc' := 134) (lv' := [(5, vI v23), (0, vR t), (1, vI a1)]) (st' := [vL (((jA W17 905 t (ix (a1 + (kI 1)))) - v23).toInt64), vI (kI 12), vI (kI 335544320), vR t]) rfl ?_
    refine j_WV (j_callV (av := [vI (kI 335544320), vI (kI 12), vL (((jA W17 905 t (ix (a1 + (kI 1)))) - v23).toInt64)]) (st := []) hx hr (Or.inl q1866) q1868 qs65 rfl md_fwr_go np_fwr_go (cwr_go t (kI 335544320) (kI 12) (((jA W17 905 t (ix (a1 + (kI 1)))) - v23).toInt64) W17) (by decide) (Nat.le_of_ble_eq_true rfl) h19 (by decide) (by decide +kernel)) (fun q25 _ => ?_)
    exact j_vret hx hm (by decide +kernel) (he _)
  exact j_vret hx hm (by decide +kernel) (he _)
theorem wwr_block_71 {x : jCx} {en : (fwr_block_S ⊕ (jW)) → Option (Outcome × jW)} {t : Nat} {a1 : Int32} (h : hwr_block x en t a1) (l3 : Int32) (l4 : Int32) (W : jW) : jJ x 6 71 [(0, vR t), (1, vI a1), (3, vI l3), (4, vI l4)] [] W (fwr_block_71 t a1 l3 l4 W) en := by
  have h0 := h
  obtain ⟨hx, hm, hr, he, k41⟩ := h0
  unfold fwr_block_71
  refine j_runA hx 1 (tb := [(71, .iload 4)]) (jtb_ok (by decide +kernel)) (pc' := 73) (lv' := [(0, vR t), (1, vI a1), (3, vI l3), (4, vI l4)]) (st' := [vI l4]) rfl ?_
  refine j_if_eq hx (off := 9) (tgt := 82) (by decide +kernel) (by decide) (fun _ => ?_) (fun _ => ?_)
  · refine j_lv (lv' := [(0, vR t), (1, vI a1)]) ⟨rfl, rfl, trivial⟩ ?_
    exact wwr_block_82 h W
  refine j_runA hx 3 (tb := [(76, .aload_n 0), (77, .iload_n 1), (78, .iload_n 3)]) (jtb_ok (by decide +kernel)) (pc' := 79) (lv' := [(0, vR t), (1, vI a1), (3, vI l3), (4, vI l4)]) (st' := [vI l3, vI a1, vR t]) rfl ?_
  refine j_gd (fun h11 => ?_)
  refine j_WV (j_callV (av := [vI a1, vI l3]) (st := []) hx hr (Or.inl q1862) q1864 qs64 rfl md_fwr_end np_fwr_end (cwr_end t a1 l3 W) (by decide) (Nat.le_of_ble_eq_true rfl) h11 (by decide) (by decide +kernel)) (fun q12 _ => ?_)
  refine j_lv (lv' := [(0, vR t), (1, vI a1)]) ⟨rfl, rfl, trivial⟩ ?_
  exact wwr_block_82 h q12
theorem wwr_block_41 {x : jCx} {en : (fwr_block_S ⊕ (jW)) → Option (Outcome × jW)} {t : Nat} {a1 : Int32} (h : hwr_block x en t a1) (l2 : Int32) (l3 : Int32) (l4 : Int32) (W : jW) : jJ x 6 41 [(0, vR t), (1, vI a1), (2, vI l2), (3, vI l3), (4, vI l4)] [] W (fwr_block_41 t a1 l2 l3 l4 W) en := by
  have h0 := h
  obtain ⟨hx, hm, hr, he, k41⟩ := h0
  unfold fwr_block_41
  refine j_runA hx 2 (tb := [(41, .iload_n 2), (42, .iload_n 3)]) (jtb_ok (by decide +kernel)) (pc' := 43) (lv' := [(0, vR t), (1, vI a1), (2, vI l2), (3, vI l3), (4, vI l4)]) (st' := [vI l3, vI l2]) rfl ?_
  refine j_icmp_lt hx (off := 13) (tgt := 56) (by decide +kernel) (by decide) (fun _ => ?_) (fun _ => ?_)
  · exact wwr_block_56 h l2 l3 l4 W
  refine j_runA hx 2 (tb := [(46, .iload_n 2), (47, .iload_n 3)]) (jtb_ok (by decide +kernel)) (pc' := 48) (lv' := [(0, vR t), (1, vI a1), (2, vI l2), (3, vI l3), (4, vI l4)]) (st' := [vI l3, vI l2]) rfl ?_
  refine j_icmp_ne hx (off := 23) (tgt := 71) (by decide +kernel) (by decide) (fun _ => ?_) (fun _ => ?_)
  · refine j_lv (lv' := [(0, vR t), (1, vI a1), (3, vI l3), (4, vI l4)]) ⟨rfl, rfl, rfl, rfl, trivial⟩ ?_
    exact wwr_block_71 h l3 l4 W
  refine j_runA hx 1 (tb := [(51, .iload 4)]) (jtb_ok (by decide +kernel)) (pc' := 53) (lv' := [(0, vR t), (1, vI a1), (2, vI l2), (3, vI l3), (4, vI l4)]) (st' := [vI l4]) rfl ?_
  refine j_if_ne hx (off := 18) (tgt := 71) (by decide +kernel) (by decide) (fun _ => ?_) (fun _ => ?_)
  · refine j_lv (lv' := [(0, vR t), (1, vI a1), (3, vI l3), (4, vI l4)]) ⟨rfl, rfl, rfl, rfl, trivial⟩ ?_
    exact wwr_block_71 h l3 l4 W
  exact wwr_block_56 h l2 l3 l4 W
theorem wwr_block_39 {x : jCx} {en : (fwr_block_S ⊕ (jW)) → Option (Outcome × jW)} {t : Nat} {a1 : Int32} (h : hwr_block x en t a1) (l2 : Int32) (l3 : Int32) (s0 : Int32) (W : jW) : jJ x 6 39 [(0, vR t), (1, vI a1), (2, vI l2), (3, vI l3)] [vI s0] W (fwr_block_39 t a1 l2 l3 s0 W) en := by
  have h0 := h
  obtain ⟨hx, hm, hr, he, k41⟩ := h0
  unfold fwr_block_39
  refine j_runA hx 1 (tb := [(39, .istore 4)]) (jtb_ok (by decide +kernel)) (pc' := 41) (lv' := [(4, vI s0), (0, vR t), (1, vI a1), (2, vI l2), (3, vI l3)]) (st' := []) rfl ?_
  refine j_lv (lv' := [(0, vR t), (1, vI a1), (2, vI l2), (3, vI l3), (4, vI s0)]) ⟨rfl, rfl, rfl, rfl, rfl, trivial⟩ ?_
  exact k41 l2 l3 s0 W
theorem wwr_block {x : jCx} {en : (fwr_block_S ⊕ (jW)) → Option (Outcome × jW)} {t : Nat} {a1 : Int32} (h : hwr_block x en t a1) (W : jW) : jJ x 6 0 [(0, vR t), (1, vI a1)] [] W (fwr_block_0 t a1 W) en := by
  have h0 := h
  obtain ⟨hx, hm, hr, he, k41⟩ := h0
  unfold fwr_block_0
  refine j_runA hx 1 (tb := [(0, .aload_n 0)]) (jtb_ok (by decide +kernel)) (pc' := 1) (lv' := [(0, vR t), (1, vI a1)]) (st' := [vR t]) rfl ?_
  refine j_gd (fun h1 => ?_)
  refine j_getR hx flX14_30 kl900 h1 (by decide) (by decide +kernel) ?_
  refine j_gd (fun h2 => ?_)
  refine j_getR hx flX14_129 kl213 h2 (by decide) (by decide +kernel) ?_
  refine j_gd (fun h3 => ?_)
  refine j_getR hx flX14_133 kl600 h3 (by decide) (by decide +kernel) ?_
  refine j_runA hx 1 (tb := [(10, .iload_n 1)]) (jtb_ok (by decide +kernel)) (pc' := 11) (lv' := [(0, vR t), (1, vI a1)]) (st' := [vI a1, vR (jR W 600 (jR W 213 (jR W 900 t)))]) rfl ?_
  refine j_gd (fun h4 => ?_)
  refine j_iald hx (f := 600) (o := (jR W 213 (jR W 900 t))) kd600 rfl (by decide +kernel) h4 ?_
  refine j_runA hx 1 (tb := [(12, .istore_n 2)]) (jtb_ok (by decide +kernel)) (pc' := 13) (lv' := [(2, vI (jA W 600 (jR W 213 (jR W 900 t)) (ix a1))), (0, vR t), (1, vI a1)]) (st' := []) rfl ?_
  refine j_let (v := (jA W 600 (jR W 213 (jR W 900 t)) (ix a1))) (lv := fun v5 => [(2, vI v5), (0, vR t), (1, vI a1)]) (st := fun _ => []) (fun v5 => ?_)
  refine j_runA hx 1 (tb := [(13, .aload_n 0)]) (jtb_ok (by decide +kernel)) (pc' := 14) (lv' := [(2, vI v5), (0, vR t), (1, vI a1)]) (st' := [vR t]) rfl ?_
  refine j_getR hx flX14_30 kl900 h1 (by decide) (by decide +kernel) ?_
  refine j_runA hx 1 (tb := [(17, .iload_n 1)]) (jtb_ok (by decide +kernel)) (pc' := 18) (lv' := [(2, vI v5), (0, vR t), (1, vI a1)]) (st' := [vI a1, vR (jR W 900 t)]) rfl ?_
  refine j_OI (j_callV (av := [vI a1]) (st := []) hx hr (Or.inl q1811) q1129 q1130 rfl md_fpg_lastWord np_fpg_lastWord (cpg_lastWord (jR W 900 t) a1 W) (by decide) (Nat.le_of_ble_eq_true rfl) h2 (by decide) (by decide +kernel)) (fun q6 _ => ?_)
  refine j_runA hx 2 (tb := [(21, .istore_n 3), (22, .aload_n 0)]) (jtb_ok (by decide +kernel)) (pc' := 23) (lv' := [(3, vI q6), (2, vI v5), (0, vR t), (1, vI a1)]) (st' := [vR t]) rfl ?_
  refine j_getR hx flX14_30 kl900 h1 (by decide) (by decide +kernel) ?_
  refine j_getR hx flX14_68 kl214 h2 (by decide) (by decide +kernel) ?_
  refine j_runA hx 1 (tb := [(29, .iload_n 1)]) (jtb_ok (by decide +kernel)) (pc' := 30) (lv' := [(3, vI q6), (2, vI v5), (0, vR t), (1, vI a1)]) (st' := [vI a1, vR (jR W 214 (jR W 900 t))]) rfl ?_
  refine j_gd (fun h7 => ?_)
  refine j_iald hx (f := 214) (o := (jR W 900 t)) kd214 rfl (by decide +kernel) h7 ?_
  refine j_if_eq hx (off := 7) (tgt := 38) (by decide +kernel) (by decide) (fun _ => ?_) (fun _ => ?_)
  · refine j_runA hx 1 (tb := [(38, .iconst 0)]) (jtb_ok (by decide +kernel)) (pc' := 39) (lv' := [(3, vI q6), (2, vI v5), (0, vR t), (1, vI a1)]) (st' := [vI (kI 0)]) rfl ?_
    refine j_lv (lv' := [(0, vR t), (1, vI a1), (2, vI v5), (3, vI q6)]) ⟨rfl, rfl, rfl, rfl, trivial⟩ ?_
    exact wwr_block_39 h v5 q6 (kI 0) W
  refine j_runA hx 1 (tb := [(34, .iconst 1)]) (jtb_ok (by decide +kernel)) (pc' := 35) (lv' := [(3, vI q6), (2, vI v5), (0, vR t), (1, vI a1)]) (st' := [vI (kI 1)]) rfl ?_
  refine j_goto hx (off := 4) (by decide +kernel) (tgt := 39) (by decide) ?_
  refine j_lv (lv' := [(0, vR t), (1, vI a1), (2, vI v5), (3, vI q6)]) ⟨rfl, rfl, rfl, rfl, trivial⟩ ?_
  exact wwr_block_39 h v5 q6 (kI 1) W
theorem cwr_block (t : Nat) (a1 : Int32) (W : jW) : jM yX14_block cX14_block 6 (Option.none : Option Jvm.ClassFile.FieldType) [] 10 140 [vR t, vI a1] W ((fwr_block t a1 W).bind (fun q => some (.returned none, q))) := by
  refine jM.of (Nat.le_of_ble_eq_true rfl) (fun x hx hm hr => ?_)
  refine j_begin (P := (fun s => (41, [(0, vR t), (1, vI a1), (2, vI s.1), (3, vI s.2.1), (4, vI s.2.2.1)], s.2.2.2))) (fun en he hk => ?_)
  have h : hwr_block x en t a1 := ⟨hx, hm, hr, fun q => he _, fun l2 l3 l4 W => hk (l2, l3, l4, W)⟩
  exact ⟨fun s => wwr_block_41 h s.1 s.2.1 s.2.2.1 s.2.2.2, wwr_block h W⟩
def hwr_emitAll (x : jCx) (en : (fwr_emitAll_S ⊕ (jW)) → Option (Outcome × jW)) (t : Nat) : Prop :=
  jOK x RX14 cX14_emitAll 2 ∧
  jMt x "emitAll" (Option.none : Option Jvm.ClassFile.FieldType) [] ∧
  jRm x 11 157 ∧
  (∀ q : jW, en (.inr q) = some (.returned none, q)) ∧
  (∀ (l1 : Int32) (W : jW), jJ x 2 27 [(0, vR t), (1, vI l1)] [] W (some (.inl (l1, W))) en)
theorem wwr_emitAll_27 {x : jCx} {en : (fwr_emitAll_S ⊕ (jW)) → Option (Outcome × jW)} {t : Nat} (h : hwr_emitAll x en t) (l1 : Int32) (W : jW) : jJ x 2 27 [(0, vR t), (1, vI l1)] [] W (fwr_emitAll_27 t l1 W) en := by
  have h0 := h
  obtain ⟨hx, hm, hr, he, k27⟩ := h0
  unfold fwr_emitAll_27
  refine j_runA hx 2 (tb := [(27, .iload_n 1), (28, .aload_n 0)]) (jtb_ok (by decide +kernel)) (pc' := 29) (lv' := [(0, vR t), (1, vI l1)]) (st' := [vR t, vI l1]) rfl ?_
  refine j_gd (fun h23 => ?_)
  refine j_getI hx flX14_43 kd902 h23 (by decide) (by decide +kernel) ?_
  refine j_icmp_ge hx (off := 19) (tgt := 51) (by decide +kernel) (by decide) (fun _ => ?_) (fun _ => ?_)
  · exact j_vret hx hm (by decide +kernel) (he _)
  refine j_runA hx 2 (tb := [(35, .aload_n 0), (36, .aload_n 0)]) (jtb_ok (by decide +kernel)) (pc' := 37) (lv' := [(0, vR t), (1, vI l1)]) (st' := [vR t, vR t]) rfl ?_
  refine j_getR hx flX14_34 kl901 h23 (by decide) (by decide +kernel) ?_
  refine j_runA hx 1 (tb := [(40, .iload_n 1)]) (jtb_ok (by decide +kernel)) (pc' := 41) (lv' := [(0, vR t), (1, vI l1)]) (st' := [vI l1, vR (jR W 901 t), vR t]) rfl ?_
  refine j_gd (fun h24 => ?_)
  refine j_gd (fun h25 => ?_)
  refine j_iald hx (f := 9003) (o := (jR W 901 t)) kd9003 h24 (by decide +kernel) h25 ?_
  refine j_WV (j_callV (av := [vI (jA W 9003 (jR W 901 t) (ix l1))]) (st := []) hx hr (Or.inl q1828) q1830 qs61 rfl md_fwr_block np_fwr_block (cwr_block t (jA W 9003 (jR W 901 t) (ix l1)) W) (by decide) (Nat.le_of_ble_eq_true rfl) h23 (by decide) (by decide +kernel)) (fun q26 _ => ?_)
  refine j_runA hx 1 (tb := [(45, .iinc 1 1)]) (jtb_ok (by decide +kernel)) (pc' := 48) (lv' := [(1, vI (l1 + (kI 1))), (0, vR t)]) (st' := []) rfl ?_
  refine j_let (v := (l1 + (kI 1))) (lv := fun v28 => [(1, vI v28), (0, vR t)]) (st := fun _ => []) (fun v28 => ?_)
  refine j_goto hx (off := -21) (by decide +kernel) (tgt := 27) (by decide) ?_
  refine j_lv (lv' := [(0, vR t), (1, vI v28)]) ⟨rfl, rfl, trivial⟩ ?_
  exact k27 v28 q26
theorem wwr_emitAll {x : jCx} {en : (fwr_emitAll_S ⊕ (jW)) → Option (Outcome × jW)} {t : Nat} (h : hwr_emitAll x en t) (W : jW) : jJ x 2 0 [(0, vR t)] [] W (fwr_emitAll_0 t W) en := by
  have h0 := h
  obtain ⟨hx, hm, hr, he, k27⟩ := h0
  unfold fwr_emitAll_0
  refine j_runA hx 2 (tb := [(0, .aload_n 0), (1, .iconst 0)]) (jtb_ok (by decide +kernel)) (pc' := 2) (lv' := [(0, vR t)]) (st' := [vI (kI 0), vR t]) rfl ?_
  refine j_gd (fun h1 => ?_)
  refine j_putI hx fwX14_138 wf920 kd920 h1 (by decide) (by decide +kernel) (ni920 _) (fi920 _) ?_
  refine j_ltw rfl (fun W2 hc3 => ?_)
  have h4 : jC W2 t = 9 := (congrFun hc3 _).trans h1
  refine j_runA hx 2 (tb := [(5, .aload_n 0), (6, .iconst 0)]) (jtb_ok (by decide +kernel)) (pc' := 7) (lv' := [(0, vR t)]) (st' := [vI (kI 0), vR t]) rfl ?_
  refine j_putI hx fwX14_152 wf915 kd915 h4 (by decide) (by decide +kernel) (ni915 _) (fi915 _) ?_
  refine j_ltw rfl (fun W6 hc7 => ?_)
  have h8 : jC W6 t = 9 := (congrFun hc7 _).trans h4
  refine j_runA hx 2 (tb := [(10, .aload_n 0), (11, .iconst 0)]) (jtb_ok (by decide +kernel)) (pc' := 12) (lv' := [(0, vR t)]) (st' := [vI (kI 0), vR t]) rfl ?_
  refine j_putI hx fwX14_155 wf916 kd916 h8 (by decide) (by decide +kernel) (ni916 _) (fi916 _) ?_
  refine j_ltw rfl (fun W10 hc11 => ?_)
  have h12 : jC W10 t = 9 := (congrFun hc11 _).trans h8
  refine j_runA hx 2 (tb := [(15, .aload_n 0), (16, .iconst 0)]) (jtb_ok (by decide +kernel)) (pc' := 17) (lv' := [(0, vR t)]) (st' := [vI (kI 0), vR t]) rfl ?_
  refine j_putI hx fwX14_158 wf917 kd917 h12 (by decide) (by decide +kernel) (ni917 _) (fi917 _) ?_
  refine j_ltw rfl (fun W14 hc15 => ?_)
  have h16 : jC W14 t = 9 := (congrFun hc15 _).trans h12
  refine j_runA hx 2 (tb := [(20, .aload_n 0), (21, .iconst 0)]) (jtb_ok (by decide +kernel)) (pc' := 22) (lv' := [(0, vR t)]) (st' := [vI (kI 0), vR t]) rfl ?_
  refine j_putI hx fwX14_161 wf918 kd918 h16 (by decide) (by decide +kernel) (ni918 _) (fi918 _) ?_
  refine j_ltw rfl (fun W18 hc19 => ?_)
  have h20 : jC W18 t = 9 := (congrFun hc19 _).trans h16
  refine j_runA hx 2 (tb := [(25, .iconst 0), (26, .istore_n 1)]) (jtb_ok (by decide +kernel)) (pc' := 27) (lv' := [(1, vI (kI 0)), (0, vR t)]) (st' := []) rfl ?_
  refine j_lv (lv' := [(0, vR t), (1, vI (kI 0))]) ⟨rfl, rfl, trivial⟩ ?_
  exact k27 (kI 0) W18
theorem cwr_emitAll (t : Nat) (W : jW) : jM yX14_emitAll cX14_emitAll 2 (Option.none : Option Jvm.ClassFile.FieldType) [] 11 157 [vR t] W ((fwr_emitAll t W).bind (fun q => some (.returned none, q))) := by
  refine jM.of (Nat.le_of_ble_eq_true rfl) (fun x hx hm hr => ?_)
  refine j_begin (P := (fun s => (27, [(0, vR t), (1, vI s.1)], s.2))) (fun en he hk => ?_)
  have h : hwr_emitAll x en t := ⟨hx, hm, hr, fun q => he _, fun l1 W => hk (l1, W)⟩
  exact ⟨fun s => wwr_emitAll_27 h s.1 s.2, wwr_emitAll h W⟩
def hwr_set (x : jCx) (en : (fwr_set_S ⊕ (jW)) → Option (Outcome × jW)) (t : Nat) (a1 : Int32) (a2 : Int64) (a4 : Int32) : Prop :=
  jOK x RX14 cX14_set 6 ∧
  jMt x "set" (Option.none : Option Jvm.ClassFile.FieldType) [] ∧
  jRm x 0 0 ∧
  (∀ q : jW, en (.inr q) = some (.returned none, q)) ∧
  (∀ (l5 : Int32) (W : jW), jJ x 6 3 [(0, vR t), (1, vI a1), (2, vL a2), (4, vI a4), (5, vI l5)] [] W (some (.inl (l5, W))) en)
theorem wwr_set_3 {x : jCx} {en : (fwr_set_S ⊕ (jW)) → Option (Outcome × jW)} {t : Nat} {a1 : Int32} {a2 : Int64} {a4 : Int32} (h : hwr_set x en t a1 a2 a4) (l5 : Int32) (W : jW) : jJ x 6 3 [(0, vR t), (1, vI a1), (2, vL a2), (4, vI a4), (5, vI l5)] [] W (fwr_set_3 t a1 a2 a4 l5 W) en := by
  have h0 := h
  obtain ⟨hx, hm, hr, he, k3⟩ := h0
  unfold fwr_set_3
  refine j_runA hx 2 (tb := [(3, .iload 5), (5, .iload 4)]) (jtb_ok (by decide +kernel)) (pc' := 7) (lv' := [(0, vR t), (1, vI a1), (2, vL a2), (4, vI a4), (5, vI l5)]) (st' := [vI a4, vI l5]) rfl ?_
  refine j_icmp_ge hx (off := 27) (tgt := 34) (by decide +kernel) (by decide) (fun _ => ?_) (fun _ => ?_)
  · exact j_vret hx hm (by decide +kernel) (he _)
  refine j_runA hx 1 (tb := [(10, .aload_n 0)]) (jtb_ok (by decide +kernel)) (pc' := 11) (lv' := [(0, vR t), (1, vI a1), (2, vL a2), (4, vI a4), (5, vI l5)]) (st' := [vR t]) rfl ?_
  refine j_gd (fun h2 => ?_)
  refine j_getR hx flX14_26 kl913 h2 (by decide) (by decide +kernel) ?_
  refine j_runA hx 10 (tb := [(14, .iload_n 1), (15, .iload 5), (17, .iadd), (18, .lload_n 2), (19, .bipush 8), (21, .iload 5), (23, .imul), (24, .lshr), (25, .l2i), (26, .i2b)]) (jtb_ok (by decide +kernel)) (pc' := 27) (lv' := [(0, vR t), (1, vI a1), (2, vL a2), (4, vI a4), (5, vI l5)]) (st' := [vI (i2b ((lxr a2 ((kI 8) * l5)).toInt32)), vI (a1 + l5), vR (jR W 913 t)]) rfl ?_
  refine j_gd (fun h3 => ?_)
  refine j_bast hx (f := 913) (o := t) kd913 rfl (by decide +kernel) h3 ?_
  refine j_ltw rfl (fun W4 hc5 => ?_)
  have h6 : jC W4 t = 9 := (congrFun hc5 _).trans h2
  refine j_runA hx 1 (tb := [(28, .iinc 5 1)]) (jtb_ok (by decide +kernel)) (pc' := 31) (lv' := [(5, vI (l5 + (kI 1))), (0, vR t), (1, vI a1), (2, vL a2), (4, vI a4)]) (st' := []) rfl ?_
  refine j_let (v := (l5 + (kI 1))) (lv := fun v8 => [(5, vI v8), (0, vR t), (1, vI a1), (2, vL a2), (4, vI a4)]) (st := fun _ => []) (fun v8 => ?_)
  refine j_goto hx (off := -28) (by decide +kernel) (tgt := 3) (by decide) ?_
  refine j_lv (lv' := [(0, vR t), (1, vI a1), (2, vL a2), (4, vI a4), (5, vI v8)]) ⟨rfl, rfl, rfl, rfl, rfl, trivial⟩ ?_
  exact k3 v8 W4
theorem wwr_set {x : jCx} {en : (fwr_set_S ⊕ (jW)) → Option (Outcome × jW)} {t : Nat} {a1 : Int32} {a2 : Int64} {a4 : Int32} (h : hwr_set x en t a1 a2 a4) (W : jW) : jJ x 6 0 [(0, vR t), (1, vI a1), (2, vL a2), (4, vI a4)] [] W (fwr_set_0 t a1 a2 a4 W) en := by
  have h0 := h
  obtain ⟨hx, hm, hr, he, k3⟩ := h0
  unfold fwr_set_0
  refine j_runA hx 2 (tb := [(0, .iconst 0), (1, .istore 5)]) (jtb_ok (by decide +kernel)) (pc' := 3) (lv' := [(5, vI (kI 0)), (0, vR t), (1, vI a1), (2, vL a2), (4, vI a4)]) (st' := []) rfl ?_
  refine j_lv (lv' := [(0, vR t), (1, vI a1), (2, vL a2), (4, vI a4), (5, vI (kI 0))]) ⟨rfl, rfl, rfl, rfl, rfl, trivial⟩ ?_
  exact k3 (kI 0) W
theorem cwr_set (t : Nat) (a1 : Int32) (a2 : Int64) (a4 : Int32) (W : jW) : jM yX14_set cX14_set 6 (Option.none : Option Jvm.ClassFile.FieldType) [] 0 0 [vR t, vI a1, vL a2, vI a4] W ((fwr_set t a1 a2 a4 W).bind (fun q => some (.returned none, q))) := by
  refine jM.of (Nat.le_of_ble_eq_true rfl) (fun x hx hm hr => ?_)
  refine j_begin (P := (fun s => (3, [(0, vR t), (1, vI a1), (2, vL a2), (4, vI a4), (5, vI s.1)], s.2))) (fun en he hk => ?_)
  have h : hwr_set x en t a1 a2 a4 := ⟨hx, hm, hr, fun q => he _, fun l5 W => hk (l5, W)⟩
  exact ⟨fun s => wwr_set_3 h s.1 s.2, wwr_set h W⟩
def hsh_isTextSymbol (x : jCx) (en : (Int32) → Option (Outcome × jW)) (t : Nat) (a1 : Int32) (W : jW) : Prop :=
  jOK x RX3 cX3_isTextSymbol 2 ∧
  jMt x "isTextSymbol" (Option.some Jvm.ClassFile.FieldType.boolean) [] ∧
  jRm x 4 54 ∧
  (∀ q : Int32, en q = some (.returned (some (.int q)), W))
theorem wsh_isTextSymbol {x : jCx} {en : (Int32) → Option (Outcome × jW)} {W : jW} {t : Nat} {a1 : Int32} (h : hsh_isTextSymbol x en t a1 W) : jJ x 2 0 [(0, vR t), (1, vI a1)] [] W (fsh_isTextSymbol t a1 W) en := by
  have h0 := h
  obtain ⟨hx, hm, hr, he⟩ := h0
  unfold fsh_isTextSymbol
  refine j_runA hx 1 (tb := [(0, .aload_n 0)]) (jtb_ok (by decide +kernel)) (pc' := 1) (lv' := [(0, vR t), (1, vI a1)]) (st' := [vR t]) rfl ?_
  refine j_gd (fun h1 => ?_)
  refine j_getR hx flX3_57 kl401 h1 (by decide) (by decide +kernel) ?_
  refine j_runA hx 2 (tb := [(4, .aload_n 0), (5, .iload_n 1)]) (jtb_ok (by decide +kernel)) (pc' := 6) (lv' := [(0, vR t), (1, vI a1)]) (st' := [vI a1, vR t, vR (jR W 401 t)]) rfl ?_
  refine j_OI (j_callV (av := [vI a1]) (st := [vR (jR W 401 t)]) hx hr (Or.inl q879) q880 q881 rfl md_fsh_symbolAt np_fsh_symbolAt (csh_symbolAt t a1 W) (by decide) (Nat.le_of_ble_eq_true rfl) h1 (by decide) (by decide +kernel)) (fun q2 _ => ?_)
  refine j_runA hx 2 (tb := [(9, .bipush 6), (11, .iadd)]) (jtb_ok (by decide +kernel)) (pc' := 12) (lv' := [(0, vR t), (1, vI a1)]) (st' := [vI (q2 + (kI 6)), vR (jR W 401 t)]) rfl ?_
  refine j_gd (fun h3 => ?_)
  refine j_OI (h3.elim (fun hh => j_callU (av := [vI (q2 + (kI 6))]) (st := []) hx hr q807 q775 (hde_fsr_half) (by decide) q774 q776 rfl md_fsr_half np_fsr_half (csr_half (jR W 401 t) (q2 + (kI 6)) W) (by decide) (Nat.le_of_ble_eq_true rfl) hh (by decide) (by decide +kernel)) (fun hh => j_callU (av := [vI (q2 + (kI 6))]) (st := []) hx hr q807 q775 (hde_fsr_half) (by decide) q774 q777 rfl md_fsr_half np_fsr_half (csr_half (jR W 401 t) (q2 + (kI 6)) W) (by decide) (Nat.le_of_ble_eq_true rfl) hh (by decide) (by decide +kernel))) (fun q4 _ => ?_)
  refine j_runA hx 1 (tb := [(15, .aload_n 0)]) (jtb_ok (by decide +kernel)) (pc' := 16) (lv' := [(0, vR t), (1, vI a1)]) (st' := [vR t, vI q4]) rfl ?_
  refine j_getI hx flX3_167 kd418 h1 (by decide) (by decide +kernel) ?_
  refine j_icmp_ne hx (off := 7) (tgt := 26) (by decide +kernel) (by decide) (fun _ => ?_) (fun _ => ?_)
  · refine j_runA hx 1 (tb := [(26, .iconst 0)]) (jtb_ok (by decide +kernel)) (pc' := 27) (lv' := [(0, vR t), (1, vI a1)]) (st' := [vI (kI 0)]) rfl ?_
    exact j_iret hx hm (by decide +kernel) jz0n (he _)
  refine j_runA hx 1 (tb := [(22, .iconst 1)]) (jtb_ok (by decide +kernel)) (pc' := 23) (lv' := [(0, vR t), (1, vI a1)]) (st' := [vI (kI 1)]) rfl ?_
  refine j_goto hx (off := 4) (by decide +kernel) (tgt := 27) (by decide) ?_
  exact j_iret hx hm (by decide +kernel) jz1n (he _)
theorem csh_isTextSymbol (t : Nat) (a1 : Int32) (W : jW) : jM yX3_isTextSymbol cX3_isTextSymbol 2 (Option.some Jvm.ClassFile.FieldType.boolean) [] 4 54 [vR t, vI a1] W ((fsh_isTextSymbol t a1 W).bind (fun q => some (.returned (some (.int q)), W))) := 
  jM.of (Nat.le_of_ble_eq_true rfl) (fun x hx hm hr => wsh_isTextSymbol ⟨hx, hm, hr, fun _ => rfl⟩)
def hwr_newOf (x : jCx) (en : (Int64) → Option (Outcome × jW)) (t : Nat) (a1 : Int64) (W : jW) : Prop :=
  jOK x RX14 cX14_newOf 3 ∧
  jMt x "newOf" (Option.some Jvm.ClassFile.FieldType.long) [] ∧
  jRm x 4 52 ∧
  (∀ q : Int64, en q = some (.returned (some (.long q)), W))
theorem wwr_newOf {x : jCx} {en : (Int64) → Option (Outcome × jW)} {W : jW} {t : Nat} {a1 : Int64} (h : hwr_newOf x en t a1 W) : jJ x 3 0 [(0, vR t), (1, vL a1)] [] W (fwr_newOf t a1 W) en := by
  have h0 := h
  obtain ⟨hx, hm, hr, he⟩ := h0
  unfold fwr_newOf
  refine j_runA hx 2 (tb := [(0, .lload_n 1), (1, .aload_n 0)]) (jtb_ok (by decide +kernel)) (pc' := 2) (lv' := [(0, vR t), (1, vL a1)]) (st' := [vR t, vL a1]) rfl ?_
  refine j_gd (fun h1 => ?_)
  refine j_getR hx flX14_30 kl900 h1 (by decide) (by decide +kernel) ?_
  refine j_gd (fun h2 => ?_)
  refine j_getR hx flX14_181 kl201 h2 (by decide) (by decide +kernel) ?_
  refine j_gd (fun h3 => ?_)
  refine j_OL (j_callV (av := []) (st := [vL a1]) hx hr (Or.inl q1903) q897 q898 rfl md_fsh_end np_fsh_end (csh_end (jR W 201 (jR W 900 t)) W) (by decide) (Nat.le_of_ble_eq_true rfl) h3 (by decide) (by decide +kernel)) (fun q4 _ => ?_)
  refine j_lcmp_ne hx (off := 20) (tgt := 32) (by decide +kernel) (by decide +kernel) (by decide) (fun _ => ?_) (fun _ => ?_)
  · refine j_runA hx 2 (tb := [(32, .aload_n 0), (33, .aload_n 0)]) (jtb_ok (by decide +kernel)) (pc' := 34) (lv' := [(0, vR t), (1, vL a1)]) (st' := [vR t, vR t]) rfl ?_
    refine j_getR hx flX14_30 kl900 h1 (by decide) (by decide +kernel) ?_
    refine j_runA hx 1 (tb := [(37, .lload_n 1)]) (jtb_ok (by decide +kernel)) (pc' := 38) (lv' := [(0, vR t), (1, vL a1)]) (st' := [vL a1, vR (jR W 900 t), vR t]) rfl ?_
    refine j_OI (j_callV (av := [vL a1]) (st := [vR t]) hx hr (Or.inl q1885) q1036 q1037 rfl md_fpg_wordAt np_fpg_wordAt (cpg_wordAt (jR W 900 t) a1 W) (by decide) (Nat.le_of_ble_eq_true rfl) h2 (by decide) (by decide +kernel)) (fun q5 _ => ?_)
    refine j_OL (j_callV (av := [vI q5]) (st := []) hx hr (Or.inl q1838) q1839 q1840 rfl md_fwr_movedWord np_fwr_movedWord (cwr_movedWord t q5 W) (by decide) (Nat.le_of_ble_eq_true rfl) h1 (by decide) (by decide +kernel)) (fun q6 _ => ?_)
    exact j_lret hx hm (by decide +kernel) (he _)
  refine j_runA hx 1 (tb := [(15, .aload_n 0)]) (jtb_ok (by decide +kernel)) (pc' := 16) (lv' := [(0, vR t), (1, vL a1)]) (st' := [vR t]) rfl ?_
  refine j_getR hx flX14_30 kl900 h1 (by decide) (by decide +kernel) ?_
  refine j_runA hx 1 (tb := [(19, .iconst 0)]) (jtb_ok (by decide +kernel)) (pc' := 20) (lv' := [(0, vR t), (1, vL a1)]) (st' := [vI (kI 0), vR (jR W 900 t)]) rfl ?_
  refine j_OL (j_callV (av := [vI (kI 0)]) (st := []) hx hr (Or.inl q1788) q1609 q1610 rfl md_fpg_addressOf np_fpg_addressOf (cpg_addressOf (jR W 900 t) (kI 0) W) (by decide) (Nat.le_of_ble_eq_true rfl) h2 (by decide) (by decide +kernel)) (fun q7 _ => ?_)
  refine j_runA hx 1 (tb := [(23, .aload_n 0)]) (jtb_ok (by decide +kernel)) (pc' := 24) (lv' := [(0, vR t), (1, vL a1)]) (st' := [vR t, vL q7]) rfl ?_
  refine j_getI hx flX14_120 kd912 h1 (by decide) (by decide +kernel) ?_
  refine j_runA hx 2 (tb := [(27, .i2l), (28, .ladd)]) (jtb_ok (by decide +kernel)) (pc' := 29) (lv' := [(0, vR t), (1, vL a1)]) (st' := [vL (q7 + ((jI W 912 t).toInt64))]) rfl ?_
  refine j_goto hx (off := 15) (by decide +kernel) (tgt := 44) (by decide) ?_
  exact j_lret hx hm (by decide +kernel) (he _)
theorem cwr_newOf (t : Nat) (a1 : Int64) (W : jW) : jM yX14_newOf cX14_newOf 3 (Option.some Jvm.ClassFile.FieldType.long) [] 4 52 [vR t, vL a1] W ((fwr_newOf t a1 W).bind (fun q => some (.returned (some (.long q)), W))) := 
  jM.of (Nat.le_of_ble_eq_true rfl) (fun x hx hm hr => wwr_newOf ⟨hx, hm, hr, fun _ => rfl⟩)
def hwr_isCold (x : jCx) (en : (Int32) → Option (Outcome × jW)) (t : Nat) (a1 : Int32) (W : jW) : Prop :=
  jOK x RX14 cX14_isCold 2 ∧
  jMt x "isCold" (Option.some Jvm.ClassFile.FieldType.boolean) [] ∧
  jRm x 0 0 ∧
  (∀ q : Int32, en q = some (.returned (some (.int q)), W))
theorem wwr_isCold_28 {x : jCx} {en : (Int32) → Option (Outcome × jW)} {W : jW} {t : Nat} {a1 : Int32} (h : hwr_isCold x en t a1 W) : jJ x 2 28 [(0, vR t), (1, vI a1)] [] W (fwr_isCold_28 t a1 W) en := by
  have h0 := h
  obtain ⟨hx, hm, hr, he⟩ := h0
  unfold fwr_isCold_28
  refine j_runA hx 1 (tb := [(28, .iconst 0)]) (jtb_ok (by decide +kernel)) (pc' := 29) (lv' := [(0, vR t), (1, vI a1)]) (st' := [vI (kI 0)]) rfl ?_
  exact j_iret hx hm (by decide +kernel) jz0n (he _)
theorem wwr_isCold {x : jCx} {en : (Int32) → Option (Outcome × jW)} {W : jW} {t : Nat} {a1 : Int32} (h : hwr_isCold x en t a1 W) : jJ x 2 0 [(0, vR t), (1, vI a1)] [] W (fwr_isCold t a1 W) en := by
  have h0 := h
  obtain ⟨hx, hm, hr, he⟩ := h0
  unfold fwr_isCold
  refine j_runA hx 1 (tb := [(0, .aload_n 0)]) (jtb_ok (by decide +kernel)) (pc' := 1) (lv' := [(0, vR t), (1, vI a1)]) (st' := [vR t]) rfl ?_
  refine j_gd (fun h1 => ?_)
  refine j_getI hx flX14_46 kd903 h1 (by decide) (by decide +kernel) ?_
  refine j_runA hx 1 (tb := [(4, .aload_n 0)]) (jtb_ok (by decide +kernel)) (pc' := 5) (lv' := [(0, vR t), (1, vI a1)]) (st' := [vR t, vI (jI W 903 t)]) rfl ?_
  refine j_getI hx flX14_43 kd902 h1 (by decide) (by decide +kernel) ?_
  refine j_icmp_ge hx (off := 20) (tgt := 28) (by decide +kernel) (by decide) (fun _ => ?_) (fun _ => ?_)
  · exact wwr_isCold_28 h
  refine j_runA hx 1 (tb := [(11, .aload_n 0)]) (jtb_ok (by decide +kernel)) (pc' := 12) (lv' := [(0, vR t), (1, vI a1)]) (st' := [vR t]) rfl ?_
  refine j_getR hx flX14_9 kl905 h1 (by decide) (by decide +kernel) ?_
  refine j_runA hx 1 (tb := [(15, .iload_n 1)]) (jtb_ok (by decide +kernel)) (pc' := 16) (lv' := [(0, vR t), (1, vI a1)]) (st' := [vI a1, vR (jR W 905 t)]) rfl ?_
  refine j_gd (fun h2 => ?_)
  refine j_iald hx (f := 905) (o := t) kd905 rfl (by decide +kernel) h2 ?_
  refine j_runA hx 1 (tb := [(17, .aload_n 0)]) (jtb_ok (by decide +kernel)) (pc' := 18) (lv' := [(0, vR t), (1, vI a1)]) (st' := [vR t, vI (jA W 905 t (ix a1))]) rfl ?_
  refine j_getI hx flX14_114 kd911 h1 (by decide) (by decide +kernel) ?_
  refine j_icmp_lt hx (off := 7) (tgt := 28) (by decide +kernel) (by decide) (fun _ => ?_) (fun _ => ?_)
  · exact wwr_isCold_28 h
  refine j_runA hx 1 (tb := [(24, .iconst 1)]) (jtb_ok (by decide +kernel)) (pc' := 25) (lv' := [(0, vR t), (1, vI a1)]) (st' := [vI (kI 1)]) rfl ?_
  refine j_goto hx (off := 4) (by decide +kernel) (tgt := 29) (by decide) ?_
  exact j_iret hx hm (by decide +kernel) jz1n (he _)
theorem cwr_isCold (t : Nat) (a1 : Int32) (W : jW) : jM yX14_isCold cX14_isCold 2 (Option.some Jvm.ClassFile.FieldType.boolean) [] 0 0 [vR t, vI a1] W ((fwr_isCold t a1 W).bind (fun q => some (.returned (some (.int q)), W))) := 
  jM.of (Nat.le_of_ble_eq_true rfl) (fun x hx hm hr => wwr_isCold ⟨hx, hm, hr, fun _ => rfl⟩)
def hwr_partOf (x : jCx) (en : (fwr_partOf_S ⊕ (Int32)) → Option (Outcome × jW)) (t : Nat) (a1 : Int32) (W : jW) : Prop :=
  jOK x RX14 cX14_partOf 6 ∧
  jMt x "partOf" (Option.some Jvm.ClassFile.FieldType.int) [] ∧
  jRm x 3 42 ∧
  (∀ q : Int32, en (.inr q) = some (.returned (some (.int q)), W)) ∧
  (∀ (l2 : Int32) (l3 : Int32) (l4 : Int32) (l5 : Int32), jJ x 6 21 [(0, vR t), (1, vI a1), (2, vI l2), (3, vI l3), (4, vI l4), (5, vI l5)] [] W (some (.inl (l2, l3, l4, l5))) en)
theorem wwr_partOf_57 {x : jCx} {en : (fwr_partOf_S ⊕ (Int32)) → Option (Outcome × jW)} {W : jW} {t : Nat} {a1 : Int32} (h : hwr_partOf x en t a1 W) (l2 : Int32) (l3 : Int32) (l4 : Int32) (l5 : Int32) : jJ x 6 57 [(0, vR t), (1, vI a1), (2, vI l2), (3, vI l3), (4, vI l4), (5, vI l5)] [] W (fwr_partOf_57 t a1 l2 l3 l4 l5 W) en := by
  have h0 := h
  obtain ⟨hx, hm, hr, he, k21⟩ := h0
  unfold fwr_partOf_57
  refine j_runA hx 1 (tb := [(57, .iinc 5 1)]) (jtb_ok (by decide +kernel)) (pc' := 60) (lv' := [(5, vI (l5 + (kI 1))), (0, vR t), (1, vI a1), (2, vI l2), (3, vI l3), (4, vI l4)]) (st' := []) rfl ?_
  refine j_let (v := (l5 + (kI 1))) (lv := fun v13 => [(5, vI v13), (0, vR t), (1, vI a1), (2, vI l2), (3, vI l3), (4, vI l4)]) (st := fun _ => []) (fun v13 => ?_)
  refine j_goto hx (off := -39) (by decide +kernel) (tgt := 21) (by decide) ?_
  refine j_lv (lv' := [(0, vR t), (1, vI a1), (2, vI l2), (3, vI l3), (4, vI l4), (5, vI v13)]) ⟨rfl, rfl, rfl, rfl, rfl, rfl, trivial⟩ ?_
  exact k21 l2 l3 l4 v13
theorem wwr_partOf_21 {x : jCx} {en : (fwr_partOf_S ⊕ (Int32)) → Option (Outcome × jW)} {W : jW} {t : Nat} {a1 : Int32} (h : hwr_partOf x en t a1 W) (l2 : Int32) (l3 : Int32) (l4 : Int32) (l5 : Int32) : jJ x 6 21 [(0, vR t), (1, vI a1), (2, vI l2), (3, vI l3), (4, vI l4), (5, vI l5)] [] W (fwr_partOf_21 t a1 l2 l3 l4 l5 W) en := by
  have h0 := h
  obtain ⟨hx, hm, hr, he, k21⟩ := h0
  unfold fwr_partOf_21
  refine j_runA hx 3 (tb := [(21, .iload 5), (23, .iload_n 2), (24, .aload_n 0)]) (jtb_ok (by decide +kernel)) (pc' := 25) (lv' := [(0, vR t), (1, vI a1), (2, vI l2), (3, vI l3), (4, vI l4), (5, vI l5)]) (st' := [vR t, vI l2, vI l5]) rfl ?_
  refine j_gd (fun h6 => ?_)
  refine j_getR hx flX14_30 kl900 h6 (by decide) (by decide +kernel) ?_
  refine j_runA hx 1 (tb := [(28, .iload_n 1)]) (jtb_ok (by decide +kernel)) (pc' := 29) (lv' := [(0, vR t), (1, vI a1), (2, vI l2), (3, vI l3), (4, vI l4), (5, vI l5)]) (st' := [vI a1, vR (jR W 900 t), vI l2, vI l5]) rfl ?_
  refine j_gd (fun h7 => ?_)
  refine j_OI (j_callV (av := [vI a1]) (st := [vI l2, vI l5]) hx hr (Or.inl q1914) q1731 q1732 rfl md_fpg_blockCount np_fpg_blockCount (cpg_blockCount (jR W 900 t) a1 W) (by decide) (Nat.le_of_ble_eq_true rfl) h7 (by decide) (by decide +kernel)) (fun q8 _ => ?_)
  refine j_runA hx 1 (tb := [(32, .iadd)]) (jtb_ok (by decide +kernel)) (pc' := 33) (lv' := [(0, vR t), (1, vI a1), (2, vI l2), (3, vI l3), (4, vI l4), (5, vI l5)]) (st' := [vI (l2 + q8), vI l5]) rfl ?_
  refine j_icmp_ge hx (off := 30) (tgt := 63) (by decide +kernel) (by decide) (fun _ => ?_) (fun _ => ?_)
  · refine j_runA hx 1 (tb := [(63, .iload 4)]) (jtb_ok (by decide +kernel)) (pc' := 65) (lv' := [(0, vR t), (1, vI a1), (2, vI l2), (3, vI l3), (4, vI l4), (5, vI l5)]) (st' := [vI l4]) rfl ?_
    exact j_iret hx hm (by decide +kernel) rfl (he _)
  refine j_runA hx 2 (tb := [(36, .aload_n 0), (37, .iload 5)]) (jtb_ok (by decide +kernel)) (pc' := 39) (lv' := [(0, vR t), (1, vI a1), (2, vI l2), (3, vI l3), (4, vI l4), (5, vI l5)]) (st' := [vI l5, vR t]) rfl ?_
  refine j_OI (j_callV (av := [vI l5]) (st := []) hx hr (Or.inl q1910) q1912 qs70 rfl md_fwr_isCold np_fwr_isCold (cwr_isCold t l5 W) (by decide) (Nat.le_of_ble_eq_true rfl) h6 (by decide) (by decide +kernel)) (fun q9 _ => ?_)
  refine j_runA hx 1 (tb := [(42, .iload_n 3)]) (jtb_ok (by decide +kernel)) (pc' := 43) (lv' := [(0, vR t), (1, vI a1), (2, vI l2), (3, vI l3), (4, vI l4), (5, vI l5)]) (st' := [vI l3, vI q9]) rfl ?_
  refine j_icmp_ne hx (off := 14) (tgt := 57) (by decide +kernel) (by decide) (fun _ => ?_) (fun _ => ?_)
  · exact wwr_partOf_57 h l2 l3 l4 l5
  refine j_runA hx 3 (tb := [(46, .iload 4), (48, .aload_n 0), (49, .iload 5)]) (jtb_ok (by decide +kernel)) (pc' := 51) (lv' := [(0, vR t), (1, vI a1), (2, vI l2), (3, vI l3), (4, vI l4), (5, vI l5)]) (st' := [vI l5, vR t, vI l4]) rfl ?_
  refine j_OI (j_callV (av := [vI l5]) (st := [vI l4]) hx hr (Or.inl q1789) q1791 qs53 rfl md_fwr_sizeOf np_fwr_sizeOf (cwr_sizeOf t l5 W) (by decide) (Nat.le_of_ble_eq_true rfl) h6 (by decide) (by decide +kernel)) (fun q10 _ => ?_)
  refine j_runA hx 2 (tb := [(54, .iadd), (55, .istore 4)]) (jtb_ok (by decide +kernel)) (pc' := 57) (lv' := [(4, vI (l4 + q10)), (0, vR t), (1, vI a1), (2, vI l2), (3, vI l3), (5, vI l5)]) (st' := []) rfl ?_
  refine j_let (v := (l4 + q10)) (lv := fun v11 => [(4, vI v11), (0, vR t), (1, vI a1), (2, vI l2), (3, vI l3), (5, vI l5)]) (st := fun _ => []) (fun v11 => ?_)
  refine j_lv (lv' := [(0, vR t), (1, vI a1), (2, vI l2), (3, vI l3), (4, vI v11), (5, vI l5)]) ⟨rfl, rfl, rfl, rfl, rfl, rfl, trivial⟩ ?_
  exact wwr_partOf_57 h l2 l3 v11 l5
theorem wwr_partOf {x : jCx} {en : (fwr_partOf_S ⊕ (Int32)) → Option (Outcome × jW)} {W : jW} {t : Nat} {a1 : Int32} (h : hwr_partOf x en t a1 W) : jJ x 6 0 [(0, vR t), (1, vI a1)] [] W (fwr_partOf_0 t a1 W) en := by
  have h0 := h
  obtain ⟨hx, hm, hr, he, k21⟩ := h0
  unfold fwr_partOf_0
  refine j_runA hx 1 (tb := [(0, .aload_n 0)]) (jtb_ok (by decide +kernel)) (pc' := 1) (lv' := [(0, vR t), (1, vI a1)]) (st' := [vR t]) rfl ?_
  refine j_gd (fun h1 => ?_)
  refine j_getR hx flX14_30 kl900 h1 (by decide) (by decide +kernel) ?_
  refine j_runA hx 1 (tb := [(4, .iload_n 1)]) (jtb_ok (by decide +kernel)) (pc' := 5) (lv' := [(0, vR t), (1, vI a1)]) (st' := [vI a1, vR (jR W 900 t)]) rfl ?_
  refine j_gd (fun h2 => ?_)
  refine j_OI (j_callV (av := [vI a1]) (st := []) hx hr (Or.inl q1909) q1604 q1605 rfl md_fpg_firstBlock np_fpg_firstBlock (cpg_firstBlock (jR W 900 t) a1 W) (by decide) (Nat.le_of_ble_eq_true rfl) h2 (by decide) (by decide +kernel)) (fun q3 _ => ?_)
  refine j_runA hx 3 (tb := [(8, .istore_n 2), (9, .aload_n 0), (10, .iload_n 2)]) (jtb_ok (by decide +kernel)) (pc' := 11) (lv' := [(2, vI q3), (0, vR t), (1, vI a1)]) (st' := [vI q3, vR t]) rfl ?_
  refine j_OI (j_callV (av := [vI q3]) (st := []) hx hr (Or.inl q1910) q1912 qs70 rfl md_fwr_isCold np_fwr_isCold (cwr_isCold t q3 W) (by decide) (Nat.le_of_ble_eq_true rfl) h1 (by decide) (by decide +kernel)) (fun q4 _ => ?_)
  refine j_runA hx 5 (tb := [(14, .istore_n 3), (15, .iconst 0), (16, .istore 4), (18, .iload_n 2), (19, .istore 5)]) (jtb_ok (by decide +kernel)) (pc' := 21) (lv' := [(5, vI q3), (4, vI (kI 0)), (3, vI q4), (2, vI q3), (0, vR t), (1, vI a1)]) (st' := []) rfl ?_
  refine j_lv (lv' := [(0, vR t), (1, vI a1), (2, vI q3), (3, vI q4), (4, vI (kI 0)), (5, vI q3)]) ⟨rfl, rfl, rfl, rfl, rfl, rfl, trivial⟩ ?_
  exact k21 q3 q4 (kI 0) q3
theorem cwr_partOf (t : Nat) (a1 : Int32) (W : jW) : jM yX14_partOf cX14_partOf 6 (Option.some Jvm.ClassFile.FieldType.int) [] 3 42 [vR t, vI a1] W ((fwr_partOf t a1 W).bind (fun q => some (.returned (some (.int q)), W))) := by
  refine jM.of (Nat.le_of_ble_eq_true rfl) (fun x hx hm hr => ?_)
  refine j_begin (P := (fun s => (21, [(0, vR t), (1, vI a1), (2, vI s.1), (3, vI s.2.1), (4, vI s.2.2.1), (5, vI s.2.2.2)], W))) (fun en he hk => ?_)
  have h : hwr_partOf x en t a1 W := ⟨hx, hm, hr, fun q => he _, fun l2 l3 l4 l5 => hk (l2, l3, l4, l5)⟩
  exact ⟨fun s => wwr_partOf_21 h s.1 s.2.1 s.2.2.1 s.2.2.2, wwr_partOf h⟩
def hwr_fix (x : jCx) (en : (fwr_fix_S ⊕ (jW)) → Option (Outcome × jW)) (t : Nat) (a1 : Int32) (a2 : Int32) : Prop :=
  jOK x RX14 cX14_fix 12 ∧
  jMt x "fix" (Option.none : Option Jvm.ClassFile.FieldType) [] ∧
  jRm x 8 110 ∧
  (∀ q : jW, en (.inr q) = some (.returned none, q)) ∧
  (∀ (l11 : Int32) (W : jW), jJ x 12 166 [(0, vR t), (1, vI a1), (2, vI a2), (11, vI l11)] [] W (some (.inl (l11, W))) en)
theorem wwr_fix_236 {x : jCx} {en : (fwr_fix_S ⊕ (jW)) → Option (Outcome × jW)} {t : Nat} {a1 : Int32} {a2 : Int32} (h : hwr_fix x en t a1 a2) (l5 : Int64) (l10 : Int64) (W : jW) : jJ x 12 236 [(0, vR t), (1, vI a1), (2, vI a2), (5, vL l5), (10, vL l10)] [] W (fwr_fix_236 t a1 a2 l5 l10 W) en := by
  have h0 := h
  obtain ⟨hx, hm, hr, he, k166⟩ := h0
  unfold fwr_fix_236
  refine j_runA hx 8 (tb := [(236, .aload_n 0), (237, .iload_n 2), (238, .bipush 16), (240, .iadd), (241, .lload 5), (243, .lload 10), (245, .lsub), (246, .bipush 8)]) (jtb_ok (by decide +kernel)) (pc' := 248) (lv' := [(0, vR t), (1, vI a1), (2, vI a2), (5, vL l5), (10, vL l10)]) (st' := [vI (kI 8), vL (l5 - l10), vI (a2 + (kI 16)), vR t]) rfl ?_
  refine j_gd (fun h37 => ?_)
  refine j_WV (j_callV (av := [vI (a2 + (kI 16)), vL (l5 - l10), vI (kI 8)]) (st := []) hx hr (Or.inl q1886) q1888 qs67 rfl md_fwr_set np_fwr_set (cwr_set t (a2 + (kI 16)) (l5 - l10) (kI 8) W) (by decide) (Nat.le_of_ble_eq_true rfl) h37 (by decide) (by decide +kernel)) (fun q38 _ => ?_)
  exact j_vret hx hm (by decide +kernel) (he _)
theorem wwr_fix_204 {x : jCx} {en : (fwr_fix_S ⊕ (jW)) → Option (Outcome × jW)} {t : Nat} {a1 : Int32} {a2 : Int32} (h : hwr_fix x en t a1 a2) (l3 : Nat) (l5 : Int64) (W : jW) : jJ x 12 204 [(0, vR t), (1, vI a1), (2, vI a2), (3, vR l3), (5, vL l5)] [] W (fwr_fix_204 t a1 a2 l3 l5 W) en := by
  have h0 := h
  obtain ⟨hx, hm, hr, he, k166⟩ := h0
  unfold fwr_fix_204
  refine j_runA hx 2 (tb := [(204, .aload_n 3), (205, .iload_n 2)]) (jtb_ok (by decide +kernel)) (pc' := 206) (lv' := [(0, vR t), (1, vI a1), (2, vI a2), (3, vR l3), (5, vL l5)]) (st' := [vI a2, vR l3]) rfl ?_
  refine j_gd (fun h30 => ?_)
  refine j_OI (j_callV (av := [vI a2]) (st := []) hx hr (Or.inl q1923) q924 q925 rfl md_fsh_fixSymbol np_fsh_fixSymbol (csh_fixSymbol l3 a2 W) (by decide) (Nat.le_of_ble_eq_true rfl) h30 (by decide) (by decide +kernel)) (fun q31 _ => ?_)
  refine j_runA hx 3 (tb := [(209, .istore 9), (211, .aload_n 3), (212, .iload 9)]) (jtb_ok (by decide +kernel)) (pc' := 214) (lv' := [(9, vI q31), (0, vR t), (1, vI a1), (2, vI a2), (3, vR l3), (5, vL l5)]) (st' := [vI q31, vR l3]) rfl ?_
  refine j_OL (j_callV (av := [vI q31]) (st := []) hx hr (Or.inl q1898) q889 q890 rfl md_fsh_valueOf np_fsh_valueOf (csh_valueOf l3 q31 W) (by decide) (Nat.le_of_ble_eq_true rfl) h30 (by decide) (by decide +kernel)) (fun q32 _ => ?_)
  refine j_runA hx 3 (tb := [(217, .lstore 10), (219, .aload_n 3), (220, .iload 9)]) (jtb_ok (by decide +kernel)) (pc' := 222) (lv' := [(10, vL q32), (9, vI q31), (0, vR t), (1, vI a1), (2, vI a2), (3, vR l3), (5, vL l5)]) (st' := [vI q31, vR l3]) rfl ?_
  refine j_OI (j_callV (av := [vI q31]) (st := []) hx hr (Or.inl q1893) q1894 q1895 rfl md_fsh_isTextSymbol np_fsh_isTextSymbol (csh_isTextSymbol l3 q31 W) (by decide) (Nat.le_of_ble_eq_true rfl) h30 (by decide) (by decide +kernel)) (fun q33 _ => ?_)
  refine j_if_eq hx (off := 11) (tgt := 236) (by decide +kernel) (by decide) (fun _ => ?_) (fun _ => ?_)
  · refine j_lv (lv' := [(0, vR t), (1, vI a1), (2, vI a2), (5, vL l5), (10, vL q32)]) ⟨rfl, rfl, rfl, rfl, rfl, trivial⟩ ?_
    exact wwr_fix_236 h l5 q32 W
  refine j_runA hx 2 (tb := [(228, .aload_n 0), (229, .lload 10)]) (jtb_ok (by decide +kernel)) (pc' := 231) (lv' := [(10, vL q32), (9, vI q31), (0, vR t), (1, vI a1), (2, vI a2), (3, vR l3), (5, vL l5)]) (st' := [vL q32, vR t]) rfl ?_
  refine j_gd (fun h34 => ?_)
  refine j_OL (j_callV (av := [vL q32]) (st := []) hx hr (Or.inl q1899) q1901 qs68 rfl md_fwr_newOf np_fwr_newOf (cwr_newOf t q32 W) (by decide) (Nat.le_of_ble_eq_true rfl) h34 (by decide) (by decide +kernel)) (fun q35 _ => ?_)
  refine j_runA hx 1 (tb := [(234, .lstore 10)]) (jtb_ok (by decide +kernel)) (pc' := 236) (lv' := [(10, vL q35), (9, vI q31), (0, vR t), (1, vI a1), (2, vI a2), (3, vR l3), (5, vL l5)]) (st' := []) rfl ?_
  refine j_lv (lv' := [(0, vR t), (1, vI a1), (2, vI a2), (5, vL l5), (10, vL q35)]) ⟨rfl, rfl, rfl, rfl, rfl, trivial⟩ ?_
  exact wwr_fix_236 h l5 q35 W
theorem wwr_fix_166 {x : jCx} {en : (fwr_fix_S ⊕ (jW)) → Option (Outcome × jW)} {t : Nat} {a1 : Int32} {a2 : Int32} (h : hwr_fix x en t a1 a2) (l11 : Int32) (W : jW) : jJ x 12 166 [(0, vR t), (1, vI a1), (2, vI a2), (11, vI l11)] [] W (fwr_fix_166 t a1 a2 l11 W) en := by
  have h0 := h
  obtain ⟨hx, hm, hr, he, k166⟩ := h0
  unfold fwr_fix_166
  refine j_runA hx 2 (tb := [(166, .iload 11), (168, .bipush 24)]) (jtb_ok (by decide +kernel)) (pc' := 170) (lv' := [(0, vR t), (1, vI a1), (2, vI a2), (11, vI l11)]) (st' := [vI (kI 24), vI l11]) rfl ?_
  refine j_icmp_ge hx (off := 20) (tgt := 190) (by decide +kernel) (by decide) (fun _ => ?_) (fun _ => ?_)
  · exact j_vret hx hm (by decide +kernel) (he _)
  refine j_runA hx 6 (tb := [(173, .aload_n 0), (174, .iload_n 2), (175, .iload 11), (177, .iadd), (178, .lconst 0), (179, .bipush 8)]) (jtb_ok (by decide +kernel)) (pc' := 181) (lv' := [(0, vR t), (1, vI a1), (2, vI a2), (11, vI l11)]) (st' := [vI (kI 8), vL (kJ 0), vI (a2 + l11), vR t]) rfl ?_
  refine j_gd (fun h41 => ?_)
  refine j_WV (j_callV (av := [vI (a2 + l11), vL (kJ 0), vI (kI 8)]) (st := []) hx hr (Or.inl q1886) q1888 qs67 rfl md_fwr_set np_fwr_set (cwr_set t (a2 + l11) (kJ 0) (kI 8) W) (by decide) (Nat.le_of_ble_eq_true rfl) h41 (by decide) (by decide +kernel)) (fun q42 _ => ?_)
  refine j_runA hx 1 (tb := [(184, .iinc 11 8)]) (jtb_ok (by decide +kernel)) (pc' := 187) (lv' := [(11, vI (l11 + (kI 8))), (0, vR t), (1, vI a1), (2, vI a2)]) (st' := []) rfl ?_
  refine j_let (v := (l11 + (kI 8))) (lv := fun v44 => [(11, vI v44), (0, vR t), (1, vI a1), (2, vI a2)]) (st := fun _ => []) (fun v44 => ?_)
  refine j_goto hx (off := -21) (by decide +kernel) (tgt := 166) (by decide) ?_
  refine j_lv (lv' := [(0, vR t), (1, vI a1), (2, vI a2), (11, vI v44)]) ⟨rfl, rfl, rfl, rfl, trivial⟩ ?_
  exact k166 v44 q42
theorem wwr_fix_191 {x : jCx} {en : (fwr_fix_S ⊕ (jW)) → Option (Outcome × jW)} {t : Nat} {a1 : Int32} {a2 : Int32} (h : hwr_fix x en t a1 a2) (l3 : Nat) (l5 : Int64) (l9 : Int32) (W : jW) : jJ x 12 191 [(0, vR t), (1, vI a1), (2, vI a2), (3, vR l3), (5, vL l5), (9, vI l9)] [] W (fwr_fix_191 t a1 a2 l3 l5 l9 W) en := by
  have h0 := h
  obtain ⟨hx, hm, hr, he, k166⟩ := h0
  unfold fwr_fix_191
  refine j_runA hx 4 (tb := [(191, .aload_n 0), (192, .iload_n 2), (193, .aload_n 0), (194, .iload 9)]) (jtb_ok (by decide +kernel)) (pc' := 196) (lv' := [(0, vR t), (1, vI a1), (2, vI a2), (3, vR l3), (5, vL l5), (9, vI l9)]) (st' := [vI l9, vR t, vI a2, vR t]) rfl ?_
  refine j_gd (fun h46 => ?_)
  refine j_OL (j_callV (av := [vI l9]) (st := [vI a2, vR t]) hx hr (Or.inl q1838) q1839 q1840 rfl md_fwr_movedWord np_fwr_movedWord (cwr_movedWord t l9 W) (by decide) (Nat.le_of_ble_eq_true rfl) h46 (by decide) (by decide +kernel)) (fun q47 _ => ?_)
  refine j_runA hx 1 (tb := [(199, .bipush 8)]) (jtb_ok (by decide +kernel)) (pc' := 201) (lv' := [(0, vR t), (1, vI a1), (2, vI a2), (3, vR l3), (5, vL l5), (9, vI l9)]) (st' := [vI (kI 8), vL q47, vI a2, vR t]) rfl ?_
  refine j_WV (j_callV (av := [vI a2, vL q47, vI (kI 8)]) (st := []) hx hr (Or.inl q1886) q1888 qs67 rfl md_fwr_set np_fwr_set (cwr_set t a2 q47 (kI 8) W) (by decide) (Nat.le_of_ble_eq_true rfl) h46 (by decide) (by decide +kernel)) (fun q48 _ => ?_)
  refine j_lv (lv' := [(0, vR t), (1, vI a1), (2, vI a2), (3, vR l3), (5, vL l5)]) ⟨rfl, rfl, rfl, rfl, rfl, trivial⟩ ?_
  exact wwr_fix_204 h l3 l5 q48
theorem wwr_fix_52 {x : jCx} {en : (fwr_fix_S ⊕ (jW)) → Option (Outcome × jW)} {t : Nat} {a1 : Int32} {a2 : Int32} (h : hwr_fix x en t a1 a2) (l3 : Nat) (l4 : Int32) (l5 : Int64) (W : jW) : jJ x 12 52 [(0, vR t), (1, vI a1), (2, vI a2), (3, vR l3), (4, vI l4), (5, vL l5)] [] W (fwr_fix_52 t a1 a2 l3 l4 l5 W) en := by
  have h0 := h
  obtain ⟨hx, hm, hr, he, k166⟩ := h0
  unfold fwr_fix_52
  refine j_runA hx 2 (tb := [(52, .aload_n 3), (53, .iload_n 2)]) (jtb_ok (by decide +kernel)) (pc' := 54) (lv' := [(0, vR t), (1, vI a1), (2, vI a2), (3, vR l3), (4, vI l4), (5, vL l5)]) (st' := [vI a2, vR l3]) rfl ?_
  refine j_gd (fun h11 => ?_)
  refine j_OL (j_callV (av := [vI a2]) (st := []) hx hr (Or.inl q1922) q920 q921 rfl md_fsh_fixPlace np_fsh_fixPlace (csh_fixPlace l3 a2 W) (by decide) (Nat.le_of_ble_eq_true rfl) h11 (by decide) (by decide +kernel)) (fun q12 _ => ?_)
  refine j_runA hx 3 (tb := [(57, .lstore 7), (59, .iload 4), (61, .sipush 257)]) (jtb_ok (by decide +kernel)) (pc' := 64) (lv' := [(7, vL q12), (0, vR t), (1, vI a1), (2, vI a2), (3, vR l3), (4, vI l4), (5, vL l5)]) (st' := [vI (kI 257), vI l4]) rfl ?_
  refine j_icmp_ne hx (off := 53) (tgt := 117) (by decide +kernel) (by decide) (fun _ => ?_) (fun _ => ?_)
  · refine j_runA hx 1 (tb := [(117, .aload_n 0)]) (jtb_ok (by decide +kernel)) (pc' := 118) (lv' := [(7, vL q12), (0, vR t), (1, vI a1), (2, vI a2), (3, vR l3), (4, vI l4), (5, vL l5)]) (st' := [vR t]) rfl ?_
    refine j_gd (fun h13 => ?_)
    refine j_getR hx flX14_30 kl900 h13 (by decide) (by decide +kernel) ?_
    refine j_runA hx 1 (tb := [(121, .lload 7)]) (jtb_ok (by decide +kernel)) (pc' := 123) (lv' := [(7, vL q12), (0, vR t), (1, vI a1), (2, vI a2), (3, vR l3), (4, vI l4), (5, vL l5)]) (st' := [vL q12, vR (jR W 900 t)]) rfl ?_
    refine j_gd (fun h14 => ?_)
    refine j_OI (j_callV (av := [vL q12]) (st := []) hx hr (Or.inl q1885) q1036 q1037 rfl md_fpg_wordAt np_fpg_wordAt (cpg_wordAt (jR W 900 t) q12 W) (by decide) (Nat.le_of_ble_eq_true rfl) h14 (by decide) (by decide +kernel)) (fun q15 _ => ?_)
    refine j_runA hx 2 (tb := [(126, .istore 9), (128, .aload_n 0)]) (jtb_ok (by decide +kernel)) (pc' := 129) (lv' := [(9, vI q15), (7, vL q12), (0, vR t), (1, vI a1), (2, vI a2), (3, vR l3), (4, vI l4), (5, vL l5)]) (st' := [vR t]) rfl ?_
    refine j_getR hx flX14_30 kl900 h13 (by decide) (by decide +kernel) ?_
    refine j_getR hx flX14_123 kl206 h14 (by decide) (by decide +kernel) ?_
    refine j_runA hx 1 (tb := [(135, .iload 9)]) (jtb_ok (by decide +kernel)) (pc' := 137) (lv' := [(9, vI q15), (7, vL q12), (0, vR t), (1, vI a1), (2, vI a2), (3, vR l3), (4, vI l4), (5, vL l5)]) (st' := [vI q15, vR (jR W 206 (jR W 900 t))]) rfl ?_
    refine j_gd (fun h16 => ?_)
    refine j_iald hx (f := 206) (o := (jR W 900 t)) kd206 rfl (by decide +kernel) h16 ?_
    refine j_runA hx 1 (tb := [(138, .istore 10)]) (jtb_ok (by decide +kernel)) (pc' := 140) (lv' := [(10, vI (jA W 206 (jR W 900 t) (ix q15))), (9, vI q15), (7, vL q12), (0, vR t), (1, vI a1), (2, vI a2), (3, vR l3), (4, vI l4), (5, vL l5)]) (st' := []) rfl ?_
    refine j_let (v := (jA W 206 (jR W 900 t) (ix q15))) (lv := fun v17 => [(10, vI v17), (9, vI q15), (7, vL q12), (0, vR t), (1, vI a1), (2, vI a2), (3, vR l3), (4, vI l4), (5, vL l5)]) (st := fun _ => []) (fun v17 => ?_)
    refine j_runA hx 2 (tb := [(140, .iload 9), (142, .aload_n 0)]) (jtb_ok (by decide +kernel)) (pc' := 143) (lv' := [(10, vI v17), (9, vI q15), (7, vL q12), (0, vR t), (1, vI a1), (2, vI a2), (3, vR l3), (4, vI l4), (5, vL l5)]) (st' := [vR t, vI q15]) rfl ?_
    refine j_getR hx flX14_30 kl900 h13 (by decide) (by decide +kernel) ?_
    refine j_runA hx 1 (tb := [(146, .iload 10)]) (jtb_ok (by decide +kernel)) (pc' := 148) (lv' := [(10, vI v17), (9, vI q15), (7, vL q12), (0, vR t), (1, vI a1), (2, vI a2), (3, vR l3), (4, vI l4), (5, vL l5)]) (st' := [vI v17, vR (jR W 900 t), vI q15]) rfl ?_
    refine j_OI (j_callV (av := [vI v17]) (st := [vI q15]) hx hr (Or.inl q1811) q1129 q1130 rfl md_fpg_lastWord np_fpg_lastWord (cpg_lastWord (jR W 900 t) v17 W) (by decide) (Nat.le_of_ble_eq_true rfl) h14 (by decide) (by decide +kernel)) (fun q18 _ => ?_)
    refine j_icmp_ne hx (off := 40) (tgt := 191) (by decide +kernel) (by decide) (fun _ => ?_) (fun _ => ?_)
    · refine j_lv (lv' := [(0, vR t), (1, vI a1), (2, vI a2), (3, vR l3), (5, vL l5), (9, vI q15)]) ⟨rfl, rfl, rfl, rfl, rfl, rfl, trivial⟩ ?_
      exact wwr_fix_191 h l3 l5 q15 W
    refine j_runA hx 2 (tb := [(154, .aload_n 0), (155, .iload 10)]) (jtb_ok (by decide +kernel)) (pc' := 157) (lv' := [(10, vI v17), (9, vI q15), (7, vL q12), (0, vR t), (1, vI a1), (2, vI a2), (3, vR l3), (4, vI l4), (5, vL l5)]) (st' := [vI v17, vR t]) rfl ?_
    refine j_OI (j_callV (av := [vI v17]) (st := []) hx hr (Or.inl q1794) q1796 qs54 rfl md_fwr_isLeft np_fwr_isLeft (cwr_isLeft t v17 W) (by decide) (Nat.le_of_ble_eq_true rfl) h13 (by decide) (by decide +kernel)) (fun q19 _ => ?_)
    refine j_if_eq hx (off := 31) (tgt := 191) (by decide +kernel) (by decide) (fun _ => ?_) (fun _ => ?_)
    · refine j_lv (lv' := [(0, vR t), (1, vI a1), (2, vI a2), (3, vR l3), (5, vL l5), (9, vI q15)]) ⟨rfl, rfl, rfl, rfl, rfl, rfl, trivial⟩ ?_
      exact wwr_fix_191 h l3 l5 q15 W
    refine j_runA hx 2 (tb := [(163, .iconst 0), (164, .istore 11)]) (jtb_ok (by decide +kernel)) (pc' := 166) (lv' := [(11, vI (kI 0)), (10, vI v17), (9, vI q15), (7, vL q12), (0, vR t), (1, vI a1), (2, vI a2), (3, vR l3), (4, vI l4), (5, vL l5)]) (st' := []) rfl ?_
    refine j_lv (lv' := [(0, vR t), (1, vI a1), (2, vI a2), (11, vI (kI 0))]) ⟨rfl, rfl, rfl, rfl, trivial⟩ ?_
    exact k166 (kI 0) W
  refine j_runA hx 3 (tb := [(67, .aload_n 3), (68, .aload_n 3), (69, .iload_n 2)]) (jtb_ok (by decide +kernel)) (pc' := 70) (lv' := [(7, vL q12), (0, vR t), (1, vI a1), (2, vI a2), (3, vR l3), (4, vI l4), (5, vL l5)]) (st' := [vI a2, vR l3, vR l3]) rfl ?_
  refine j_OL (j_callV (av := [vI a2]) (st := [vR l3]) hx hr (Or.inl q1847) q1061 q1062 rfl md_fsh_target np_fsh_target (csh_target l3 a2 W) (by decide) (Nat.le_of_ble_eq_true rfl) h11 (by decide) (by decide +kernel)) (fun q20 _ => ?_)
  refine j_OI (j_callV (av := [vL q20]) (st := []) hx hr (Or.inl q1921) q893 q894 rfl md_fsh_isText np_fsh_isText (csh_isText l3 q20 W) (by decide) (Nat.le_of_ble_eq_true rfl) h11 (by decide) (by decide +kernel)) (fun q21 _ => ?_)
  refine j_if_eq hx (off := 128) (tgt := 204) (by decide +kernel) (by decide) (fun _ => ?_) (fun _ => ?_)
  · refine j_lv (lv' := [(0, vR t), (1, vI a1), (2, vI a2), (3, vR l3), (5, vL l5)]) ⟨rfl, rfl, rfl, rfl, rfl, trivial⟩ ?_
    exact wwr_fix_204 h l3 l5 W
  refine j_runA hx 2 (tb := [(79, .aload_n 0), (80, .aload_n 3)]) (jtb_ok (by decide +kernel)) (pc' := 81) (lv' := [(7, vL q12), (0, vR t), (1, vI a1), (2, vI a2), (3, vR l3), (4, vI l4), (5, vL l5)]) (st' := [vR l3, vR t]) rfl ?_
  refine j_getR hx flX14_272 kl414 h11 (by decide) (by decide +kernel) ?_
  refine j_runA hx 1 (tb := [(84, .aload_n 3)]) (jtb_ok (by decide +kernel)) (pc' := 85) (lv' := [(7, vL q12), (0, vR t), (1, vI a1), (2, vI a2), (3, vR l3), (4, vI l4), (5, vL l5)]) (st' := [vR l3, vR (jR W 414 l3), vR t]) rfl ?_
  refine j_getR hx flX14_328 kl417 h11 (by decide) (by decide +kernel) ?_
  refine j_runA hx 1 (tb := [(88, .iload_n 1)]) (jtb_ok (by decide +kernel)) (pc' := 89) (lv' := [(7, vL q12), (0, vR t), (1, vI a1), (2, vI a2), (3, vR l3), (4, vI l4), (5, vL l5)]) (st' := [vI a1, vR (jR W 417 l3), vR (jR W 414 l3), vR t]) rfl ?_
  refine j_gd (fun h22 => ?_)
  refine j_iald hx (f := 417) (o := l3) kd417 rfl (by decide +kernel) h22 ?_
  refine j_gd (fun h23 => ?_)
  refine j_iald hx (f := 414) (o := l3) kd414 rfl (by decide +kernel) h23 ?_
  refine j_runA hx 2 (tb := [(91, .lload 7), (93, .aload_n 3)]) (jtb_ok (by decide +kernel)) (pc' := 94) (lv' := [(7, vL q12), (0, vR t), (1, vI a1), (2, vI a2), (3, vR l3), (4, vI l4), (5, vL l5)]) (st' := [vR l3, vL q12, vI (jA W 414 l3 (ix (jA W 417 l3 (ix a1)))), vR t]) rfl ?_
  refine j_getR hx flX14_331 kl413 h11 (by decide) (by decide +kernel) ?_
  refine j_runA hx 1 (tb := [(97, .aload_n 3)]) (jtb_ok (by decide +kernel)) (pc' := 98) (lv' := [(7, vL q12), (0, vR t), (1, vI a1), (2, vI a2), (3, vR l3), (4, vI l4), (5, vL l5)]) (st' := [vR l3, vR (jR W 413 l3), vL q12, vI (jA W 414 l3 (ix (jA W 417 l3 (ix a1)))), vR t]) rfl ?_
  refine j_getR hx flX14_328 kl417 h11 (by decide) (by decide +kernel) ?_
  refine j_runA hx 1 (tb := [(101, .iload_n 1)]) (jtb_ok (by decide +kernel)) (pc' := 102) (lv' := [(7, vL q12), (0, vR t), (1, vI a1), (2, vI a2), (3, vR l3), (4, vI l4), (5, vL l5)]) (st' := [vI a1, vR (jR W 417 l3), vR (jR W 413 l3), vL q12, vI (jA W 414 l3 (ix (jA W 417 l3 (ix a1)))), vR t]) rfl ?_
  refine j_gd (fun h24 => ?_)
  refine j_iald hx (f := 417) (o := l3) kd417 rfl (by decide +kernel) h24 ?_
  refine j_gd (fun h25 => ?_)
  refine j_lald hx (f := 413) (o := l3) kd413 rfl (by decide +kernel) h25 ?_
  refine j_runA hx 5 (tb := [(104, .lsub), (105, .l2i), (106, .iadd), (107, .lload 5), (109, .bipush 8)]) (jtb_ok (by decide +kernel)) (pc' := 111) (lv' := [(7, vL q12), (0, vR t), (1, vI a1), (2, vI a2), (3, vR l3), (4, vI l4), (5, vL l5)]) (st' := [vI (kI 8), vL l5, vI ((jA W 414 l3 (ix (jA W 417 l3 (ix a1)))) + ((q12 - (jB W 413 l3 (ix (jA W 417 l3 (ix a1))))).toInt32)), vR t]) rfl ?_
  refine j_gd (fun h26 => ?_)
  refine j_WV (j_callV (av := [vI ((jA W 414 l3 (ix (jA W 417 l3 (ix a1)))) + ((q12 - (jB W 413 l3 (ix (jA W 417 l3 (ix a1))))).toInt32)), vL l5, vI (kI 8)]) (st := []) hx hr (Or.inl q1886) q1888 qs67 rfl md_fwr_set np_fwr_set (cwr_set t ((jA W 414 l3 (ix (jA W 417 l3 (ix a1)))) + ((q12 - (jB W 413 l3 (ix (jA W 417 l3 (ix a1))))).toInt32)) l5 (kI 8) W) (by decide) (Nat.le_of_ble_eq_true rfl) h26 (by decide) (by decide +kernel)) (fun q27 _ => ?_)
  refine j_goto hx (off := 90) (by decide +kernel) (tgt := 204) (by decide) ?_
  refine j_lv (lv' := [(0, vR t), (1, vI a1), (2, vI a2), (3, vR l3), (5, vL l5)]) ⟨rfl, rfl, rfl, rfl, rfl, trivial⟩ ?_
  exact wwr_fix_204 h l3 l5 q27
theorem wwr_fix {x : jCx} {en : (fwr_fix_S ⊕ (jW)) → Option (Outcome × jW)} {t : Nat} {a1 : Int32} {a2 : Int32} (h : hwr_fix x en t a1 a2) (W : jW) : jJ x 12 0 [(0, vR t), (1, vI a1), (2, vI a2)] [] W (fwr_fix_0 t a1 a2 W) en := by
  have h0 := h
  obtain ⟨hx, hm, hr, he, k166⟩ := h0
  unfold fwr_fix_0
  refine j_runA hx 1 (tb := [(0, .aload_n 0)]) (jtb_ok (by decide +kernel)) (pc' := 1) (lv' := [(0, vR t), (1, vI a1), (2, vI a2)]) (st' := [vR t]) rfl ?_
  refine j_gd (fun h1 => ?_)
  refine j_getR hx flX14_30 kl900 h1 (by decide) (by decide +kernel) ?_
  refine j_gd (fun h2 => ?_)
  refine j_getR hx flX14_181 kl201 h2 (by decide) (by decide +kernel) ?_
  refine j_runA hx 1 (tb := [(7, .astore_n 3)]) (jtb_ok (by decide +kernel)) (pc' := 8) (lv' := [(3, vR (jR W 201 (jR W 900 t))), (0, vR t), (1, vI a1), (2, vI a2)]) (st' := []) rfl ?_
  refine j_let (v := (jR W 201 (jR W 900 t))) (lv := fun v3 => [(3, vR v3), (0, vR t), (1, vI a1), (2, vI a2)]) (st := fun _ => []) (fun v3 => ?_)
  refine j_runA hx 2 (tb := [(8, .aload_n 3), (9, .iload_n 2)]) (jtb_ok (by decide +kernel)) (pc' := 10) (lv' := [(3, vR v3), (0, vR t), (1, vI a1), (2, vI a2)]) (st' := [vI a2, vR v3]) rfl ?_
  refine j_gd (fun h4 => ?_)
  refine j_OI (j_callV (av := [vI a2]) (st := []) hx hr (Or.inl q1836) q913 q914 rfl md_fsh_fixType np_fsh_fixType (csh_fixType v3 a2 W) (by decide) (Nat.le_of_ble_eq_true rfl) h4 (by decide) (by decide +kernel)) (fun q5 _ => ?_)
  refine j_runA hx 2 (tb := [(13, .istore 4), (15, .iload 4)]) (jtb_ok (by decide +kernel)) (pc' := 17) (lv' := [(4, vI q5), (3, vR v3), (0, vR t), (1, vI a1), (2, vI a2)]) (st' := [vI q5]) rfl ?_
  refine j_if_ne hx (off := 4) (tgt := 21) (by decide +kernel) (by decide) (fun _ => ?_) (fun _ => ?_)
  · refine j_runA hx 2 (tb := [(21, .aload_n 3), (22, .iload_n 2)]) (jtb_ok (by decide +kernel)) (pc' := 23) (lv' := [(4, vI q5), (3, vR v3), (0, vR t), (1, vI a1), (2, vI a2)]) (st' := [vI a2, vR v3]) rfl ?_
    refine j_OL (j_callV (av := [vI a2]) (st := []) hx hr (Or.inl q1847) q1061 q1062 rfl md_fsh_target np_fsh_target (csh_target v3 a2 W) (by decide) (Nat.le_of_ble_eq_true rfl) h4 (by decide) (by decide +kernel)) (fun q6 _ => ?_)
    refine j_runA hx 3 (tb := [(26, .lstore 5), (28, .aload_n 3), (29, .lload 5)]) (jtb_ok (by decide +kernel)) (pc' := 31) (lv' := [(5, vL q6), (4, vI q5), (3, vR v3), (0, vR t), (1, vI a1), (2, vI a2)]) (st' := [vL q6, vR v3]) rfl ?_
    refine j_OI (j_callV (av := [vL q6]) (st := []) hx hr (Or.inl q1921) q893 q894 rfl md_fsh_isText np_fsh_isText (csh_isText v3 q6 W) (by decide) (Nat.le_of_ble_eq_true rfl) h4 (by decide) (by decide +kernel)) (fun q7 _ => ?_)
    refine j_if_eq hx (off := 18) (tgt := 52) (by decide +kernel) (by decide) (fun _ => ?_) (fun _ => ?_)
    · refine j_lv (lv' := [(0, vR t), (1, vI a1), (2, vI a2), (3, vR v3), (4, vI q5), (5, vL q6)]) ⟨rfl, rfl, rfl, rfl, rfl, rfl, trivial⟩ ?_
      exact wwr_fix_52 h v3 q5 q6 W
    refine j_runA hx 2 (tb := [(37, .aload_n 0), (38, .aload_n 0)]) (jtb_ok (by decide +kernel)) (pc' := 39) (lv' := [(5, vL q6), (4, vI q5), (3, vR v3), (0, vR t), (1, vI a1), (2, vI a2)]) (st' := [vR t, vR t]) rfl ?_
    refine j_getR hx flX14_30 kl900 h1 (by decide) (by decide +kernel) ?_
    refine j_runA hx 1 (tb := [(42, .lload 5)]) (jtb_ok (by decide +kernel)) (pc' := 44) (lv' := [(5, vL q6), (4, vI q5), (3, vR v3), (0, vR t), (1, vI a1), (2, vI a2)]) (st' := [vL q6, vR (jR W 900 t), vR t]) rfl ?_
    refine j_OI (j_callV (av := [vL q6]) (st := [vR t]) hx hr (Or.inl q1885) q1036 q1037 rfl md_fpg_wordAt np_fpg_wordAt (cpg_wordAt (jR W 900 t) q6 W) (by decide) (Nat.le_of_ble_eq_true rfl) h2 (by decide) (by decide +kernel)) (fun q8 _ => ?_)
    refine j_OL (j_callV (av := [vI q8]) (st := []) hx hr (Or.inl q1838) q1839 q1840 rfl md_fwr_movedWord np_fwr_movedWord (cwr_movedWord t q8 W) (by decide) (Nat.le_of_ble_eq_true rfl) h1 (by decide) (by decide +kernel)) (fun q9 _ => ?_)
    refine j_runA hx 1 (tb := [(50, .lstore 5)]) (jtb_ok (by decide +kernel)) (pc' := 52) (lv' := [(5, vL q9), (4, vI q5), (3, vR v3), (0, vR t), (1, vI a1), (2, vI a2)]) (st' := []) rfl ?_
    refine j_lv (lv' := [(0, vR t), (1, vI a1), (2, vI a2), (3, vR v3), (4, vI q5), (5, vL q9)]) ⟨rfl, rfl, rfl, rfl, rfl, rfl, trivial⟩ ?_
    exact wwr_fix_52 h v3 q5 q9 W
  exact j_vret hx hm (by decide +kernel) (he _)
theorem cwr_fix (t : Nat) (a1 : Int32) (a2 : Int32) (W : jW) : jM yX14_fix cX14_fix 12 (Option.none : Option Jvm.ClassFile.FieldType) [] 8 110 [vR t, vI a1, vI a2] W ((fwr_fix t a1 a2 W).bind (fun q => some (.returned none, q))) := by
  refine jM.of (Nat.le_of_ble_eq_true rfl) (fun x hx hm hr => ?_)
  refine j_begin (P := (fun s => (166, [(0, vR t), (1, vI a1), (2, vI a2), (11, vI s.1)], s.2))) (fun en he hk => ?_)
  have h : hwr_fix x en t a1 a2 := ⟨hx, hm, hr, fun q => he _, fun l11 W => hk (l11, W)⟩
  exact ⟨fun s => wwr_fix_166 h s.1 s.2, wwr_fix h W⟩
