/-! ===== walks: fme_regions fme_stack fme_sizeOf fme_begin fme_addressOf fme_regionOf fme_cellOf fme_tell fma_tellCode fma_begin fma_bytes fma_blockFrom fma_blockOf fma_blockHere fma_isText fha_by fma_must fma_code fma_base fma_sum fma_put fma_putBase ===== -/
set_option maxRecDepth 100000
def hme_regions (x : jCx) (en : (Int32) → Option (Outcome × jW)) (t : Nat) (W : jW) : Prop :=
  jOK x RX17 cX17_regions 1 ∧
  jMt x "regions" (Option.some Jvm.ClassFile.FieldType.int) [] ∧
  jRm x 0 0 ∧
  (∀ q : Int32, en q = some (.returned (some (.int q)), W))
theorem wme_regions {x : jCx} {en : (Int32) → Option (Outcome × jW)} {W : jW} {t : Nat} (h : hme_regions x en t W) : jJ x 1 0 [(0, vR t)] [] W (fme_regions t W) en := by
  have h0 := h
  obtain ⟨hx, hm, hr, he⟩ := h0
  unfold fme_regions
  refine j_runA hx 1 (tb := [(0, .aload_n 0)]) (jtb_ok (by decide +kernel)) (pc' := 1) (lv' := [(0, vR t)]) (st' := [vR t]) rfl ?_
  refine j_gd (fun h1 => ?_)
  refine j_getR hx flX17_29 kl1200 h1 (by decide) (by decide +kernel) ?_
  refine j_gd (fun h2 => ?_)
  refine j_getR hx flX17_37 kl201 h2 (by decide) (by decide +kernel) ?_
  refine j_gd (fun h3 => ?_)
  refine j_getI hx flX17_43 kd402 h3 (by decide) (by decide +kernel) ?_
  exact j_iret hx hm (by decide +kernel) rfl (he _)
theorem cme_regions (t : Nat) (W : jW) : jM yX17_regions cX17_regions 1 (Option.some Jvm.ClassFile.FieldType.int) [] 0 0 [vR t] W ((fme_regions t W).bind (fun q => some (.returned (some (.int q)), W))) := 
  jM.of (Nat.le_of_ble_eq_true rfl) (fun x hx hm hr => wme_regions ⟨hx, hm, hr, fun _ => rfl⟩)
def hme_stack (x : jCx) (en : (Int32) → Option (Outcome × jW)) (t : Nat) (W : jW) : Prop :=
  jOK x RX17 cX17_stack 1 ∧
  jMt x "stack" (Option.some Jvm.ClassFile.FieldType.int) [] ∧
  jRm x 1 12 ∧
  (∀ q : Int32, en q = some (.returned (some (.int q)), W))
theorem wme_stack {x : jCx} {en : (Int32) → Option (Outcome × jW)} {W : jW} {t : Nat} (h : hme_stack x en t W) : jJ x 1 0 [(0, vR t)] [] W (fme_stack t W) en := by
  have h0 := h
  obtain ⟨hx, hm, hr, he⟩ := h0
  unfold fme_stack
  refine j_runA hx 1 (tb := [(0, .aload_n 0)]) (jtb_ok (by decide +kernel)) (pc' := 1) (lv' := [(0, vR t)]) (st' := [vR t]) rfl ?_
  refine j_gd (fun h1 => ?_)
  refine j_getR hx flX17_29 kl1200 h1 (by decide) (by decide +kernel) ?_
  refine j_gd (fun h2 => ?_)
  refine j_getR hx flX17_37 kl201 h2 (by decide) (by decide +kernel) ?_
  refine j_gd (fun h3 => ?_)
  refine j_OI (j_callV (av := []) (st := []) hx hr (Or.inl q1998) q793 q794 rfl md_fsh_last np_fsh_last (csh_last (jR W 201 (jR W 1200 t)) W) (by decide) (Nat.le_of_ble_eq_true rfl) h3 (by decide) (by decide +kernel)) (fun q4 _ => ?_)
  exact j_iret hx hm (by decide +kernel) rfl (he _)
theorem cme_stack (t : Nat) (W : jW) : jM yX17_stack cX17_stack 1 (Option.some Jvm.ClassFile.FieldType.int) [] 1 12 [vR t] W ((fme_stack t W).bind (fun q => some (.returned (some (.int q)), W))) := 
  jM.of (Nat.le_of_ble_eq_true rfl) (fun x hx hm hr => wme_stack ⟨hx, hm, hr, fun _ => rfl⟩)
def hme_sizeOf (x : jCx) (en : (Int32) → Option (Outcome × jW)) (t : Nat) (a1 : Int32) (W : jW) : Prop :=
  jOK x RX17 cX17_sizeOf 2 ∧
  jMt x "sizeOf" (Option.some Jvm.ClassFile.FieldType.int) [] ∧
  jRm x 2 25 ∧
  (∀ q : Int32, en q = some (.returned (some (.int q)), W))
theorem wme_sizeOf {x : jCx} {en : (Int32) → Option (Outcome × jW)} {W : jW} {t : Nat} {a1 : Int32} (h : hme_sizeOf x en t a1 W) : jJ x 2 0 [(0, vR t), (1, vI a1)] [] W (fme_sizeOf t a1 W) en := by
  have h0 := h
  obtain ⟨hx, hm, hr, he⟩ := h0
  unfold fme_sizeOf
  refine j_runA hx 2 (tb := [(0, .iload_n 1), (1, .aload_n 0)]) (jtb_ok (by decide +kernel)) (pc' := 2) (lv' := [(0, vR t), (1, vI a1)]) (st' := [vR t, vI a1]) rfl ?_
  refine j_gd (fun h1 => ?_)
  refine j_OI (j_callV (av := []) (st := [vI a1]) hx hr (Or.inl q1994) q1996 qs75 rfl md_fme_stack np_fme_stack (cme_stack t W) (by decide) (Nat.le_of_ble_eq_true rfl) h1 (by decide) (by decide +kernel)) (fun q2 _ => ?_)
  refine j_icmp_ne hx (off := 8) (tgt := 13) (by decide +kernel) (by decide) (fun _ => ?_) (fun _ => ?_)
  · refine j_runA hx 1 (tb := [(13, .aload_n 0)]) (jtb_ok (by decide +kernel)) (pc' := 14) (lv' := [(0, vR t), (1, vI a1)]) (st' := [vR t]) rfl ?_
    refine j_getR hx flX17_29 kl1200 h1 (by decide) (by decide +kernel) ?_
    refine j_gd (fun h3 => ?_)
    refine j_getR hx flX17_37 kl201 h3 (by decide) (by decide +kernel) ?_
    refine j_gd (fun h4 => ?_)
    refine j_getR hx flX17_63 kl410 h4 (by decide) (by decide +kernel) ?_
    refine j_runA hx 1 (tb := [(23, .iload_n 1)]) (jtb_ok (by decide +kernel)) (pc' := 24) (lv' := [(0, vR t), (1, vI a1)]) (st' := [vI a1, vR (jR W 410 (jR W 201 (jR W 1200 t)))]) rfl ?_
    refine j_gd (fun h5 => ?_)
    refine j_iald hx (f := 410) (o := (jR W 201 (jR W 1200 t))) kd410 rfl (by decide +kernel) h5 ?_
    exact j_iret hx hm (by decide +kernel) rfl (he _)
  refine j_ldc hx (v := (kI 65536)) (jkc q1999 (by decide +kernel)) (by decide +kernel) ?_
  refine j_goto hx (off := 15) (by decide +kernel) (tgt := 25) (by decide) ?_
  exact j_iret hx hm (by decide +kernel) rfl (he _)
theorem cme_sizeOf (t : Nat) (a1 : Int32) (W : jW) : jM yX17_sizeOf cX17_sizeOf 2 (Option.some Jvm.ClassFile.FieldType.int) [] 2 25 [vR t, vI a1] W ((fme_sizeOf t a1 W).bind (fun q => some (.returned (some (.int q)), W))) := 
  jM.of (Nat.le_of_ble_eq_true rfl) (fun x hx hm hr => wme_sizeOf ⟨hx, hm, hr, fun _ => rfl⟩)
def hme_begin (x : jCx) (en : (fme_begin_S ⊕ (jW)) → Option (Outcome × jW)) (t : Nat) (a1 : Nat) : Prop :=
  jOK x RX17 cX17_begin 7 ∧
  jMt x "begin" (Option.none : Option Jvm.ClassFile.FieldType) [] ∧
  jRm x 3 42 ∧
  (∀ q : jW, en (.inr q) = some (.returned none, q)) ∧
  (∀ (l2 : Int32) (l3 : Int32) (l4 : Int32) (W : jW), jJ x 7 7 [(0, vR t), (1, vR a1), (2, vI l2), (3, vI l3), (4, vI l4)] [] W (some (.inl (.inl (l2, l3, l4, W)))) en) ∧
  (∀ (l2 : Int32) (l3 : Int32) (l4 : Int32) (l5 : Int32) (l6 : Int32) (W : jW), jJ x 7 43 [(0, vR t), (1, vR a1), (2, vI l2), (3, vI l3), (4, vI l4), (5, vI l5), (6, vI l6)] [] W (some (.inl (.inr (.inl (l2, l3, l4, l5, l6, W))))) en) ∧
  (∀ (l3 : Int32) (l4 : Int32) (W : jW), jJ x 7 123 [(0, vR t), (1, vR a1), (3, vI l3), (4, vI l4)] [] W (some (.inl (.inr (.inr (l3, l4, W))))) en)
theorem wme_begin_92 {x : jCx} {en : (fme_begin_S ⊕ (jW)) → Option (Outcome × jW)} {t : Nat} {a1 : Nat} (h : hme_begin x en t a1) (l2 : Int32) (l3 : Int32) (l4 : Int32) (l5 : Int32) (l6 : Int32) (s0 : Int32) (s1 : Int32) (s2 : Nat) (W : jW) : jJ x 7 92 [(0, vR t), (1, vR a1), (2, vI l2), (3, vI l3), (4, vI l4), (5, vI l5), (6, vI l6)] [vI s0, vI s1, vR s2] W (fme_begin_92 t a1 l2 l3 l4 l5 l6 s0 s1 s2 W) en := by
  have h0 := h
  obtain ⟨hx, hm, hr, he, k7, k43, k123⟩ := h0
  unfold fme_begin_92
  refine j_gd (fun h27 => ?_)
  refine j_gd (fun h28 => ?_)
  refine j_bast hx (f := 1202) (o := t) kd1202 h27 (by decide +kernel) h28 ?_
  refine j_ltw rfl (fun W29 hc30 => ?_)
  refine j_runA hx 1 (tb := [(93, .iinc 6 1)]) (jtb_ok (by decide +kernel)) (pc' := 96) (lv' := [(6, vI (l6 + (kI 1))), (0, vR t), (1, vR a1), (2, vI l2), (3, vI l3), (4, vI l4), (5, vI l5)]) (st' := []) rfl ?_
  refine j_let (v := (l6 + (kI 1))) (lv := fun v32 => [(6, vI v32), (0, vR t), (1, vR a1), (2, vI l2), (3, vI l3), (4, vI l4), (5, vI l5)]) (st := fun _ => []) (fun v32 => ?_)
  refine j_goto hx (off := -53) (by decide +kernel) (tgt := 43) (by decide) ?_
  refine j_lv (lv' := [(0, vR t), (1, vR a1), (2, vI l2), (3, vI l3), (4, vI l4), (5, vI l5), (6, vI v32)]) ⟨rfl, rfl, rfl, rfl, rfl, rfl, rfl, trivial⟩ ?_
  exact k43 l2 l3 l4 l5 v32 W29
theorem wme_begin_43 {x : jCx} {en : (fme_begin_S ⊕ (jW)) → Option (Outcome × jW)} {t : Nat} {a1 : Nat} (h : hme_begin x en t a1) (l2 : Int32) (l3 : Int32) (l4 : Int32) (l5 : Int32) (l6 : Int32) (W : jW) : jJ x 7 43 [(0, vR t), (1, vR a1), (2, vI l2), (3, vI l3), (4, vI l4), (5, vI l5), (6, vI l6)] [] W (fme_begin_43 t a1 l2 l3 l4 l5 l6 W) en := by
  have h0 := h
  obtain ⟨hx, hm, hr, he, k7, k43, k123⟩ := h0
  unfold fme_begin_43
  refine j_runA hx 2 (tb := [(43, .iload 6), (45, .iload 5)]) (jtb_ok (by decide +kernel)) (pc' := 47) (lv' := [(0, vR t), (1, vR a1), (2, vI l2), (3, vI l3), (4, vI l4), (5, vI l5), (6, vI l6)]) (st' := [vI l5, vI l6]) rfl ?_
  refine j_icmp_ge hx (off := 52) (tgt := 99) (by decide +kernel) (by decide) (fun _ => ?_) (fun _ => ?_)
  · refine j_runA hx 4 (tb := [(99, .iload_n 2), (100, .iload 5), (102, .iadd), (103, .istore_n 2)]) (jtb_ok (by decide +kernel)) (pc' := 104) (lv' := [(2, vI (l2 + l5)), (0, vR t), (1, vR a1), (3, vI l3), (4, vI l4), (5, vI l5), (6, vI l6)]) (st' := []) rfl ?_
    refine j_let (v := (l2 + l5)) (lv := fun v16 => [(2, vI v16), (0, vR t), (1, vR a1), (3, vI l3), (4, vI l4), (5, vI l5), (6, vI l6)]) (st := fun _ => []) (fun v16 => ?_)
    refine j_runA hx 3 (tb := [(104, .iload_n 3), (105, .iload 5), (107, .bipush 8)]) (jtb_ok (by decide +kernel)) (pc' := 109) (lv' := [(2, vI v16), (0, vR t), (1, vR a1), (3, vI l3), (4, vI l4), (5, vI l5), (6, vI l6)]) (st' := [vI (kI 8), vI l5, vI l3]) rfl ?_
    refine j_idiv hx (by decide +kernel) (by decide +kernel) ?_
    refine j_runA hx 4 (tb := [(110, .iconst 2), (111, .iadd), (112, .iadd), (113, .istore_n 3)]) (jtb_ok (by decide +kernel)) (pc' := 114) (lv' := [(3, vI (l3 + ((l5 / (kI 8)) + (kI 2)))), (2, vI v16), (0, vR t), (1, vR a1), (4, vI l4), (5, vI l5), (6, vI l6)]) (st' := []) rfl ?_
    refine j_let (v := (l3 + ((l5 / (kI 8)) + (kI 2)))) (lv := fun v17 => [(3, vI v17), (2, vI v16), (0, vR t), (1, vR a1), (4, vI l4), (5, vI l5), (6, vI l6)]) (st := fun _ => []) (fun v17 => ?_)
    refine j_runA hx 1 (tb := [(114, .iinc 4 1)]) (jtb_ok (by decide +kernel)) (pc' := 117) (lv' := [(4, vI (l4 + (kI 1))), (3, vI v17), (2, vI v16), (0, vR t), (1, vR a1), (5, vI l5), (6, vI l6)]) (st' := []) rfl ?_
    refine j_let (v := (l4 + (kI 1))) (lv := fun v18 => [(4, vI v18), (3, vI v17), (2, vI v16), (0, vR t), (1, vR a1), (5, vI l5), (6, vI l6)]) (st := fun _ => []) (fun v18 => ?_)
    refine j_goto hx (off := -110) (by decide +kernel) (tgt := 7) (by decide) ?_
    refine j_lv (lv' := [(0, vR t), (1, vR a1), (2, vI v16), (3, vI v17), (4, vI v18)]) ⟨rfl, rfl, rfl, rfl, rfl, trivial⟩ ?_
    exact k7 v16 v17 v18 W
  refine j_runA hx 1 (tb := [(50, .aload_n 0)]) (jtb_ok (by decide +kernel)) (pc' := 51) (lv' := [(0, vR t), (1, vR a1), (2, vI l2), (3, vI l3), (4, vI l4), (5, vI l5), (6, vI l6)]) (st' := [vR t]) rfl ?_
  refine j_gd (fun h19 => ?_)
  refine j_getR hx flX17_12 kl1202 h19 (by decide) (by decide +kernel) ?_
  refine j_runA hx 5 (tb := [(54, .iload_n 2), (55, .iload 6), (57, .iadd), (58, .iload 4), (60, .aload_n 0)]) (jtb_ok (by decide +kernel)) (pc' := 61) (lv' := [(0, vR t), (1, vR a1), (2, vI l2), (3, vI l3), (4, vI l4), (5, vI l5), (6, vI l6)]) (st' := [vR t, vI l4, vI (l2 + l6), vR (jR W 1202 t)]) rfl ?_
  refine j_OI (j_callV (av := []) (st := [vI l4, vI (l2 + l6), vR (jR W 1202 t)]) hx hr (Or.inl q1994) q1996 qs75 rfl md_fme_stack np_fme_stack (cme_stack t W) (by decide) (Nat.le_of_ble_eq_true rfl) h19 (by decide) (by decide +kernel)) (fun q20 _ => ?_)
  refine j_icmp_ne hx (off := 7) (tgt := 71) (by decide +kernel) (by decide) (fun _ => ?_) (fun _ => ?_)
  · refine j_runA hx 2 (tb := [(71, .aload_n 1), (72, .aload_n 0)]) (jtb_ok (by decide +kernel)) (pc' := 73) (lv' := [(0, vR t), (1, vR a1), (2, vI l2), (3, vI l3), (4, vI l4), (5, vI l5), (6, vI l6)]) (st' := [vR t, vR a1, vI (l2 + l6), vR (jR W 1202 t)]) rfl ?_
    refine j_getR hx flX17_29 kl1200 h19 (by decide) (by decide +kernel) ?_
    refine j_gd (fun h21 => ?_)
    refine j_getR hx flX17_37 kl201 h21 (by decide) (by decide +kernel) ?_
    refine j_gd (fun h22 => ?_)
    refine j_getR hx flX17_73 kl409 h22 (by decide) (by decide +kernel) ?_
    refine j_runA hx 1 (tb := [(82, .iload 4)]) (jtb_ok (by decide +kernel)) (pc' := 84) (lv' := [(0, vR t), (1, vR a1), (2, vI l2), (3, vI l3), (4, vI l4), (5, vI l5), (6, vI l6)]) (st' := [vI l4, vR (jR W 409 (jR W 201 (jR W 1200 t))), vR a1, vI (l2 + l6), vR (jR W 1202 t)]) rfl ?_
    refine j_gd (fun h23 => ?_)
    refine j_iald hx (f := 409) (o := (jR W 201 (jR W 1200 t))) kd409 rfl (by decide +kernel) h23 ?_
    refine j_runA hx 2 (tb := [(85, .iload 6), (87, .iadd)]) (jtb_ok (by decide +kernel)) (pc' := 88) (lv' := [(0, vR t), (1, vR a1), (2, vI l2), (3, vI l3), (4, vI l4), (5, vI l5), (6, vI l6)]) (st' := [vI ((jA W 409 (jR W 201 (jR W 1200 t)) (ix l4)) + l6), vR a1, vI (l2 + l6), vR (jR W 1202 t)]) rfl ?_
    refine j_gd (fun h24 => ?_)
    refine j_OI (h24.elim (fun hh => vd_fsr_at_l hh (j_callU (av := [vI ((jA W 409 (jR W 201 (jR W 1200 t)) (ix l4)) + l6)]) (st := [vI (l2 + l6), vR (jR W 1202 t)]) hx hr q2000 q781 (hde_fsr_at) (by decide) q783 q782 rfl md_fhe_at np_fsr_at (che_at a1 ((jA W 409 (jR W 201 (jR W 1200 t)) (ix l4)) + l6) W) (by decide) (Nat.le_of_ble_eq_true rfl) hh (by decide) (by decide +kernel))) (fun hh => vd_fsr_at_r hh (j_callU (av := [vI ((jA W 409 (jR W 201 (jR W 1200 t)) (ix l4)) + l6)]) (st := [vI (l2 + l6), vR (jR W 1202 t)]) hx hr q2000 q781 (hde_fsr_at) (by decide) q786 q785 rfl md_fwr_at np_fsr_at (cwr_at a1 ((jA W 409 (jR W 201 (jR W 1200 t)) (ix l4)) + l6) W) (by decide) (Nat.le_of_ble_eq_true rfl) hh (by decide) (by decide +kernel)))) (fun q25 _ => ?_)
    refine j_runA hx 1 (tb := [(91, .i2b)]) (jtb_ok (by decide +kernel)) (pc' := 92) (lv' := [(0, vR t), (1, vR a1), (2, vI l2), (3, vI l3), (4, vI l4), (5, vI l5), (6, vI l6)]) (st' := [vI (i2b q25), vI (l2 + l6), vR (jR W 1202 t)]) rfl ?_
    exact wme_begin_92 h l2 l3 l4 l5 l6 (i2b q25) (l2 + l6) (jR W 1202 t) W
  refine j_runA hx 1 (tb := [(67, .iconst 0)]) (jtb_ok (by decide +kernel)) (pc' := 68) (lv' := [(0, vR t), (1, vR a1), (2, vI l2), (3, vI l3), (4, vI l4), (5, vI l5), (6, vI l6)]) (st' := [vI (kI 0), vI (l2 + l6), vR (jR W 1202 t)]) rfl ?_
  refine j_goto hx (off := 24) (by decide +kernel) (tgt := 92) (by decide) ?_
  exact wme_begin_92 h l2 l3 l4 l5 l6 (kI 0) (l2 + l6) (jR W 1202 t) W
theorem wme_begin_123 {x : jCx} {en : (fme_begin_S ⊕ (jW)) → Option (Outcome × jW)} {t : Nat} {a1 : Nat} (h : hme_begin x en t a1) (l3 : Int32) (l4 : Int32) (W : jW) : jJ x 7 123 [(0, vR t), (1, vR a1), (3, vI l3), (4, vI l4)] [] W (fme_begin_123 t a1 l3 l4 W) en := by
  have h0 := h
  obtain ⟨hx, hm, hr, he, k7, k43, k123⟩ := h0
  unfold fme_begin_123
  refine j_runA hx 2 (tb := [(123, .iload 4), (125, .iload_n 3)]) (jtb_ok (by decide +kernel)) (pc' := 126) (lv' := [(0, vR t), (1, vR a1), (3, vI l3), (4, vI l4)]) (st' := [vI l3, vI l4]) rfl ?_
  refine j_icmp_ge hx (off := 17) (tgt := 143) (by decide +kernel) (by decide) (fun _ => ?_) (fun _ => ?_)
  · exact j_vret hx hm (by decide +kernel) (he _)
  refine j_runA hx 1 (tb := [(129, .aload_n 0)]) (jtb_ok (by decide +kernel)) (pc' := 130) (lv' := [(0, vR t), (1, vR a1), (3, vI l3), (4, vI l4)]) (st' := [vR t]) rfl ?_
  refine j_gd (fun h34 => ?_)
  refine j_getR hx flX17_23 kl1205 h34 (by decide) (by decide +kernel) ?_
  refine j_runA hx 2 (tb := [(133, .iload 4), (135, .iconst 0)]) (jtb_ok (by decide +kernel)) (pc' := 136) (lv' := [(0, vR t), (1, vR a1), (3, vI l3), (4, vI l4)]) (st' := [vI (kI 0), vI l4, vR (jR W 1205 t)]) rfl ?_
  refine j_gd (fun h35 => ?_)
  refine j_bast hx (f := 1205) (o := t) kd1205 rfl (by decide +kernel) h35 ?_
  refine j_ltw rfl (fun W36 hc37 => ?_)
  have h38 : jC W36 t = 12 := (congrFun hc37 _).trans h34
  refine j_runA hx 1 (tb := [(137, .iinc 4 1)]) (jtb_ok (by decide +kernel)) (pc' := 140) (lv' := [(4, vI (l4 + (kI 1))), (0, vR t), (1, vR a1), (3, vI l3)]) (st' := []) rfl ?_
  refine j_let (v := (l4 + (kI 1))) (lv := fun v40 => [(4, vI v40), (0, vR t), (1, vR a1), (3, vI l3)]) (st := fun _ => []) (fun v40 => ?_)
  refine j_goto hx (off := -17) (by decide +kernel) (tgt := 123) (by decide) ?_
  refine j_lv (lv' := [(0, vR t), (1, vR a1), (3, vI l3), (4, vI v40)]) ⟨rfl, rfl, rfl, rfl, trivial⟩ ?_
  exact k123 l3 v40 W36
theorem wme_begin_7 {x : jCx} {en : (fme_begin_S ⊕ (jW)) → Option (Outcome × jW)} {t : Nat} {a1 : Nat} (h : hme_begin x en t a1) (l2 : Int32) (l3 : Int32) (l4 : Int32) (W : jW) : jJ x 7 7 [(0, vR t), (1, vR a1), (2, vI l2), (3, vI l3), (4, vI l4)] [] W (fme_begin_7 t a1 l2 l3 l4 W) en := by
  have h0 := h
  obtain ⟨hx, hm, hr, he, k7, k43, k123⟩ := h0
  unfold fme_begin_7
  refine j_runA hx 2 (tb := [(7, .iload 4), (9, .aload_n 0)]) (jtb_ok (by decide +kernel)) (pc' := 10) (lv' := [(0, vR t), (1, vR a1), (2, vI l2), (3, vI l3), (4, vI l4)]) (st' := [vR t, vI l4]) rfl ?_
  refine j_gd (fun h2 => ?_)
  refine j_OI (j_callV (av := []) (st := [vI l4]) hx hr (Or.inl q1986) q1988 qs73 rfl md_fme_regions np_fme_regions (cme_regions t W) (by decide) (Nat.le_of_ble_eq_true rfl) h2 (by decide) (by decide +kernel)) (fun q3 _ => ?_)
  refine j_icmp_ge hx (off := 107) (tgt := 120) (by decide +kernel) (by decide) (fun _ => ?_) (fun _ => ?_)
  · refine j_runA hx 2 (tb := [(120, .iconst 0), (121, .istore 4)]) (jtb_ok (by decide +kernel)) (pc' := 123) (lv' := [(4, vI (kI 0)), (0, vR t), (1, vR a1), (2, vI l2), (3, vI l3)]) (st' := []) rfl ?_
    refine j_lv (lv' := [(0, vR t), (1, vR a1), (3, vI l3), (4, vI (kI 0))]) ⟨rfl, rfl, rfl, rfl, trivial⟩ ?_
    exact k123 l3 (kI 0) W
  refine j_runA hx 1 (tb := [(16, .aload_n 0)]) (jtb_ok (by decide +kernel)) (pc' := 17) (lv' := [(0, vR t), (1, vR a1), (2, vI l2), (3, vI l3), (4, vI l4)]) (st' := [vR t]) rfl ?_
  refine j_getR hx flX17_16 kl1203 h2 (by decide) (by decide +kernel) ?_
  refine j_runA hx 2 (tb := [(20, .iload 4), (22, .iload_n 2)]) (jtb_ok (by decide +kernel)) (pc' := 23) (lv' := [(0, vR t), (1, vR a1), (2, vI l2), (3, vI l3), (4, vI l4)]) (st' := [vI l2, vI l4, vR (jR W 1203 t)]) rfl ?_
  refine j_gd (fun h4 => ?_)
  refine j_iast hx (f := 1203) (o := t) kd1203 rfl (by decide +kernel) h4 ?_
  refine j_ltw rfl (fun W5 hc6 => ?_)
  have h7 : jC W5 t = 12 := (congrFun hc6 _).trans h2
  refine j_runA hx 1 (tb := [(24, .aload_n 0)]) (jtb_ok (by decide +kernel)) (pc' := 25) (lv' := [(0, vR t), (1, vR a1), (2, vI l2), (3, vI l3), (4, vI l4)]) (st' := [vR t]) rfl ?_
  refine j_getR hx flX17_20 kl1204 h7 (by decide) (by decide +kernel) ?_
  refine j_runA hx 2 (tb := [(28, .iload 4), (30, .iload_n 3)]) (jtb_ok (by decide +kernel)) (pc' := 31) (lv' := [(0, vR t), (1, vR a1), (2, vI l2), (3, vI l3), (4, vI l4)]) (st' := [vI l3, vI l4, vR (jR W5 1204 t)]) rfl ?_
  refine j_gd (fun h9 => ?_)
  refine j_iast hx (f := 1204) (o := t) kd1204 rfl (by decide +kernel) h9 ?_
  refine j_ltw rfl (fun W10 hc11 => ?_)
  have h12 : jC W10 t = 12 := (congrFun hc11 _).trans h7
  refine j_runA hx 2 (tb := [(32, .aload_n 0), (33, .iload 4)]) (jtb_ok (by decide +kernel)) (pc' := 35) (lv' := [(0, vR t), (1, vR a1), (2, vI l2), (3, vI l3), (4, vI l4)]) (st' := [vI l4, vR t]) rfl ?_
  refine j_OI (j_callV (av := [vI l4]) (st := []) hx hr (Or.inl q1990) q1992 qs74 rfl md_fme_sizeOf np_fme_sizeOf (cme_sizeOf t l4 W10) (by decide) (Nat.le_of_ble_eq_true rfl) h12 (by decide) (by decide +kernel)) (fun q14 _ => ?_)
  refine j_runA hx 3 (tb := [(38, .istore 5), (40, .iconst 0), (41, .istore 6)]) (jtb_ok (by decide +kernel)) (pc' := 43) (lv' := [(6, vI (kI 0)), (5, vI q14), (0, vR t), (1, vR a1), (2, vI l2), (3, vI l3), (4, vI l4)]) (st' := []) rfl ?_
  refine j_lv (lv' := [(0, vR t), (1, vR a1), (2, vI l2), (3, vI l3), (4, vI l4), (5, vI q14), (6, vI (kI 0))]) ⟨rfl, rfl, rfl, rfl, rfl, rfl, rfl, trivial⟩ ?_
  exact k43 l2 l3 l4 q14 (kI 0) W10
theorem wme_begin {x : jCx} {en : (fme_begin_S ⊕ (jW)) → Option (Outcome × jW)} {t : Nat} {a1 : Nat} (h : hme_begin x en t a1) (W : jW) : jJ x 7 0 [(0, vR t), (1, vR a1)] [] W (fme_begin_0 t a1 W) en := by
  have h0 := h
  obtain ⟨hx, hm, hr, he, k7, k43, k123⟩ := h0
  unfold fme_begin_0
  refine j_runA hx 6 (tb := [(0, .iconst 0), (1, .istore_n 2), (2, .iconst 0), (3, .istore_n 3), (4, .iconst 0), (5, .istore 4)]) (jtb_ok (by decide +kernel)) (pc' := 7) (lv' := [(4, vI (kI 0)), (3, vI (kI 0)), (2, vI (kI 0)), (0, vR t), (1, vR a1)]) (st' := []) rfl ?_
  refine j_lv (lv' := [(0, vR t), (1, vR a1), (2, vI (kI 0)), (3, vI (kI 0)), (4, vI (kI 0))]) ⟨rfl, rfl, rfl, rfl, rfl, trivial⟩ ?_
  exact k7 (kI 0) (kI 0) (kI 0) W
theorem cme_begin (t : Nat) (a1 : Nat) (W : jW) : jM yX17_begin cX17_begin 7 (Option.none : Option Jvm.ClassFile.FieldType) [] 3 42 [vR t, vR a1] W ((fme_begin t a1 W).bind (fun q => some (.returned none, q))) := by
  refine jM.of (Nat.le_of_ble_eq_true rfl) (fun x hx hm hr => ?_)
  refine j_begin (P := (Sum.elim (fun s => (7, [(0, vR t), (1, vR a1), (2, vI s.1), (3, vI s.2.1), (4, vI s.2.2.1)], s.2.2.2)) (Sum.elim (fun s => (43, [(0, vR t), (1, vR a1), (2, vI s.1), (3, vI s.2.1), (4, vI s.2.2.1), (5, vI s.2.2.2.1), (6, vI s.2.2.2.2.1)], s.2.2.2.2.2)) (fun s => (123, [(0, vR t), (1, vR a1), (3, vI s.1), (4, vI s.2.1)], s.2.2))))) (fun en he hk => ?_)
  have h : hme_begin x en t a1 := ⟨hx, hm, hr, fun q => he _, fun l2 l3 l4 W => hk (.inl (l2, l3, l4, W)), fun l2 l3 l4 l5 l6 W => hk (.inr (.inl (l2, l3, l4, l5, l6, W))), fun l3 l4 W => hk (.inr (.inr (l3, l4, W)))⟩
  refine ⟨fun s => ?_, wme_begin h W⟩
  rcases s with s | s | s
  · exact wme_begin_7 h s.1 s.2.1 s.2.2.1 s.2.2.2
  · exact wme_begin_43 h s.1 s.2.1 s.2.2.1 s.2.2.2.1 s.2.2.2.2.1 s.2.2.2.2.2
  · exact wme_begin_123 h s.1 s.2.1 s.2.2
def hme_addressOf (x : jCx) (en : (Int64) → Option (Outcome × jW)) (t : Nat) (a1 : Int32) (W : jW) : Prop :=
  jOK x RX17 cX17_addressOf 2 ∧
  jMt x "addressOf" (Option.some Jvm.ClassFile.FieldType.long) [] ∧
  jRm x 2 25 ∧
  (∀ q : Int64, en q = some (.returned (some (.long q)), W))
theorem wme_addressOf {x : jCx} {en : (Int64) → Option (Outcome × jW)} {W : jW} {t : Nat} {a1 : Int32} (h : hme_addressOf x en t a1 W) : jJ x 2 0 [(0, vR t), (1, vI a1)] [] W (fme_addressOf t a1 W) en := by
  have h0 := h
  obtain ⟨hx, hm, hr, he⟩ := h0
  unfold fme_addressOf
  refine j_runA hx 2 (tb := [(0, .iload_n 1), (1, .aload_n 0)]) (jtb_ok (by decide +kernel)) (pc' := 2) (lv' := [(0, vR t), (1, vI a1)]) (st' := [vR t, vI a1]) rfl ?_
  refine j_gd (fun h1 => ?_)
  refine j_OI (j_callV (av := []) (st := [vI a1]) hx hr (Or.inl q1994) q1996 qs75 rfl md_fme_stack np_fme_stack (cme_stack t W) (by decide) (Nat.le_of_ble_eq_true rfl) h1 (by decide) (by decide +kernel)) (fun q2 _ => ?_)
  refine j_icmp_ne hx (off := 9) (tgt := 14) (by decide +kernel) (by decide) (fun _ => ?_) (fun _ => ?_)
  · refine j_runA hx 1 (tb := [(14, .aload_n 0)]) (jtb_ok (by decide +kernel)) (pc' := 15) (lv' := [(0, vR t), (1, vI a1)]) (st' := [vR t]) rfl ?_
    refine j_getR hx flX17_29 kl1200 h1 (by decide) (by decide +kernel) ?_
    refine j_gd (fun h3 => ?_)
    refine j_getR hx flX17_37 kl201 h3 (by decide) (by decide +kernel) ?_
    refine j_gd (fun h4 => ?_)
    refine j_getR hx flX17_58 kl408 h4 (by decide) (by decide +kernel) ?_
    refine j_runA hx 1 (tb := [(24, .iload_n 1)]) (jtb_ok (by decide +kernel)) (pc' := 25) (lv' := [(0, vR t), (1, vI a1)]) (st' := [vI a1, vR (jR W 408 (jR W 201 (jR W 1200 t)))]) rfl ?_
    refine j_gd (fun h5 => ?_)
    refine j_lald hx (f := 408) (o := (jR W 201 (jR W 1200 t))) kd408 rfl (by decide +kernel) h5 ?_
    exact j_lret hx hm (by decide +kernel) (he _)
  refine j_ldc2 hx (v := (kJ 2147418112)) (jkd2 q2020 (by decide +kernel)) (by decide +kernel) ?_
  refine j_goto hx (off := 15) (by decide +kernel) (tgt := 26) (by decide) ?_
  exact j_lret hx hm (by decide +kernel) (he _)
theorem cme_addressOf (t : Nat) (a1 : Int32) (W : jW) : jM yX17_addressOf cX17_addressOf 2 (Option.some Jvm.ClassFile.FieldType.long) [] 2 25 [vR t, vI a1] W ((fme_addressOf t a1 W).bind (fun q => some (.returned (some (.long q)), W))) := 
  jM.of (Nat.le_of_ble_eq_true rfl) (fun x hx hm hr => wme_addressOf ⟨hx, hm, hr, fun _ => rfl⟩)
def hme_regionOf (x : jCx) (en : (fme_regionOf_S ⊕ (Int32)) → Option (Outcome × jW)) (t : Nat) (a1 : Int64) (a3 : Int32) (W : jW) : Prop :=
  jOK x RX17 cX17_regionOf 7 ∧
  jMt x "regionOf" (Option.some Jvm.ClassFile.FieldType.int) [] ∧
  jRm x 3 40 ∧
  (∀ q : Int32, en (.inr q) = some (.returned (some (.int q)), W)) ∧
  (∀ (l4 : Int32), jJ x 7 3 [(0, vR t), (1, vL a1), (3, vI a3), (4, vI l4)] [] W (some (.inl l4)) en)
theorem wme_regionOf_47 {x : jCx} {en : (fme_regionOf_S ⊕ (Int32)) → Option (Outcome × jW)} {W : jW} {t : Nat} {a1 : Int64} {a3 : Int32} (h : hme_regionOf x en t a1 a3 W) (l4 : Int32) : jJ x 7 47 [(0, vR t), (1, vL a1), (3, vI a3), (4, vI l4)] [] W (fme_regionOf_47 t a1 a3 l4 W) en := by
  have h0 := h
  obtain ⟨hx, hm, hr, he, k3⟩ := h0
  unfold fme_regionOf_47
  refine j_runA hx 1 (tb := [(47, .iinc 4 1)]) (jtb_ok (by decide +kernel)) (pc' := 50) (lv' := [(4, vI (l4 + (kI 1))), (0, vR t), (1, vL a1), (3, vI a3)]) (st' := []) rfl ?_
  refine j_let (v := (l4 + (kI 1))) (lv := fun v8 => [(4, vI v8), (0, vR t), (1, vL a1), (3, vI a3)]) (st := fun _ => []) (fun v8 => ?_)
  refine j_goto hx (off := -47) (by decide +kernel) (tgt := 3) (by decide) ?_
  refine j_lv (lv' := [(0, vR t), (1, vL a1), (3, vI a3), (4, vI v8)]) ⟨rfl, rfl, rfl, rfl, trivial⟩ ?_
  exact k3 v8
theorem wme_regionOf_3 {x : jCx} {en : (fme_regionOf_S ⊕ (Int32)) → Option (Outcome × jW)} {W : jW} {t : Nat} {a1 : Int64} {a3 : Int32} (h : hme_regionOf x en t a1 a3 W) (l4 : Int32) : jJ x 7 3 [(0, vR t), (1, vL a1), (3, vI a3), (4, vI l4)] [] W (fme_regionOf_3 t a1 a3 l4 W) en := by
  have h0 := h
  obtain ⟨hx, hm, hr, he, k3⟩ := h0
  unfold fme_regionOf_3
  refine j_runA hx 2 (tb := [(3, .iload 4), (5, .aload_n 0)]) (jtb_ok (by decide +kernel)) (pc' := 6) (lv' := [(0, vR t), (1, vL a1), (3, vI a3), (4, vI l4)]) (st' := [vR t, vI l4]) rfl ?_
  refine j_gd (fun h2 => ?_)
  refine j_OI (j_callV (av := []) (st := [vI l4]) hx hr (Or.inl q1986) q1988 qs73 rfl md_fme_regions np_fme_regions (cme_regions t W) (by decide) (Nat.le_of_ble_eq_true rfl) h2 (by decide) (by decide +kernel)) (fun q3 _ => ?_)
  refine j_icmp_ge hx (off := 44) (tgt := 53) (by decide +kernel) (by decide) (fun _ => ?_) (fun _ => ?_)
  · refine j_runA hx 1 (tb := [(53, .iconst (-1))]) (jtb_ok (by decide +kernel)) (pc' := 54) (lv' := [(0, vR t), (1, vL a1), (3, vI a3), (4, vI l4)]) (st' := [vI (kI (-1))]) rfl ?_
    exact j_iret hx hm (by decide +kernel) rfl (he _)
  refine j_runA hx 3 (tb := [(12, .lload_n 1), (13, .aload_n 0), (14, .iload 4)]) (jtb_ok (by decide +kernel)) (pc' := 16) (lv' := [(0, vR t), (1, vL a1), (3, vI a3), (4, vI l4)]) (st' := [vI l4, vR t, vL a1]) rfl ?_
  refine j_OL (j_callV (av := [vI l4]) (st := [vL a1]) hx hr (Or.inl q2016) q2018 qs77 rfl md_fme_addressOf np_fme_addressOf (cme_addressOf t l4 W) (by decide) (Nat.le_of_ble_eq_true rfl) h2 (by decide) (by decide +kernel)) (fun q4 _ => ?_)
  refine j_runA hx 2 (tb := [(19, .lsub), (20, .lstore 5)]) (jtb_ok (by decide +kernel)) (pc' := 22) (lv' := [(5, vL (a1 - q4)), (0, vR t), (1, vL a1), (3, vI a3), (4, vI l4)]) (st' := []) rfl ?_
  refine j_let (v := (a1 - q4)) (lv := fun v5 => [(5, vL v5), (0, vR t), (1, vL a1), (3, vI a3), (4, vI l4)]) (st := fun _ => []) (fun v5 => ?_)
  refine j_runA hx 2 (tb := [(22, .lload 5), (24, .lconst 0)]) (jtb_ok (by decide +kernel)) (pc' := 25) (lv' := [(5, vL v5), (0, vR t), (1, vL a1), (3, vI a3), (4, vI l4)]) (st' := [vL (kJ 0), vL v5]) rfl ?_
  refine j_lcmp_lt hx (off := 21) (tgt := 47) (by decide +kernel) (by decide +kernel) (by decide) (fun _ => ?_) (fun _ => ?_)
  · refine j_lv (lv' := [(0, vR t), (1, vL a1), (3, vI a3), (4, vI l4)]) ⟨rfl, rfl, rfl, rfl, trivial⟩ ?_
    exact wme_regionOf_47 h l4
  refine j_runA hx 3 (tb := [(29, .lload 5), (31, .aload_n 0), (32, .iload 4)]) (jtb_ok (by decide +kernel)) (pc' := 34) (lv' := [(5, vL v5), (0, vR t), (1, vL a1), (3, vI a3), (4, vI l4)]) (st' := [vI l4, vR t, vL v5]) rfl ?_
  refine j_OI (j_callV (av := [vI l4]) (st := [vL v5]) hx hr (Or.inl q1990) q1992 qs74 rfl md_fme_sizeOf np_fme_sizeOf (cme_sizeOf t l4 W) (by decide) (Nat.le_of_ble_eq_true rfl) h2 (by decide) (by decide +kernel)) (fun q6 _ => ?_)
  refine j_runA hx 3 (tb := [(37, .iload_n 3), (38, .isub), (39, .i2l)]) (jtb_ok (by decide +kernel)) (pc' := 40) (lv' := [(5, vL v5), (0, vR t), (1, vL a1), (3, vI a3), (4, vI l4)]) (st' := [vL ((q6 - a3).toInt64), vL v5]) rfl ?_
  refine j_lcmp_gt hx (off := 6) (tgt := 47) (by decide +kernel) (by decide +kernel) (by decide) (fun _ => ?_) (fun _ => ?_)
  · refine j_lv (lv' := [(0, vR t), (1, vL a1), (3, vI a3), (4, vI l4)]) ⟨rfl, rfl, rfl, rfl, trivial⟩ ?_
    exact wme_regionOf_47 h l4
  refine j_runA hx 1 (tb := [(44, .iload 4)]) (jtb_ok (by decide +kernel)) (pc' := 46) (lv' := [(5, vL v5), (0, vR t), (1, vL a1), (3, vI a3), (4, vI l4)]) (st' := [vI l4]) rfl ?_
  exact j_iret hx hm (by decide +kernel) rfl (he _)
theorem wme_regionOf {x : jCx} {en : (fme_regionOf_S ⊕ (Int32)) → Option (Outcome × jW)} {W : jW} {t : Nat} {a1 : Int64} {a3 : Int32} (h : hme_regionOf x en t a1 a3 W) : jJ x 7 0 [(0, vR t), (1, vL a1), (3, vI a3)] [] W (fme_regionOf_0 t a1 a3 W) en := by
  have h0 := h
  obtain ⟨hx, hm, hr, he, k3⟩ := h0
  unfold fme_regionOf_0
  refine j_runA hx 2 (tb := [(0, .iconst 0), (1, .istore 4)]) (jtb_ok (by decide +kernel)) (pc' := 3) (lv' := [(4, vI (kI 0)), (0, vR t), (1, vL a1), (3, vI a3)]) (st' := []) rfl ?_
  refine j_lv (lv' := [(0, vR t), (1, vL a1), (3, vI a3), (4, vI (kI 0))]) ⟨rfl, rfl, rfl, rfl, trivial⟩ ?_
  exact k3 (kI 0)
theorem cme_regionOf (t : Nat) (a1 : Int64) (a3 : Int32) (W : jW) : jM yX17_regionOf cX17_regionOf 7 (Option.some Jvm.ClassFile.FieldType.int) [] 3 40 [vR t, vL a1, vI a3] W ((fme_regionOf t a1 a3 W).bind (fun q => some (.returned (some (.int q)), W))) := by
  refine jM.of (Nat.le_of_ble_eq_true rfl) (fun x hx hm hr => ?_)
  refine j_begin (P := (fun s => (3, [(0, vR t), (1, vL a1), (3, vI a3), (4, vI s)], W))) (fun en he hk => ?_)
  have h : hme_regionOf x en t a1 a3 W := ⟨hx, hm, hr, fun q => he _, fun l4 => hk l4⟩
  exact ⟨fun s => wme_regionOf_3 h s, wme_regionOf h⟩
def hme_cellOf (x : jCx) (en : (Int32) → Option (Outcome × jW)) (t : Nat) (a1 : Int32) (a2 : Int64) (W : jW) : Prop :=
  jOK x RX17 cX17_cellOf 4 ∧
  jMt x "cellOf" (Option.some Jvm.ClassFile.FieldType.int) [] ∧
  jRm x 3 41 ∧
  (∀ q : Int32, en q = some (.returned (some (.int q)), W))
theorem wme_cellOf {x : jCx} {en : (Int32) → Option (Outcome × jW)} {W : jW} {t : Nat} {a1 : Int32} {a2 : Int64} (h : hme_cellOf x en t a1 a2 W) : jJ x 4 0 [(0, vR t), (1, vI a1), (2, vL a2)] [] W (fme_cellOf t a1 a2 W) en := by
  have h0 := h
  obtain ⟨hx, hm, hr, he⟩ := h0
  unfold fme_cellOf
  refine j_runA hx 1 (tb := [(0, .aload_n 0)]) (jtb_ok (by decide +kernel)) (pc' := 1) (lv' := [(0, vR t), (1, vI a1), (2, vL a2)]) (st' := [vR t]) rfl ?_
  refine j_gd (fun h1 => ?_)
  refine j_getR hx flX17_20 kl1204 h1 (by decide) (by decide +kernel) ?_
  refine j_runA hx 1 (tb := [(4, .iload_n 1)]) (jtb_ok (by decide +kernel)) (pc' := 5) (lv' := [(0, vR t), (1, vI a1), (2, vL a2)]) (st' := [vI a1, vR (jR W 1204 t)]) rfl ?_
  refine j_gd (fun h2 => ?_)
  refine j_iald hx (f := 1204) (o := t) kd1204 rfl (by decide +kernel) h2 ?_
  refine j_runA hx 5 (tb := [(6, .lload_n 2), (7, .iconst 3), (8, .lshr), (9, .aload_n 0), (10, .iload_n 1)]) (jtb_ok (by decide +kernel)) (pc' := 11) (lv' := [(0, vR t), (1, vI a1), (2, vL a2)]) (st' := [vI a1, vR t, vL (lxr a2 (kI 3)), vI (jA W 1204 t (ix a1))]) rfl ?_
  refine j_OL (j_callV (av := [vI a1]) (st := [vL (lxr a2 (kI 3)), vI (jA W 1204 t (ix a1))]) hx hr (Or.inl q2016) q2018 qs77 rfl md_fme_addressOf np_fme_addressOf (cme_addressOf t a1 W) (by decide) (Nat.le_of_ble_eq_true rfl) h1 (by decide) (by decide +kernel)) (fun q3 _ => ?_)
  refine j_runA hx 5 (tb := [(14, .iconst 3), (15, .lshr), (16, .lsub), (17, .l2i), (18, .iadd)]) (jtb_ok (by decide +kernel)) (pc' := 19) (lv' := [(0, vR t), (1, vI a1), (2, vL a2)]) (st' := [vI ((jA W 1204 t (ix a1)) + (((lxr a2 (kI 3)) - (lxr q3 (kI 3))).toInt32))]) rfl ?_
  exact j_iret hx hm (by decide +kernel) rfl (he _)
theorem cme_cellOf (t : Nat) (a1 : Int32) (a2 : Int64) (W : jW) : jM yX17_cellOf cX17_cellOf 4 (Option.some Jvm.ClassFile.FieldType.int) [] 3 41 [vR t, vI a1, vL a2] W ((fme_cellOf t a1 a2 W).bind (fun q => some (.returned (some (.int q)), W))) := 
  jM.of (Nat.le_of_ble_eq_true rfl) (fun x hx hm hr => wme_cellOf ⟨hx, hm, hr, fun _ => rfl⟩)
def hme_tell (x : jCx) (en : (jW) → Option (Outcome × jW)) (t : Nat) (a1 : Int32) (a2 : Int64) (a4 : Int32) (a5 : Int32) : Prop :=
  jOK x RX17 cX17_tell 6 ∧
  jMt x "tell" (Option.none : Option Jvm.ClassFile.FieldType) [] ∧
  jRm x 4 57 ∧
  (∀ q : jW, en q = some (.returned none, q))
theorem wme_tell {x : jCx} {en : (jW) → Option (Outcome × jW)} {t : Nat} {a1 : Int32} {a2 : Int64} {a4 : Int32} {a5 : Int32} (h : hme_tell x en t a1 a2 a4 a5) (W : jW) : jJ x 6 0 [(0, vR t), (1, vI a1), (2, vL a2), (4, vI a4), (5, vI a5)] [] W (fme_tell t a1 a2 a4 a5 W) en := by
  have h0 := h
  obtain ⟨hx, hm, hr, he⟩ := h0
  unfold fme_tell
  refine j_runA hx 1 (tb := [(0, .aload_n 0)]) (jtb_ok (by decide +kernel)) (pc' := 1) (lv' := [(0, vR t), (1, vI a1), (2, vL a2), (4, vI a4), (5, vI a5)]) (st' := [vR t]) rfl ?_
  refine j_gd (fun h1 => ?_)
  refine j_getR hx flX17_23 kl1205 h1 (by decide) (by decide +kernel) ?_
  refine j_runA hx 3 (tb := [(4, .aload_n 0), (5, .iload_n 1), (6, .lload_n 2)]) (jtb_ok (by decide +kernel)) (pc' := 7) (lv' := [(0, vR t), (1, vI a1), (2, vL a2), (4, vI a4), (5, vI a5)]) (st' := [vL a2, vI a1, vR t, vR (jR W 1205 t)]) rfl ?_
  refine j_OI (j_callV (av := [vI a1, vL a2]) (st := [vR (jR W 1205 t)]) hx hr (Or.inl q2025) q2026 q2027 rfl md_fme_cellOf np_fme_cellOf (cme_cellOf t a1 a2 W) (by decide) (Nat.le_of_ble_eq_true rfl) h1 (by decide) (by decide +kernel)) (fun q2 _ => ?_)
  refine j_runA hx 2 (tb := [(10, .iload 4), (12, .i2b)]) (jtb_ok (by decide +kernel)) (pc' := 13) (lv' := [(0, vR t), (1, vI a1), (2, vL a2), (4, vI a4), (5, vI a5)]) (st' := [vI (i2b a4), vI q2, vR (jR W 1205 t)]) rfl ?_
  refine j_gd (fun h3 => ?_)
  refine j_bast hx (f := 1205) (o := t) kd1205 rfl (by decide +kernel) h3 ?_
  refine j_ltw rfl (fun W4 hc5 => ?_)
  have h6 : jC W4 t = 12 := (congrFun hc5 _).trans h1
  refine j_runA hx 1 (tb := [(14, .aload_n 0)]) (jtb_ok (by decide +kernel)) (pc' := 15) (lv' := [(0, vR t), (1, vI a1), (2, vL a2), (4, vI a4), (5, vI a5)]) (st' := [vR t]) rfl ?_
  refine j_getR hx flX17_26 kl1206 h6 (by decide) (by decide +kernel) ?_
  refine j_runA hx 3 (tb := [(18, .aload_n 0), (19, .iload_n 1), (20, .lload_n 2)]) (jtb_ok (by decide +kernel)) (pc' := 21) (lv' := [(0, vR t), (1, vI a1), (2, vL a2), (4, vI a4), (5, vI a5)]) (st' := [vL a2, vI a1, vR t, vR (jR W4 1206 t)]) rfl ?_
  refine j_OI (j_callV (av := [vI a1, vL a2]) (st := [vR (jR W4 1206 t)]) hx hr (Or.inl q2025) q2026 q2027 rfl md_fme_cellOf np_fme_cellOf (cme_cellOf t a1 a2 W4) (by decide) (Nat.le_of_ble_eq_true rfl) h6 (by decide) (by decide +kernel)) (fun q8 _ => ?_)
  refine j_runA hx 1 (tb := [(24, .iload 5)]) (jtb_ok (by decide +kernel)) (pc' := 26) (lv' := [(0, vR t), (1, vI a1), (2, vL a2), (4, vI a4), (5, vI a5)]) (st' := [vI a5, vI q8, vR (jR W4 1206 t)]) rfl ?_
  refine j_gd (fun h9 => ?_)
  refine j_iast hx (f := 1206) (o := t) kd1206 rfl (by decide +kernel) h9 ?_
  refine j_ltw rfl (fun W10 hc11 => ?_)
  have h12 : jC W10 t = 12 := (congrFun hc11 _).trans h6
  exact j_vret hx hm (by decide +kernel) (he _)
theorem cme_tell (t : Nat) (a1 : Int32) (a2 : Int64) (a4 : Int32) (a5 : Int32) (W : jW) : jM yX17_tell cX17_tell 6 (Option.none : Option Jvm.ClassFile.FieldType) [] 4 57 [vR t, vI a1, vL a2, vI a4, vI a5] W ((fme_tell t a1 a2 a4 a5 W).bind (fun q => some (.returned none, q))) := 
  jM.of (Nat.le_of_ble_eq_true rfl) (fun x hx hm hr => wme_tell ⟨hx, hm, hr, fun _ => rfl⟩ W)
def hma_tellCode (x : jCx) (en : (fma_tellCode_S ⊕ (jW)) → Option (Outcome × jW)) (t : Nat) : Prop :=
  jOK x RX15 cX15_tellCode 8 ∧
  jMt x "tellCode" (Option.none : Option Jvm.ClassFile.FieldType) [] ∧
  jRm x 9 123 ∧
  (∀ q : jW, en (.inr q) = some (.returned none, q)) ∧
  (∀ (l1 : Nat) (l2 : Int32) (W : jW), jJ x 8 10 [(0, vR t), (1, vR l1), (2, vI l2)] [] W (some (.inl (.inl (l1, l2, W)))) en) ∧
  (∀ (l1 : Nat) (l2 : Int32) (l3 : Int32) (W : jW), jJ x 8 46 [(0, vR t), (1, vR l1), (2, vI l2), (3, vI l3)] [] W (some (.inl (.inr (l1, l2, l3, W)))) en)
theorem wma_tellCode_137 {x : jCx} {en : (fma_tellCode_S ⊕ (jW)) → Option (Outcome × jW)} {t : Nat} (h : hma_tellCode x en t) (l1 : Nat) (l2 : Int32) (W : jW) : jJ x 8 137 [(0, vR t), (1, vR l1), (2, vI l2)] [] W (fma_tellCode_137 t l1 l2 W) en := by
  have h0 := h
  obtain ⟨hx, hm, hr, he, k10, k46⟩ := h0
  unfold fma_tellCode_137
  refine j_runA hx 1 (tb := [(137, .iinc 2 1)]) (jtb_ok (by decide +kernel)) (pc' := 140) (lv' := [(2, vI (l2 + (kI 1))), (0, vR t), (1, vR l1)]) (st' := []) rfl ?_
  refine j_let (v := (l2 + (kI 1))) (lv := fun v30 => [(2, vI v30), (0, vR t), (1, vR l1)]) (st := fun _ => []) (fun v30 => ?_)
  refine j_goto hx (off := -130) (by decide +kernel) (tgt := 10) (by decide) ?_
  refine j_lv (lv' := [(0, vR t), (1, vR l1), (2, vI v30)]) ⟨rfl, rfl, rfl, trivial⟩ ?_
  exact k10 l1 v30 W
theorem wma_tellCode_131 {x : jCx} {en : (fma_tellCode_S ⊕ (jW)) → Option (Outcome × jW)} {t : Nat} (h : hma_tellCode x en t) (l1 : Nat) (l2 : Int32) (l3 : Int32) (W : jW) : jJ x 8 131 [(0, vR t), (1, vR l1), (2, vI l2), (3, vI l3)] [] W (fma_tellCode_131 t l1 l2 l3 W) en := by
  have h0 := h
  obtain ⟨hx, hm, hr, he, k10, k46⟩ := h0
  unfold fma_tellCode_131
  refine j_runA hx 1 (tb := [(131, .iinc 3 1)]) (jtb_ok (by decide +kernel)) (pc' := 134) (lv' := [(3, vI (l3 + (kI 1))), (0, vR t), (1, vR l1), (2, vI l2)]) (st' := []) rfl ?_
  refine j_let (v := (l3 + (kI 1))) (lv := fun v28 => [(3, vI v28), (0, vR t), (1, vR l1), (2, vI l2)]) (st := fun _ => []) (fun v28 => ?_)
  refine j_goto hx (off := -88) (by decide +kernel) (tgt := 46) (by decide) ?_
  refine j_lv (lv' := [(0, vR t), (1, vR l1), (2, vI l2), (3, vI v28)]) ⟨rfl, rfl, rfl, rfl, trivial⟩ ?_
  exact k46 l1 l2 v28 W
theorem wma_tellCode_85 {x : jCx} {en : (fma_tellCode_S ⊕ (jW)) → Option (Outcome × jW)} {t : Nat} (h : hma_tellCode x en t) (l1 : Nat) (l2 : Int32) (l3 : Int32) (l4 : Int32) (s0 : Int32) (W : jW) : jJ x 8 85 [(0, vR t), (1, vR l1), (2, vI l2), (3, vI l3), (4, vI l4)] [vI s0] W (fma_tellCode_85 t l1 l2 l3 l4 s0 W) en := by
  have h0 := h
  obtain ⟨hx, hm, hr, he, k10, k46⟩ := h0
  unfold fma_tellCode_85
  refine j_runA hx 3 (tb := [(85, .istore 5), (87, .aload_n 1), (88, .iload 4)]) (jtb_ok (by decide +kernel)) (pc' := 90) (lv' := [(5, vI s0), (0, vR t), (1, vR l1), (2, vI l2), (3, vI l3), (4, vI l4)]) (st' := [vI l4, vR l1]) rfl ?_
  refine j_gd (fun h18 => ?_)
  refine j_OL (j_callV (av := [vI l4]) (st := []) hx hr (Or.inl q2011) q920 q921 rfl md_fsh_fixPlace np_fsh_fixPlace (csh_fixPlace l1 l4 W) (by decide) (Nat.le_of_ble_eq_true rfl) h18 (by decide) (by decide +kernel)) (fun q19 _ => ?_)
  refine j_runA hx 2 (tb := [(93, .lstore 6), (95, .iload 5)]) (jtb_ok (by decide +kernel)) (pc' := 97) (lv' := [(6, vL q19), (5, vI s0), (0, vR t), (1, vR l1), (2, vI l2), (3, vI l3), (4, vI l4)]) (st' := [vI s0]) rfl ?_
  refine j_if_lt hx (off := 34) (tgt := 131) (by decide +kernel) (by decide) (fun _ => ?_) (fun _ => ?_)
  · refine j_lv (lv' := [(0, vR t), (1, vR l1), (2, vI l2), (3, vI l3)]) ⟨rfl, rfl, rfl, rfl, trivial⟩ ?_
    exact wma_tellCode_131 h l1 l2 l3 W
  refine j_runA hx 1 (tb := [(100, .aload_n 0)]) (jtb_ok (by decide +kernel)) (pc' := 101) (lv' := [(6, vL q19), (5, vI s0), (0, vR t), (1, vR l1), (2, vI l2), (3, vI l3), (4, vI l4)]) (st' := [vR t]) rfl ?_
  refine j_gd (fun h20 => ?_)
  refine j_getR hx flX15_60 kl1005 h20 (by decide) (by decide +kernel) ?_
  refine j_runA hx 1 (tb := [(104, .aload_n 0)]) (jtb_ok (by decide +kernel)) (pc' := 105) (lv' := [(6, vL q19), (5, vI s0), (0, vR t), (1, vR l1), (2, vI l2), (3, vI l3), (4, vI l4)]) (st' := [vR t, vR (jR W 1005 t)]) rfl ?_
  refine j_getR hx flX15_60 kl1005 h20 (by decide) (by decide +kernel) ?_
  refine j_runA hx 2 (tb := [(108, .lload 6), (110, .bipush 8)]) (jtb_ok (by decide +kernel)) (pc' := 112) (lv' := [(6, vL q19), (5, vI s0), (0, vR t), (1, vR l1), (2, vI l2), (3, vI l3), (4, vI l4)]) (st' := [vI (kI 8), vL q19, vR (jR W 1005 t), vR (jR W 1005 t)]) rfl ?_
  refine j_gd (fun h21 => ?_)
  refine j_OI (j_callV (av := [vL q19, vI (kI 8)]) (st := [vR (jR W 1005 t)]) hx hr (Or.inl q2012) q2013 q2014 rfl md_fme_regionOf np_fme_regionOf (cme_regionOf (jR W 1005 t) q19 (kI 8) W) (by decide) (Nat.le_of_ble_eq_true rfl) h21 (by decide) (by decide +kernel)) (fun q22 _ => ?_)
  refine j_runA hx 3 (tb := [(115, .lload 6), (117, .iconst 1), (118, .aload_n 0)]) (jtb_ok (by decide +kernel)) (pc' := 119) (lv' := [(6, vL q19), (5, vI s0), (0, vR t), (1, vR l1), (2, vI l2), (3, vI l3), (4, vI l4)]) (st' := [vR t, vI (kI 1), vL q19, vI q22, vR (jR W 1005 t)]) rfl ?_
  refine j_getR hx flX15_43 kl1001 h20 (by decide) (by decide +kernel) ?_
  refine j_gd (fun h23 => ?_)
  refine j_getR hx flX15_187 kl206 h23 (by decide) (by decide +kernel) ?_
  refine j_runA hx 1 (tb := [(125, .iload 5)]) (jtb_ok (by decide +kernel)) (pc' := 127) (lv' := [(6, vL q19), (5, vI s0), (0, vR t), (1, vR l1), (2, vI l2), (3, vI l3), (4, vI l4)]) (st' := [vI s0, vR (jR W 206 (jR W 1001 t)), vI (kI 1), vL q19, vI q22, vR (jR W 1005 t)]) rfl ?_
  refine j_gd (fun h24 => ?_)
  refine j_iald hx (f := 206) (o := (jR W 1001 t)) kd206 rfl (by decide +kernel) h24 ?_
  refine j_WV (j_callV (av := [vI q22, vL q19, vI (kI 1), vI (jA W 206 (jR W 1001 t) (ix s0))]) (st := []) hx hr (Or.inl q2021) q2022 q2023 rfl md_fme_tell np_fme_tell (cme_tell (jR W 1005 t) q22 q19 (kI 1) (jA W 206 (jR W 1001 t) (ix s0)) W) (by decide) (Nat.le_of_ble_eq_true rfl) h21 (by decide) (by decide +kernel)) (fun q25 _ => ?_)
  refine j_lv (lv' := [(0, vR t), (1, vR l1), (2, vI l2), (3, vI l3)]) ⟨rfl, rfl, rfl, rfl, trivial⟩ ?_
  exact wma_tellCode_131 h l1 l2 l3 q25
theorem wma_tellCode_46 {x : jCx} {en : (fma_tellCode_S ⊕ (jW)) → Option (Outcome × jW)} {t : Nat} (h : hma_tellCode x en t) (l1 : Nat) (l2 : Int32) (l3 : Int32) (W : jW) : jJ x 8 46 [(0, vR t), (1, vR l1), (2, vI l2), (3, vI l3)] [] W (fma_tellCode_46 t l1 l2 l3 W) en := by
  have h0 := h
  obtain ⟨hx, hm, hr, he, k10, k46⟩ := h0
  unfold fma_tellCode_46
  refine j_runA hx 3 (tb := [(46, .iload_n 3), (47, .aload_n 1), (48, .iload_n 2)]) (jtb_ok (by decide +kernel)) (pc' := 49) (lv' := [(0, vR t), (1, vR l1), (2, vI l2), (3, vI l3)]) (st' := [vI l2, vR l1, vI l3]) rfl ?_
  refine j_gd (fun h10 => ?_)
  refine j_OI (j_callV (av := [vI l2]) (st := [vI l3]) hx hr (Or.inl q2007) q905 q906 rfl md_fsh_fixCount np_fsh_fixCount (csh_fixCount l1 l2 W) (by decide) (Nat.le_of_ble_eq_true rfl) h10 (by decide) (by decide +kernel)) (fun q11 _ => ?_)
  refine j_icmp_ge hx (off := 85) (tgt := 137) (by decide +kernel) (by decide) (fun _ => ?_) (fun _ => ?_)
  · refine j_lv (lv' := [(0, vR t), (1, vR l1), (2, vI l2)]) ⟨rfl, rfl, rfl, trivial⟩ ?_
    exact wma_tellCode_137 h l1 l2 W
  refine j_runA hx 3 (tb := [(55, .aload_n 1), (56, .iload_n 2), (57, .iload_n 3)]) (jtb_ok (by decide +kernel)) (pc' := 58) (lv' := [(0, vR t), (1, vR l1), (2, vI l2), (3, vI l3)]) (st' := [vI l3, vI l2, vR l1]) rfl ?_
  refine j_OI (j_callV (av := [vI l2, vI l3]) (st := []) hx hr (Or.inl q2008) q909 q910 rfl md_fsh_fixAt np_fsh_fixAt (csh_fixAt l1 l2 l3 W) (by decide) (Nat.le_of_ble_eq_true rfl) h10 (by decide) (by decide +kernel)) (fun q12 _ => ?_)
  refine j_runA hx 3 (tb := [(61, .istore 4), (63, .aload_n 1), (64, .iload 4)]) (jtb_ok (by decide +kernel)) (pc' := 66) (lv' := [(4, vI q12), (0, vR t), (1, vR l1), (2, vI l2), (3, vI l3)]) (st' := [vI q12, vR l1]) rfl ?_
  refine j_OI (j_callV (av := [vI q12]) (st := []) hx hr (Or.inl q2009) q913 q914 rfl md_fsh_fixType np_fsh_fixType (csh_fixType l1 q12 W) (by decide) (Nat.le_of_ble_eq_true rfl) h10 (by decide) (by decide +kernel)) (fun q13 _ => ?_)
  refine j_if_ne hx (off := 7) (tgt := 76) (by decide +kernel) (by decide) (fun _ => ?_) (fun _ => ?_)
  · refine j_runA hx 1 (tb := [(76, .aload_n 0)]) (jtb_ok (by decide +kernel)) (pc' := 77) (lv' := [(4, vI q12), (0, vR t), (1, vR l1), (2, vI l2), (3, vI l3)]) (st' := [vR t]) rfl ?_
    refine j_gd (fun h14 => ?_)
    refine j_getR hx flX15_43 kl1001 h14 (by decide) (by decide +kernel) ?_
    refine j_runA hx 1 (tb := [(80, .iload 4)]) (jtb_ok (by decide +kernel)) (pc' := 82) (lv' := [(4, vI q12), (0, vR t), (1, vR l1), (2, vI l2), (3, vI l3)]) (st' := [vI q12, vR (jR W 1001 t)]) rfl ?_
    refine j_gd (fun h15 => ?_)
    refine j_OI (j_callV (av := [vI q12]) (st := []) hx hr (Or.inl q2010) q1121 q1122 rfl md_fpg_targetWord np_fpg_targetWord (cpg_targetWord (jR W 1001 t) q12 W) (by decide) (Nat.le_of_ble_eq_true rfl) h15 (by decide) (by decide +kernel)) (fun q16 _ => ?_)
    refine j_lv (lv' := [(0, vR t), (1, vR l1), (2, vI l2), (3, vI l3), (4, vI q12)]) ⟨rfl, rfl, rfl, rfl, rfl, trivial⟩ ?_
    exact wma_tellCode_85 h l1 l2 l3 q12 q16 W
  refine j_runA hx 1 (tb := [(72, .iconst (-1))]) (jtb_ok (by decide +kernel)) (pc' := 73) (lv' := [(4, vI q12), (0, vR t), (1, vR l1), (2, vI l2), (3, vI l3)]) (st' := [vI (kI (-1))]) rfl ?_
  refine j_goto hx (off := 12) (by decide +kernel) (tgt := 85) (by decide) ?_
  refine j_lv (lv' := [(0, vR t), (1, vR l1), (2, vI l2), (3, vI l3), (4, vI q12)]) ⟨rfl, rfl, rfl, rfl, rfl, trivial⟩ ?_
  exact wma_tellCode_85 h l1 l2 l3 q12 (kI (-1)) W
theorem wma_tellCode_10 {x : jCx} {en : (fma_tellCode_S ⊕ (jW)) → Option (Outcome × jW)} {t : Nat} (h : hma_tellCode x en t) (l1 : Nat) (l2 : Int32) (W : jW) : jJ x 8 10 [(0, vR t), (1, vR l1), (2, vI l2)] [] W (fma_tellCode_10 t l1 l2 W) en := by
  have h0 := h
  obtain ⟨hx, hm, hr, he, k10, k46⟩ := h0
  unfold fma_tellCode_10
  refine j_runA hx 2 (tb := [(10, .iload_n 2), (11, .aload_n 1)]) (jtb_ok (by decide +kernel)) (pc' := 12) (lv' := [(0, vR t), (1, vR l1), (2, vI l2)]) (st' := [vR l1, vI l2]) rfl ?_
  refine j_gd (fun h5 => ?_)
  refine j_getI hx flX15_154 kd403 h5 (by decide) (by decide +kernel) ?_
  refine j_icmp_ge hx (off := 128) (tgt := 143) (by decide +kernel) (by decide) (fun _ => ?_) (fun _ => ?_)
  · exact j_vret hx hm (by decide +kernel) (he _)
  refine j_runA hx 1 (tb := [(18, .aload_n 1)]) (jtb_ok (by decide +kernel)) (pc' := 19) (lv' := [(0, vR t), (1, vR l1), (2, vI l2)]) (st' := [vR l1]) rfl ?_
  refine j_getR hx flX15_157 kl411 h5 (by decide) (by decide +kernel) ?_
  refine j_runA hx 1 (tb := [(22, .iload_n 2)]) (jtb_ok (by decide +kernel)) (pc' := 23) (lv' := [(0, vR t), (1, vR l1), (2, vI l2)]) (st' := [vI l2, vR (jR W 411 l1)]) rfl ?_
  refine j_gd (fun h6 => ?_)
  refine j_iald hx (f := 411) (o := l1) kd411 rfl (by decide +kernel) h6 ?_
  refine j_runA hx 1 (tb := [(24, .iconst 4)]) (jtb_ok (by decide +kernel)) (pc' := 25) (lv' := [(0, vR t), (1, vR l1), (2, vI l2)]) (st' := [vI (kI 4), vI (jA W 411 l1 (ix l2))]) rfl ?_
  refine j_icmp_ne hx (off := 112) (tgt := 137) (by decide +kernel) (by decide) (fun _ => ?_) (fun _ => ?_)
  · exact wma_tellCode_137 h l1 l2 W
  refine j_runA hx 2 (tb := [(28, .aload_n 1), (29, .aload_n 1)]) (jtb_ok (by decide +kernel)) (pc' := 30) (lv' := [(0, vR t), (1, vR l1), (2, vI l2)]) (st' := [vR l1, vR l1]) rfl ?_
  refine j_getR hx flX15_160 kl417 h5 (by decide) (by decide +kernel) ?_
  refine j_runA hx 1 (tb := [(33, .iload_n 2)]) (jtb_ok (by decide +kernel)) (pc' := 34) (lv' := [(0, vR t), (1, vR l1), (2, vI l2)]) (st' := [vI l2, vR (jR W 417 l1), vR l1]) rfl ?_
  refine j_gd (fun h7 => ?_)
  refine j_iald hx (f := 417) (o := l1) kd417 rfl (by decide +kernel) h7 ?_
  refine j_OI (j_callV (av := [vI (jA W 417 l1 (ix l2))]) (st := []) hx hr (Or.inl q2006) q852 q853 rfl md_fsh_isData np_fsh_isData (csh_isData l1 (jA W 417 l1 (ix l2)) W) (by decide) (Nat.le_of_ble_eq_true rfl) h5 (by decide) (by decide +kernel)) (fun q8 _ => ?_)
  refine j_if_ne hx (off := 6) (tgt := 44) (by decide +kernel) (by decide) (fun _ => ?_) (fun _ => ?_)
  · refine j_runA hx 2 (tb := [(44, .iconst 0), (45, .istore_n 3)]) (jtb_ok (by decide +kernel)) (pc' := 46) (lv' := [(3, vI (kI 0)), (0, vR t), (1, vR l1), (2, vI l2)]) (st' := []) rfl ?_
    refine j_lv (lv' := [(0, vR t), (1, vR l1), (2, vI l2), (3, vI (kI 0))]) ⟨rfl, rfl, rfl, rfl, trivial⟩ ?_
    exact k46 l1 l2 (kI 0) W
  refine j_goto hx (off := 96) (by decide +kernel) (tgt := 137) (by decide) ?_
  exact wma_tellCode_137 h l1 l2 W
theorem wma_tellCode {x : jCx} {en : (fma_tellCode_S ⊕ (jW)) → Option (Outcome × jW)} {t : Nat} (h : hma_tellCode x en t) (W : jW) : jJ x 8 0 [(0, vR t)] [] W (fma_tellCode_0 t W) en := by
  have h0 := h
  obtain ⟨hx, hm, hr, he, k10, k46⟩ := h0
  unfold fma_tellCode_0
  refine j_runA hx 1 (tb := [(0, .aload_n 0)]) (jtb_ok (by decide +kernel)) (pc' := 1) (lv' := [(0, vR t)]) (st' := [vR t]) rfl ?_
  refine j_gd (fun h1 => ?_)
  refine j_getR hx flX15_43 kl1001 h1 (by decide) (by decide +kernel) ?_
  refine j_gd (fun h2 => ?_)
  refine j_getR hx flX15_114 kl201 h2 (by decide) (by decide +kernel) ?_
  refine j_runA hx 1 (tb := [(7, .astore_n 1)]) (jtb_ok (by decide +kernel)) (pc' := 8) (lv' := [(1, vR (jR W 201 (jR W 1001 t))), (0, vR t)]) (st' := []) rfl ?_
  refine j_let (v := (jR W 201 (jR W 1001 t))) (lv := fun v3 => [(1, vR v3), (0, vR t)]) (st := fun _ => []) (fun v3 => ?_)
  refine j_runA hx 2 (tb := [(8, .iconst 1), (9, .istore_n 2)]) (jtb_ok (by decide +kernel)) (pc' := 10) (lv' := [(2, vI (kI 1)), (1, vR v3), (0, vR t)]) (st' := []) rfl ?_
  refine j_lv (lv' := [(0, vR t), (1, vR v3), (2, vI (kI 1))]) ⟨rfl, rfl, rfl, trivial⟩ ?_
  exact k10 v3 (kI 1) W
theorem cma_tellCode (t : Nat) (W : jW) : jM yX15_tellCode cX15_tellCode 8 (Option.none : Option Jvm.ClassFile.FieldType) [] 9 123 [vR t] W ((fma_tellCode t W).bind (fun q => some (.returned none, q))) := by
  refine jM.of (Nat.le_of_ble_eq_true rfl) (fun x hx hm hr => ?_)
  refine j_begin (P := (Sum.elim (fun s => (10, [(0, vR t), (1, vR s.1), (2, vI s.2.1)], s.2.2)) (fun s => (46, [(0, vR t), (1, vR s.1), (2, vI s.2.1), (3, vI s.2.2.1)], s.2.2.2)))) (fun en he hk => ?_)
  have h : hma_tellCode x en t := ⟨hx, hm, hr, fun q => he _, fun l1 l2 W => hk (.inl (l1, l2, W)), fun l1 l2 l3 W => hk (.inr (l1, l2, l3, W))⟩
  refine ⟨fun s => ?_, wma_tellCode h W⟩
  rcases s with s | s
  · exact wma_tellCode_10 h s.1 s.2.1 s.2.2
  · exact wma_tellCode_46 h s.1 s.2.1 s.2.2.1 s.2.2.2
def hma_begin (x : jCx) (en : (Int64) → Option (Outcome × jW)) (t : Nat) (W : jW) : Prop :=
  jOK x RX15 cX15_begin 1 ∧
  jMt x "begin" (Option.some Jvm.ClassFile.FieldType.long) [] ∧
  jRm x 2 26 ∧
  (∀ q : Int64, en q = some (.returned (some (.long q)), W))
theorem wma_begin {x : jCx} {en : (Int64) → Option (Outcome × jW)} {W : jW} {t : Nat} (h : hma_begin x en t W) : jJ x 1 0 [(0, vR t)] [] W (fma_begin t W) en := by
  have h0 := h
  obtain ⟨hx, hm, hr, he⟩ := h0
  unfold fma_begin
  refine j_runA hx 1 (tb := [(0, .aload_n 0)]) (jtb_ok (by decide +kernel)) (pc' := 1) (lv' := [(0, vR t)]) (st' := [vR t]) rfl ?_
  refine j_gd (fun h1 => ?_)
  refine j_getR hx flX15_43 kl1001 h1 (by decide) (by decide +kernel) ?_
  refine j_runA hx 1 (tb := [(4, .iconst 0)]) (jtb_ok (by decide +kernel)) (pc' := 5) (lv' := [(0, vR t)]) (st' := [vI (kI 0), vR (jR W 1001 t)]) rfl ?_
  refine j_gd (fun h2 => ?_)
  refine j_OL (j_callV (av := [vI (kI 0)]) (st := []) hx hr (Or.inl q2043) q1609 q1610 rfl md_fpg_addressOf np_fpg_addressOf (cpg_addressOf (jR W 1001 t) (kI 0) W) (by decide) (Nat.le_of_ble_eq_true rfl) h2 (by decide) (by decide +kernel)) (fun q3 _ => ?_)
  exact j_lret hx hm (by decide +kernel) (he _)
theorem cma_begin (t : Nat) (W : jW) : jM yX15_begin cX15_begin 1 (Option.some Jvm.ClassFile.FieldType.long) [] 2 26 [vR t] W ((fma_begin t W).bind (fun q => some (.returned (some (.long q)), W))) := 
  jM.of (Nat.le_of_ble_eq_true rfl) (fun x hx hm hr => wma_begin ⟨hx, hm, hr, fun _ => rfl⟩)
def hma_bytes (x : jCx) (en : (Int32) → Option (Outcome × jW)) (t : Nat) (W : jW) : Prop :=
  jOK x RX15 cX15_bytes 1 ∧
  jMt x "bytes" (Option.some Jvm.ClassFile.FieldType.int) [] ∧
  jRm x 1 12 ∧
  (∀ q : Int32, en q = some (.returned (some (.int q)), W))
theorem wma_bytes {x : jCx} {en : (Int32) → Option (Outcome × jW)} {W : jW} {t : Nat} (h : hma_bytes x en t W) : jJ x 1 0 [(0, vR t)] [] W (fma_bytes t W) en := by
  have h0 := h
  obtain ⟨hx, hm, hr, he⟩ := h0
  unfold fma_bytes
  refine j_runA hx 1 (tb := [(0, .aload_n 0)]) (jtb_ok (by decide +kernel)) (pc' := 1) (lv' := [(0, vR t)]) (st' := [vR t]) rfl ?_
  refine j_gd (fun h1 => ?_)
  refine j_OI (j_callV (av := []) (st := []) hx hr (Or.inl q1978) q1980 qs72 rfl md_fma_isNew np_fma_isNew (cma_isNew t W) (by decide) (Nat.le_of_ble_eq_true rfl) h1 (by decide) (by decide +kernel)) (fun q2 _ => ?_)
  refine j_if_eq hx (off := 13) (tgt := 17) (by decide +kernel) (by decide) (fun _ => ?_) (fun _ => ?_)
  · refine j_runA hx 2 (tb := [(17, .iconst 4), (18, .aload_n 0)]) (jtb_ok (by decide +kernel)) (pc' := 19) (lv' := [(0, vR t)]) (st' := [vR t, vI (kI 4)]) rfl ?_
    refine j_getR hx flX15_43 kl1001 h1 (by decide) (by decide +kernel) ?_
    refine j_gd (fun h3 => ?_)
    refine j_getI hx flX15_200 kd203 h3 (by decide) (by decide +kernel) ?_
    refine j_runA hx 1 (tb := [(25, .imul)]) (jtb_ok (by decide +kernel)) (pc' := 26) (lv' := [(0, vR t)]) (st' := [vI ((kI 4) * (jI W 203 (jR W 1001 t)))]) rfl ?_
    exact j_iret hx hm (by decide +kernel) rfl (he _)
  refine j_runA hx 1 (tb := [(7, .aload_n 0)]) (jtb_ok (by decide +kernel)) (pc' := 8) (lv' := [(0, vR t)]) (st' := [vR t]) rfl ?_
  refine j_getR hx flX15_47 kl1002 h1 (by decide) (by decide +kernel) ?_
  refine j_gd (fun h4 => ?_)
  refine j_getI hx flX15_197 kd912 h4 (by decide) (by decide +kernel) ?_
  refine j_goto hx (off := 12) (by decide +kernel) (tgt := 26) (by decide) ?_
  exact j_iret hx hm (by decide +kernel) rfl (he _)
theorem cma_bytes (t : Nat) (W : jW) : jM yX15_bytes cX15_bytes 1 (Option.some Jvm.ClassFile.FieldType.int) [] 1 12 [vR t] W ((fma_bytes t W).bind (fun q => some (.returned (some (.int q)), W))) := 
  jM.of (Nat.le_of_ble_eq_true rfl) (fun x hx hm hr => wma_bytes ⟨hx, hm, hr, fun _ => rfl⟩)
def hma_blockFrom (x : jCx) (en : (fma_blockFrom_S ⊕ (Int32)) → Option (Outcome × jW)) (t : Nat) (a1 : Int32) (a2 : Int32) (W : jW) : Prop :=
  jOK x RX15 cX15_blockFrom 6 ∧
  jMt x "blockFrom" (Option.some Jvm.ClassFile.FieldType.int) [] ∧
  jRm x 0 0 ∧
  (∀ q : Int32, en (.inr q) = some (.returned (some (.int q)), W)) ∧
  (∀ (l3 : Int32) (l4 : Int32), jJ x 6 11 [(0, vR t), (1, vI a1), (2, vI a2), (3, vI l3), (4, vI l4)] [] W (some (.inl (l3, l4))) en)
theorem wma_blockFrom_59 {x : jCx} {en : (fma_blockFrom_S ⊕ (Int32)) → Option (Outcome × jW)} {W : jW} {t : Nat} {a1 : Int32} {a2 : Int32} (h : hma_blockFrom x en t a1 a2 W) (l3 : Int32) (l4 : Int32) : jJ x 6 59 [(0, vR t), (1, vI a1), (2, vI a2), (3, vI l3), (4, vI l4)] [] W (fma_blockFrom_59 t a1 a2 l3 l4 W) en := by
  have h0 := h
  obtain ⟨hx, hm, hr, he, k11⟩ := h0
  unfold fma_blockFrom_59
  refine j_goto hx (off := -48) (by decide +kernel) (tgt := 11) (by decide) ?_
  exact k11 l3 l4
theorem wma_blockFrom_105 {x : jCx} {en : (fma_blockFrom_S ⊕ (Int32)) → Option (Outcome × jW)} {W : jW} {t : Nat} {a1 : Int32} {a2 : Int32} (h : hma_blockFrom x en t a1 a2 W) (l5 : Int32) : jJ x 6 105 [(0, vR t), (1, vI a1), (2, vI a2), (5, vI l5)] [] W (fma_blockFrom_105 t a1 a2 l5 W) en := by
  have h0 := h
  obtain ⟨hx, hm, hr, he, k11⟩ := h0
  unfold fma_blockFrom_105
  refine j_runA hx 1 (tb := [(105, .iload 5)]) (jtb_ok (by decide +kernel)) (pc' := 107) (lv' := [(0, vR t), (1, vI a1), (2, vI a2), (5, vI l5)]) (st' := [vI l5]) rfl ?_
  refine j_goto hx (off := 4) (by decide +kernel) (tgt := 111) (by decide) ?_
  exact j_iret hx hm (by decide +kernel) rfl (he _)
theorem wma_blockFrom_110 {x : jCx} {en : (fma_blockFrom_S ⊕ (Int32)) → Option (Outcome × jW)} {W : jW} {t : Nat} {a1 : Int32} {a2 : Int32} (h : hma_blockFrom x en t a1 a2 W) : jJ x 6 110 [(0, vR t), (1, vI a1), (2, vI a2)] [] W (fma_blockFrom_110 t a1 a2 W) en := by
  have h0 := h
  obtain ⟨hx, hm, hr, he, k11⟩ := h0
  unfold fma_blockFrom_110
  refine j_runA hx 1 (tb := [(110, .iconst (-1))]) (jtb_ok (by decide +kernel)) (pc' := 111) (lv' := [(0, vR t), (1, vI a1), (2, vI a2)]) (st' := [vI (kI (-1))]) rfl ?_
  exact j_iret hx hm (by decide +kernel) rfl (he _)
theorem wma_blockFrom_11 {x : jCx} {en : (fma_blockFrom_S ⊕ (Int32)) → Option (Outcome × jW)} {W : jW} {t : Nat} {a1 : Int32} {a2 : Int32} (h : hma_blockFrom x en t a1 a2 W) (l3 : Int32) (l4 : Int32) : jJ x 6 11 [(0, vR t), (1, vI a1), (2, vI a2), (3, vI l3), (4, vI l4)] [] W (fma_blockFrom_11 t a1 a2 l3 l4 W) en := by
  have h0 := h
  obtain ⟨hx, hm, hr, he, k11⟩ := h0
  unfold fma_blockFrom_11
  refine j_runA hx 4 (tb := [(11, .iload 4), (13, .iload_n 3), (14, .isub), (15, .iconst 1)]) (jtb_ok (by decide +kernel)) (pc' := 16) (lv' := [(0, vR t), (1, vI a1), (2, vI a2), (3, vI l3), (4, vI l4)]) (st' := [vI (kI 1), vI (l4 - l3)]) rfl ?_
  refine j_icmp_le hx (off := 46) (tgt := 62) (by decide +kernel) (by decide) (fun _ => ?_) (fun _ => ?_)
  · refine j_runA hx 1 (tb := [(62, .aload_n 0)]) (jtb_ok (by decide +kernel)) (pc' := 63) (lv' := [(0, vR t), (1, vI a1), (2, vI a2), (3, vI l3), (4, vI l4)]) (st' := [vR t]) rfl ?_
    refine j_gd (fun h5 => ?_)
    refine j_getR hx flX15_51 kl1003 h5 (by decide) (by decide +kernel) ?_
    refine j_gd (fun h6 => ?_)
    refine j_getR hx flX15_231 kl804 h6 (by decide) (by decide +kernel) ?_
    refine j_runA hx 1 (tb := [(69, .iload_n 3)]) (jtb_ok (by decide +kernel)) (pc' := 70) (lv' := [(0, vR t), (1, vI a1), (2, vI a2), (3, vI l3), (4, vI l4)]) (st' := [vI l3, vR (jR W 804 (jR W 1003 t))]) rfl ?_
    refine j_gd (fun h7 => ?_)
    refine j_gd (fun h8 => ?_)
    refine j_iald hx (f := 9003) (o := (jR W 804 (jR W 1003 t))) kd9003 h7 (by decide +kernel) h8 ?_
    refine j_runA hx 1 (tb := [(71, .istore 5)]) (jtb_ok (by decide +kernel)) (pc' := 73) (lv' := [(5, vI (jA W 9003 (jR W 804 (jR W 1003 t)) (ix l3))), (0, vR t), (1, vI a1), (2, vI a2), (3, vI l3), (4, vI l4)]) (st' := []) rfl ?_
    refine j_let (v := (jA W 9003 (jR W 804 (jR W 1003 t)) (ix l3))) (lv := fun v9 => [(5, vI v9), (0, vR t), (1, vI a1), (2, vI a2), (3, vI l3), (4, vI l4)]) (st := fun _ => []) (fun v9 => ?_)
    refine j_runA hx 1 (tb := [(73, .aload_n 0)]) (jtb_ok (by decide +kernel)) (pc' := 74) (lv' := [(5, vI v9), (0, vR t), (1, vI a1), (2, vI a2), (3, vI l3), (4, vI l4)]) (st' := [vR t]) rfl ?_
    refine j_getR hx flX15_47 kl1002 h5 (by decide) (by decide +kernel) ?_
    refine j_gd (fun h10 => ?_)
    refine j_getR hx flX15_228 kl905 h10 (by decide) (by decide +kernel) ?_
    refine j_runA hx 1 (tb := [(80, .iload 5)]) (jtb_ok (by decide +kernel)) (pc' := 82) (lv' := [(5, vI v9), (0, vR t), (1, vI a1), (2, vI a2), (3, vI l3), (4, vI l4)]) (st' := [vI v9, vR (jR W 905 (jR W 1002 t))]) rfl ?_
    refine j_gd (fun h11 => ?_)
    refine j_iald hx (f := 905) (o := (jR W 1002 t)) kd905 rfl (by decide +kernel) h11 ?_
    refine j_runA hx 1 (tb := [(83, .iload_n 1)]) (jtb_ok (by decide +kernel)) (pc' := 84) (lv' := [(5, vI v9), (0, vR t), (1, vI a1), (2, vI a2), (3, vI l3), (4, vI l4)]) (st' := [vI a1, vI (jA W 905 (jR W 1002 t) (ix v9))]) rfl ?_
    refine j_icmp_eq hx (off := 21) (tgt := 105) (by decide +kernel) (by decide) (fun _ => ?_) (fun _ => ?_)
    · refine j_lv (lv' := [(0, vR t), (1, vI a1), (2, vI a2), (5, vI v9)]) ⟨rfl, rfl, rfl, rfl, trivial⟩ ?_
      exact wma_blockFrom_105 h v9
    refine j_runA hx 1 (tb := [(87, .iload_n 2)]) (jtb_ok (by decide +kernel)) (pc' := 88) (lv' := [(5, vI v9), (0, vR t), (1, vI a1), (2, vI a2), (3, vI l3), (4, vI l4)]) (st' := [vI a2]) rfl ?_
    refine j_if_ne hx (off := 22) (tgt := 110) (by decide +kernel) (by decide) (fun _ => ?_) (fun _ => ?_)
    · refine j_lv (lv' := [(0, vR t), (1, vI a1), (2, vI a2)]) ⟨rfl, rfl, rfl, trivial⟩ ?_
      exact wma_blockFrom_110 h
    refine j_runA hx 1 (tb := [(91, .aload_n 0)]) (jtb_ok (by decide +kernel)) (pc' := 92) (lv' := [(5, vI v9), (0, vR t), (1, vI a1), (2, vI a2), (3, vI l3), (4, vI l4)]) (st' := [vR t]) rfl ?_
    refine j_getR hx flX15_47 kl1002 h5 (by decide) (by decide +kernel) ?_
    refine j_getR hx flX15_228 kl905 h10 (by decide) (by decide +kernel) ?_
    refine j_runA hx 1 (tb := [(98, .iload 5)]) (jtb_ok (by decide +kernel)) (pc' := 100) (lv' := [(5, vI v9), (0, vR t), (1, vI a1), (2, vI a2), (3, vI l3), (4, vI l4)]) (st' := [vI v9, vR (jR W 905 (jR W 1002 t))]) rfl ?_
    refine j_gd (fun h12 => ?_)
    refine j_iald hx (f := 905) (o := (jR W 1002 t)) kd905 rfl (by decide +kernel) h12 ?_
    refine j_runA hx 1 (tb := [(101, .iload_n 1)]) (jtb_ok (by decide +kernel)) (pc' := 102) (lv' := [(5, vI v9), (0, vR t), (1, vI a1), (2, vI a2), (3, vI l3), (4, vI l4)]) (st' := [vI a1, vI (jA W 905 (jR W 1002 t) (ix v9))]) rfl ?_
    refine j_icmp_ge hx (off := 8) (tgt := 110) (by decide +kernel) (by decide) (fun _ => ?_) (fun _ => ?_)
    · refine j_lv (lv' := [(0, vR t), (1, vI a1), (2, vI a2)]) ⟨rfl, rfl, rfl, trivial⟩ ?_
      exact wma_blockFrom_110 h
    refine j_lv (lv' := [(0, vR t), (1, vI a1), (2, vI a2), (5, vI v9)]) ⟨rfl, rfl, rfl, rfl, trivial⟩ ?_
    exact wma_blockFrom_105 h v9
  refine j_runA hx 4 (tb := [(19, .iload_n 3), (20, .iload 4), (22, .iadd), (23, .iconst 2)]) (jtb_ok (by decide +kernel)) (pc' := 24) (lv' := [(0, vR t), (1, vI a1), (2, vI a2), (3, vI l3), (4, vI l4)]) (st' := [vI (kI 2), vI (l3 + l4)]) rfl ?_
  refine j_idiv hx (by decide +kernel) (by decide +kernel) ?_
  refine j_runA hx 1 (tb := [(25, .istore 5)]) (jtb_ok (by decide +kernel)) (pc' := 27) (lv' := [(5, vI ((l3 + l4) / (kI 2))), (0, vR t), (1, vI a1), (2, vI a2), (3, vI l3), (4, vI l4)]) (st' := []) rfl ?_
  refine j_let (v := ((l3 + l4) / (kI 2))) (lv := fun v13 => [(5, vI v13), (0, vR t), (1, vI a1), (2, vI a2), (3, vI l3), (4, vI l4)]) (st := fun _ => []) (fun v13 => ?_)
  refine j_runA hx 1 (tb := [(27, .aload_n 0)]) (jtb_ok (by decide +kernel)) (pc' := 28) (lv' := [(5, vI v13), (0, vR t), (1, vI a1), (2, vI a2), (3, vI l3), (4, vI l4)]) (st' := [vR t]) rfl ?_
  refine j_gd (fun h14 => ?_)
  refine j_getR hx flX15_47 kl1002 h14 (by decide) (by decide +kernel) ?_
  refine j_gd (fun h15 => ?_)
  refine j_getR hx flX15_228 kl905 h15 (by decide) (by decide +kernel) ?_
  refine j_runA hx 1 (tb := [(34, .aload_n 0)]) (jtb_ok (by decide +kernel)) (pc' := 35) (lv' := [(5, vI v13), (0, vR t), (1, vI a1), (2, vI a2), (3, vI l3), (4, vI l4)]) (st' := [vR t, vR (jR W 905 (jR W 1002 t))]) rfl ?_
  refine j_getR hx flX15_51 kl1003 h14 (by decide) (by decide +kernel) ?_
  refine j_gd (fun h16 => ?_)
  refine j_getR hx flX15_231 kl804 h16 (by decide) (by decide +kernel) ?_
  refine j_runA hx 1 (tb := [(41, .iload 5)]) (jtb_ok (by decide +kernel)) (pc' := 43) (lv' := [(5, vI v13), (0, vR t), (1, vI a1), (2, vI a2), (3, vI l3), (4, vI l4)]) (st' := [vI v13, vR (jR W 804 (jR W 1003 t)), vR (jR W 905 (jR W 1002 t))]) rfl ?_
  refine j_gd (fun h17 => ?_)
  refine j_gd (fun h18 => ?_)
  refine j_iald hx (f := 9003) (o := (jR W 804 (jR W 1003 t))) kd9003 h17 (by decide +kernel) h18 ?_
  refine j_gd (fun h19 => ?_)
  refine j_iald hx (f := 905) (o := (jR W 1002 t)) kd905 rfl (by decide +kernel) h19 ?_
  refine j_runA hx 1 (tb := [(45, .iload_n 1)]) (jtb_ok (by decide +kernel)) (pc' := 46) (lv' := [(5, vI v13), (0, vR t), (1, vI a1), (2, vI a2), (3, vI l3), (4, vI l4)]) (st' := [vI a1, vI (jA W 905 (jR W 1002 t) (ix (jA W 9003 (jR W 804 (jR W 1003 t)) (ix v13))))]) rfl ?_
  refine j_icmp_gt hx (off := 9) (tgt := 55) (by decide +kernel) (by decide) (fun _ => ?_) (fun _ => ?_)
  · refine j_runA hx 2 (tb := [(55, .iload 5), (57, .istore 4)]) (jtb_ok (by decide +kernel)) (pc' := 59) (lv' := [(4, vI v13), (5, vI v13), (0, vR t), (1, vI a1), (2, vI a2), (3, vI l3)]) (st' := []) rfl ?_
    refine j_lv (lv' := [(0, vR t), (1, vI a1), (2, vI a2), (3, vI l3), (4, vI v13)]) ⟨rfl, rfl, rfl, rfl, rfl, trivial⟩ ?_
    exact wma_blockFrom_59 h l3 v13
  refine j_runA hx 2 (tb := [(49, .iload 5), (51, .istore_n 3)]) (jtb_ok (by decide +kernel)) (pc' := 52) (lv' := [(3, vI v13), (5, vI v13), (0, vR t), (1, vI a1), (2, vI a2), (4, vI l4)]) (st' := []) rfl ?_
  refine j_goto hx (off := 7) (by decide +kernel) (tgt := 59) (by decide) ?_
  refine j_lv (lv' := [(0, vR t), (1, vI a1), (2, vI a2), (3, vI v13), (4, vI l4)]) ⟨rfl, rfl, rfl, rfl, rfl, trivial⟩ ?_
  exact wma_blockFrom_59 h v13 l4
theorem wma_blockFrom {x : jCx} {en : (fma_blockFrom_S ⊕ (Int32)) → Option (Outcome × jW)} {W : jW} {t : Nat} {a1 : Int32} {a2 : Int32} (h : hma_blockFrom x en t a1 a2 W) : jJ x 6 0 [(0, vR t), (1, vI a1), (2, vI a2)] [] W (fma_blockFrom_0 t a1 a2 W) en := by
  have h0 := h
  obtain ⟨hx, hm, hr, he, k11⟩ := h0
  unfold fma_blockFrom_0
  refine j_runA hx 3 (tb := [(0, .iconst 0), (1, .istore_n 3), (2, .aload_n 0)]) (jtb_ok (by decide +kernel)) (pc' := 3) (lv' := [(3, vI (kI 0)), (0, vR t), (1, vI a1), (2, vI a2)]) (st' := [vR t]) rfl ?_
  refine j_gd (fun h1 => ?_)
  refine j_getR hx flX15_43 kl1001 h1 (by decide) (by decide +kernel) ?_
  refine j_gd (fun h2 => ?_)
  refine j_getI hx flX15_225 kd217 h2 (by decide) (by decide +kernel) ?_
  refine j_runA hx 1 (tb := [(9, .istore 4)]) (jtb_ok (by decide +kernel)) (pc' := 11) (lv' := [(4, vI (jI W 217 (jR W 1001 t))), (3, vI (kI 0)), (0, vR t), (1, vI a1), (2, vI a2)]) (st' := []) rfl ?_
  refine j_let (v := (jI W 217 (jR W 1001 t))) (lv := fun v3 => [(4, vI v3), (3, vI (kI 0)), (0, vR t), (1, vI a1), (2, vI a2)]) (st := fun _ => []) (fun v3 => ?_)
  refine j_lv (lv' := [(0, vR t), (1, vI a1), (2, vI a2), (3, vI (kI 0)), (4, vI v3)]) ⟨rfl, rfl, rfl, rfl, rfl, trivial⟩ ?_
  exact k11 (kI 0) v3
theorem cma_blockFrom (t : Nat) (a1 : Int32) (a2 : Int32) (W : jW) : jM yX15_blockFrom cX15_blockFrom 6 (Option.some Jvm.ClassFile.FieldType.int) [] 0 0 [vR t, vI a1, vI a2] W ((fma_blockFrom t a1 a2 W).bind (fun q => some (.returned (some (.int q)), W))) := by
  refine jM.of (Nat.le_of_ble_eq_true rfl) (fun x hx hm hr => ?_)
  refine j_begin (P := (fun s => (11, [(0, vR t), (1, vI a1), (2, vI a2), (3, vI s.1), (4, vI s.2)], W))) (fun en he hk => ?_)
  have h : hma_blockFrom x en t a1 a2 W := ⟨hx, hm, hr, fun q => he _, fun l3 l4 => hk (l3, l4)⟩
  exact ⟨fun s => wma_blockFrom_11 h s.1 s.2, wma_blockFrom h⟩
def hma_blockOf (x : jCx) (en : (Int32) → Option (Outcome × jW)) (t : Nat) (a1 : Int64) (W : jW) : Prop :=
  jOK x RX15 cX15_blockOf 4 ∧
  jMt x "blockOf" (Option.some Jvm.ClassFile.FieldType.int) [] ∧
  jRm x 3 42 ∧
  (∀ q : Int32, en q = some (.returned (some (.int q)), W))
theorem wma_blockOf_31 {x : jCx} {en : (Int32) → Option (Outcome × jW)} {W : jW} {t : Nat} {a1 : Int64} (h : hma_blockOf x en t a1 W) : jJ x 4 31 [(0, vR t), (1, vL a1)] [] W (fma_blockOf_31 t a1 W) en := by
  have h0 := h
  obtain ⟨hx, hm, hr, he⟩ := h0
  unfold fma_blockOf_31
  refine j_runA hx 1 (tb := [(31, .iconst (-1))]) (jtb_ok (by decide +kernel)) (pc' := 32) (lv' := [(0, vR t), (1, vL a1)]) (st' := [vI (kI (-1))]) rfl ?_
  exact j_iret hx hm (by decide +kernel) rfl (he _)
theorem wma_blockOf {x : jCx} {en : (Int32) → Option (Outcome × jW)} {W : jW} {t : Nat} {a1 : Int64} (h : hma_blockOf x en t a1 W) : jJ x 4 0 [(0, vR t), (1, vL a1)] [] W (fma_blockOf t a1 W) en := by
  have h0 := h
  obtain ⟨hx, hm, hr, he⟩ := h0
  unfold fma_blockOf
  refine j_runA hx 2 (tb := [(0, .lload_n 1), (1, .aload_n 0)]) (jtb_ok (by decide +kernel)) (pc' := 2) (lv' := [(0, vR t), (1, vL a1)]) (st' := [vR t, vL a1]) rfl ?_
  refine j_gd (fun h1 => ?_)
  refine j_OL (j_callV (av := []) (st := [vL a1]) hx hr (Or.inl q2039) q2041 qs80 rfl md_fma_begin np_fma_begin (cma_begin t W) (by decide) (Nat.le_of_ble_eq_true rfl) h1 (by decide) (by decide +kernel)) (fun q2 _ => ?_)
  refine j_runA hx 1 (tb := [(5, .aload_n 0)]) (jtb_ok (by decide +kernel)) (pc' := 6) (lv' := [(0, vR t), (1, vL a1)]) (st' := [vR t, vL q2, vL a1]) rfl ?_
  refine j_OL (j_callV (av := []) (st := [vL q2, vL a1]) hx hr (Or.inl q2039) q2041 qs80 rfl md_fma_begin np_fma_begin (cma_begin t W) (by decide) (Nat.le_of_ble_eq_true rfl) h1 (by decide) (by decide +kernel)) (fun q3 _ => ?_)
  refine j_runA hx 1 (tb := [(9, .aload_n 0)]) (jtb_ok (by decide +kernel)) (pc' := 10) (lv' := [(0, vR t), (1, vL a1)]) (st' := [vR t, vL q3, vL q2, vL a1]) rfl ?_
  refine j_OI (j_callV (av := []) (st := [vL q3, vL q2, vL a1]) hx hr (Or.inl q2044) q2046 qs81 rfl md_fma_bytes np_fma_bytes (cma_bytes t W) (by decide) (Nat.le_of_ble_eq_true rfl) h1 (by decide) (by decide +kernel)) (fun q4 _ => ?_)
  refine j_runA hx 2 (tb := [(13, .i2l), (14, .ladd)]) (jtb_ok (by decide +kernel)) (pc' := 15) (lv' := [(0, vR t), (1, vL a1)]) (st' := [vL (q3 + q4.toInt64), vL q2, vL a1]) rfl ?_
  refine j_TI (j_callS (av := [vL a1, vL q2, vL (q3 + q4.toInt64)]) (st := []) hx hr (Or.inr ⟨_, q2048⟩) q872 q226 md_fcl_isIn np_fcl_isIn (ccl_isIn a1 q2 (q3 + q4.toInt64) W) (by decide) (Nat.le_of_ble_eq_true rfl) (by decide +kernel)) ?_
  refine j_if_eq hx (off := 13) (tgt := 31) (by decide +kernel) (by decide) (fun _ => ?_) (fun _ => ?_)
  · exact wma_blockOf_31 h
  refine j_runA hx 1 (tb := [(21, .lload_n 1)]) (jtb_ok (by decide +kernel)) (pc' := 22) (lv' := [(0, vR t), (1, vL a1)]) (st' := [vL a1]) rfl ?_
  refine j_ldc2 hx (v := (kJ 4)) (jkd2 q2049 (by decide +kernel)) (by decide +kernel) ?_
  refine j_lrem hx (by decide +kernel) (by decide +kernel) ?_
  refine j_runA hx 1 (tb := [(26, .lconst 0)]) (jtb_ok (by decide +kernel)) (pc' := 27) (lv' := [(0, vR t), (1, vL a1)]) (st' := [vL (kJ 0), vL (lrm a1 (kJ 4))]) rfl ?_
  refine j_lcmp_eq hx (off := 5) (tgt := 33) (by decide +kernel) (by decide +kernel) (by decide) (fun _ => ?_) (fun _ => ?_)
  · refine j_runA hx 1 (tb := [(33, .aload_n 0)]) (jtb_ok (by decide +kernel)) (pc' := 34) (lv' := [(0, vR t), (1, vL a1)]) (st' := [vR t]) rfl ?_
    refine j_OI (j_callV (av := []) (st := []) hx hr (Or.inl q1978) q1980 qs72 rfl md_fma_isNew np_fma_isNew (cma_isNew t W) (by decide) (Nat.le_of_ble_eq_true rfl) h1 (by decide) (by decide +kernel)) (fun q5 _ => ?_)
    refine j_if_eq hx (off := 16) (tgt := 53) (by decide +kernel) (by decide) (fun _ => ?_) (fun _ => ?_)
    · refine j_runA hx 1 (tb := [(53, .aload_n 0)]) (jtb_ok (by decide +kernel)) (pc' := 54) (lv' := [(0, vR t), (1, vL a1)]) (st' := [vR t]) rfl ?_
      refine j_getR hx flX15_43 kl1001 h1 (by decide) (by decide +kernel) ?_
      refine j_runA hx 1 (tb := [(57, .lload_n 1)]) (jtb_ok (by decide +kernel)) (pc' := 58) (lv' := [(0, vR t), (1, vL a1)]) (st' := [vL a1, vR (jR W 1001 t)]) rfl ?_
      refine j_gd (fun h6 => ?_)
      refine j_OI (j_callV (av := [vL a1]) (st := []) hx hr (Or.inl q2029) q1036 q1037 rfl md_fpg_wordAt np_fpg_wordAt (cpg_wordAt (jR W 1001 t) a1 W) (by decide) (Nat.le_of_ble_eq_true rfl) h6 (by decide) (by decide +kernel)) (fun q7 _ => ?_)
      refine j_runA hx 2 (tb := [(61, .istore_n 3), (62, .aload_n 0)]) (jtb_ok (by decide +kernel)) (pc' := 63) (lv' := [(3, vI q7), (0, vR t), (1, vL a1)]) (st' := [vR t]) rfl ?_
      refine j_getR hx flX15_43 kl1001 h1 (by decide) (by decide +kernel) ?_
      refine j_getR hx flX15_221 kl208 h6 (by decide) (by decide +kernel) ?_
      refine j_runA hx 1 (tb := [(69, .iload_n 3)]) (jtb_ok (by decide +kernel)) (pc' := 70) (lv' := [(3, vI q7), (0, vR t), (1, vL a1)]) (st' := [vI q7, vR (jR W 208 (jR W 1001 t))]) rfl ?_
      refine j_gd (fun h8 => ?_)
      refine j_zald hx (f := 208) (o := (jR W 1001 t)) kd208 rfl (by decide +kernel) h8 ?_
      refine j_if_eq hx (off := 15) (tgt := 86) (by decide +kernel) (by decide) (fun _ => ?_) (fun _ => ?_)
      · refine j_runA hx 1 (tb := [(86, .iconst (-1))]) (jtb_ok (by decide +kernel)) (pc' := 87) (lv' := [(3, vI q7), (0, vR t), (1, vL a1)]) (st' := [vI (kI (-1))]) rfl ?_
        exact j_iret hx hm (by decide +kernel) rfl (he _)
      refine j_runA hx 1 (tb := [(74, .aload_n 0)]) (jtb_ok (by decide +kernel)) (pc' := 75) (lv' := [(3, vI q7), (0, vR t), (1, vL a1)]) (st' := [vR t]) rfl ?_
      refine j_getR hx flX15_43 kl1001 h1 (by decide) (by decide +kernel) ?_
      refine j_getR hx flX15_187 kl206 h6 (by decide) (by decide +kernel) ?_
      refine j_runA hx 1 (tb := [(81, .iload_n 3)]) (jtb_ok (by decide +kernel)) (pc' := 82) (lv' := [(3, vI q7), (0, vR t), (1, vL a1)]) (st' := [vI q7, vR (jR W 206 (jR W 1001 t))]) rfl ?_
      refine j_gd (fun h9 => ?_)
      refine j_iald hx (f := 206) (o := (jR W 1001 t)) kd206 rfl (by decide +kernel) h9 ?_
      refine j_goto hx (off := 4) (by decide +kernel) (tgt := 87) (by decide) ?_
      exact j_iret hx hm (by decide +kernel) rfl (he _)
    refine j_runA hx 3 (tb := [(40, .aload_n 0), (41, .lload_n 1), (42, .aload_n 0)]) (jtb_ok (by decide +kernel)) (pc' := 43) (lv' := [(0, vR t), (1, vL a1)]) (st' := [vR t, vL a1, vR t]) rfl ?_
    refine j_OL (j_callV (av := []) (st := [vL a1, vR t]) hx hr (Or.inl q2039) q2041 qs80 rfl md_fma_begin np_fma_begin (cma_begin t W) (by decide) (Nat.le_of_ble_eq_true rfl) h1 (by decide) (by decide +kernel)) (fun q10 _ => ?_)
    refine j_runA hx 3 (tb := [(46, .lsub), (47, .l2i), (48, .iconst 1)]) (jtb_ok (by decide +kernel)) (pc' := 49) (lv' := [(0, vR t), (1, vL a1)]) (st' := [vI (kI 1), vI ((a1 - q10).toInt32), vR t]) rfl ?_
    refine j_OI (j_callV (av := [vI ((a1 - q10).toInt32), vI (kI 1)]) (st := []) hx hr (Or.inl q2050) q2052 qs82 rfl md_fma_blockFrom np_fma_blockFrom (cma_blockFrom t ((a1 - q10).toInt32) (kI 1) W) (by decide) (Nat.le_of_ble_eq_true rfl) h1 (by decide) (by decide +kernel)) (fun q11 _ => ?_)
    exact j_iret hx hm (by decide +kernel) rfl (he _)
  exact wma_blockOf_31 h
theorem cma_blockOf (t : Nat) (a1 : Int64) (W : jW) : jM yX15_blockOf cX15_blockOf 4 (Option.some Jvm.ClassFile.FieldType.int) [] 3 42 [vR t, vL a1] W ((fma_blockOf t a1 W).bind (fun q => some (.returned (some (.int q)), W))) := 
  jM.of (Nat.le_of_ble_eq_true rfl) (fun x hx hm hr => wma_blockOf ⟨hx, hm, hr, fun _ => rfl⟩)
def hma_blockHere (x : jCx) (en : (Int32) → Option (Outcome × jW)) (t : Nat) (W : jW) : Prop :=
  jOK x RX15 cX15_blockHere 1 ∧
  jMt x "blockHere" (Option.some Jvm.ClassFile.FieldType.int) [] ∧
  jRm x 4 57 ∧
  (∀ q : Int32, en q = some (.returned (some (.int q)), W))
theorem wma_blockHere {x : jCx} {en : (Int32) → Option (Outcome × jW)} {W : jW} {t : Nat} (h : hma_blockHere x en t W) : jJ x 1 0 [(0, vR t)] [] W (fma_blockHere t W) en := by
  have h0 := h
  obtain ⟨hx, hm, hr, he⟩ := h0
  unfold fma_blockHere
  refine j_runA hx 2 (tb := [(0, .aload_n 0), (1, .aload_n 0)]) (jtb_ok (by decide +kernel)) (pc' := 2) (lv' := [(0, vR t)]) (st' := [vR t, vR t]) rfl ?_
  refine j_gd (fun h1 => ?_)
  refine j_getL hx flX15_134 kd1014 h1 (by decide) (by decide +kernel) ?_
  refine j_OI (j_callV (av := [vL (jL W 1014 t)]) (st := []) hx hr (Or.inl q2035) q2037 qs79 rfl md_fma_blockOf np_fma_blockOf (cma_blockOf t (jL W 1014 t) W) (by decide) (Nat.le_of_ble_eq_true rfl) h1 (by decide) (by decide +kernel)) (fun q2 _ => ?_)
  exact j_iret hx hm (by decide +kernel) rfl (he _)
theorem cma_blockHere (t : Nat) (W : jW) : jM yX15_blockHere cX15_blockHere 1 (Option.some Jvm.ClassFile.FieldType.int) [] 4 57 [vR t] W ((fma_blockHere t W).bind (fun q => some (.returned (some (.int q)), W))) := 
  jM.of (Nat.le_of_ble_eq_true rfl) (fun x hx hm hr => wma_blockHere ⟨hx, hm, hr, fun _ => rfl⟩)
def hma_isText (x : jCx) (en : (Int32) → Option (Outcome × jW)) (t : Nat) (a1 : Int64) (W : jW) : Prop :=
  jOK x RX15 cX15_isText 3 ∧
  jMt x "isText" (Option.some Jvm.ClassFile.FieldType.boolean) [] ∧
  jRm x 3 42 ∧
  (∀ q : Int32, en q = some (.returned (some (.int q)), W))
theorem wma_isText {x : jCx} {en : (Int32) → Option (Outcome × jW)} {W : jW} {t : Nat} {a1 : Int64} (h : hma_isText x en t a1 W) : jJ x 3 0 [(0, vR t), (1, vL a1)] [] W (fma_isText t a1 W) en := by
  have h0 := h
  obtain ⟨hx, hm, hr, he⟩ := h0
  unfold fma_isText
  refine j_runA hx 2 (tb := [(0, .lload_n 1), (1, .aload_n 0)]) (jtb_ok (by decide +kernel)) (pc' := 2) (lv' := [(0, vR t), (1, vL a1)]) (st' := [vR t, vL a1]) rfl ?_
  refine j_gd (fun h1 => ?_)
  refine j_OL (j_callV (av := []) (st := [vL a1]) hx hr (Or.inl q2039) q2041 qs80 rfl md_fma_begin np_fma_begin (cma_begin t W) (by decide) (Nat.le_of_ble_eq_true rfl) h1 (by decide) (by decide +kernel)) (fun q2 _ => ?_)
  refine j_runA hx 1 (tb := [(5, .aload_n 0)]) (jtb_ok (by decide +kernel)) (pc' := 6) (lv' := [(0, vR t), (1, vL a1)]) (st' := [vR t, vL q2, vL a1]) rfl ?_
  refine j_OL (j_callV (av := []) (st := [vL q2, vL a1]) hx hr (Or.inl q2039) q2041 qs80 rfl md_fma_begin np_fma_begin (cma_begin t W) (by decide) (Nat.le_of_ble_eq_true rfl) h1 (by decide) (by decide +kernel)) (fun q3 _ => ?_)
  refine j_runA hx 1 (tb := [(9, .aload_n 0)]) (jtb_ok (by decide +kernel)) (pc' := 10) (lv' := [(0, vR t), (1, vL a1)]) (st' := [vR t, vL q3, vL q2, vL a1]) rfl ?_
  refine j_OI (j_callV (av := []) (st := [vL q3, vL q2, vL a1]) hx hr (Or.inl q2044) q2046 qs81 rfl md_fma_bytes np_fma_bytes (cma_bytes t W) (by decide) (Nat.le_of_ble_eq_true rfl) h1 (by decide) (by decide +kernel)) (fun q4 _ => ?_)
  refine j_runA hx 2 (tb := [(13, .i2l), (14, .ladd)]) (jtb_ok (by decide +kernel)) (pc' := 15) (lv' := [(0, vR t), (1, vL a1)]) (st' := [vL (q3 + q4.toInt64), vL q2, vL a1]) rfl ?_
  refine j_TI (j_callS (av := [vL a1, vL q2, vL (q3 + q4.toInt64)]) (st := []) hx hr (Or.inr ⟨_, q2048⟩) q872 q226 md_fcl_isIn np_fcl_isIn (ccl_isIn a1 q2 (q3 + q4.toInt64) W) (by decide) (Nat.le_of_ble_eq_true rfl) (by decide +kernel)) ?_
  refine j_gd (fun h5 => ?_)
  exact j_iret hx hm (by decide +kernel) (jzn h5) (he _)
theorem cma_isText (t : Nat) (a1 : Int64) (W : jW) : jM yX15_isText cX15_isText 3 (Option.some Jvm.ClassFile.FieldType.boolean) [] 3 42 [vR t, vL a1] W ((fma_isText t a1 W).bind (fun q => some (.returned (some (.int q)), W))) := 
  jM.of (Nat.le_of_ble_eq_true rfl) (fun x hx hm hr => wma_isText ⟨hx, hm, hr, fun _ => rfl⟩)
def hha_by (x : jCx) (en : (Nat × jW) → Option (Outcome × jW)) (t : Nat) (a1 : Int32) : Prop :=
  jOK x RX16 cX16_by 2 ∧
  jMt x "by" (Option.some (Jvm.ClassFile.FieldType.object "java/lang/IllegalStateException")) [] ∧
  jRm x 0 0 ∧
  (∀ q : Nat × jW, en q = some (.returned (some (jrv q.1)), q.2))
theorem wha_by {x : jCx} {en : (Nat × jW) → Option (Outcome × jW)} {t : Nat} {a1 : Int32} (h : hha_by x en t a1) (W : jW) : jJ x 2 0 [(0, vR t), (1, vI a1)] [] W (fha_by t a1 W) en := by
  have h0 := h
  obtain ⟨hx, hm, hr, he⟩ := h0
  unfold fha_by
  refine j_runA hx 2 (tb := [(0, .aload_n 0), (1, .iload_n 1)]) (jtb_ok (by decide +kernel)) (pc' := 2) (lv' := [(0, vR t), (1, vI a1)]) (st' := [vI a1, vR t]) rfl ?_
  refine j_gd (fun h1 => ?_)
  refine j_putI hx fwX16_16 wf1100 kd1100 h1 (by decide) (by decide +kernel) (ni1100 _) (fi1100 _) ?_
  refine j_ltw rfl (fun W2 hc3 => ?_)
  have h4 : jC W2 t = 11 := (congrFun hc3 _).trans h1
  refine j_runA hx 1 (tb := [(5, .aload_n 0)]) (jtb_ok (by decide +kernel)) (pc' := 6) (lv' := [(0, vR t), (1, vI a1)]) (st' := [vR t]) rfl ?_
  refine j_getR hx flX16_10 kl1101 h4 (by decide) (by decide +kernel) ?_
  exact j_aret hx hm (Or.inl ⟨_, rfl⟩) (by decide +kernel) (he _)
theorem cha_by (t : Nat) (a1 : Int32) (W : jW) : jM yX16_by cX16_by 2 (Option.some (Jvm.ClassFile.FieldType.object "java/lang/IllegalStateException")) [] 0 0 [vR t, vI a1] W ((fha_by t a1 W).bind (fun q => some (.returned (some (jrv q.1)), q.2))) := 
  jM.of (Nat.le_of_ble_eq_true rfl) (fun x hx hm hr => wha_by ⟨hx, hm, hr, fun _ => rfl⟩ W)
def hma_must (x : jCx) (en : ((Nat × jW) ⊕ jW) → Option (Outcome × jW)) (t : Nat) (a1 : Int32) : Prop :=
  jOK x RX15 cX15_must 2 ∧
  jMt x "must" (Option.none : Option Jvm.ClassFile.FieldType) [] ∧
  jRm x 1 13 ∧
  (∀ q : jW, en (.inr q) = some (.returned none, q)) ∧
  (∀ z : Nat × jW, en (.inl z) = some (.threw (z.1 - 1), z.2))
theorem wma_must {x : jCx} {en : ((Nat × jW) ⊕ jW) → Option (Outcome × jW)} {t : Nat} {a1 : Int32} (h : hma_must x en t a1) (W : jW) : jJ x 2 0 [(0, vR t), (1, vI a1)] [] W (fma_must t a1 W) en := by
  have h0 := h
  obtain ⟨hx, hm, hr, he, ht⟩ := h0
  unfold fma_must
  refine j_runA hx 1 (tb := [(0, .aload_n 0)]) (jtb_ok (by decide +kernel)) (pc' := 1) (lv' := [(0, vR t), (1, vI a1)]) (st' := [vR t]) rfl ?_
  refine j_gd (fun h1 => ?_)
  refine j_getI hx flX15_39 kd1000 h1 (by decide) (by decide +kernel) ?_
  refine j_runA hx 1 (tb := [(4, .iconst 1)]) (jtb_ok (by decide +kernel)) (pc' := 5) (lv' := [(0, vR t), (1, vI a1)]) (st' := [vI (kI 1), vI (jI W 1000 t)]) rfl ?_
  refine j_icmp_ne hx (off := 16) (tgt := 21) (by decide +kernel) (by decide) (fun _ => ?_) (fun _ => ?_)
  · exact j_vret hx hm (by decide +kernel) (he _)
  refine j_runA hx 1 (tb := [(8, .iload_n 1)]) (jtb_ok (by decide +kernel)) (pc' := 9) (lv' := [(0, vR t), (1, vI a1)]) (st' := [vI a1]) rfl ?_
  refine j_if_ne hx (off := 12) (tgt := 21) (by decide +kernel) (by decide) (fun _ => ?_) (fun _ => ?_)
  · exact j_vret hx hm (by decide +kernel) (he _)
  refine j_runA hx 1 (tb := [(12, .aload_n 0)]) (jtb_ok (by decide +kernel)) (pc' := 13) (lv' := [(0, vR t), (1, vI a1)]) (st' := [vR t]) rfl ?_
  refine j_getR hx flX15_12 kl1004 h1 (by decide) (by decide +kernel) ?_
  refine j_runA hx 1 (tb := [(16, .iconst 3)]) (jtb_ok (by decide +kernel)) (pc' := 17) (lv' := [(0, vR t), (1, vI a1)]) (st' := [vI (kI 3), vR (jR W 1004 t)]) rfl ?_
  refine j_gd (fun h2 => ?_)
  refine j_WR (j_callV (av := [vI (kI 3)]) (st := []) hx hr (Or.inl q2063) q2064 q2065 rfl md_fha_by np_fha_by (cha_by (jR W 1004 t) (kI 3) W) (by decide) (Nat.le_of_ble_eq_true rfl) h2 (by decide) (by decide +kernel)) (fun q3 _ => ?_)
  refine j_gd (fun h5 => ?_)
  exact j_athrow hx hm (by decide +kernel) h5 (ht _)
theorem cma_must (t : Nat) (a1 : Int32) (W : jW) : jM yX15_must cX15_must 2 (Option.none : Option Jvm.ClassFile.FieldType) [] 1 13 [vR t, vI a1] W ((fma_must t a1 W).bind (fun q => some (Sum.elim (fun z => (.threw (z.1 - 1), z.2)) (fun q => (.returned none, q)) q))) := 
  jM.of (Nat.le_of_ble_eq_true rfl) (fun x hx hm hr => wma_must ⟨hx, hm, hr, fun _ => rfl, fun _ => rfl⟩ W)
def hma_code (x : jCx) (en : (jW) → Option (Outcome × jW)) (t : Nat) (a1 : Int32) (a2 : Int64) (a4 : Int32) (a5 : Int32) : Prop :=
  jOK x RX15 cX15_code 6 ∧
  jMt x "code" (Option.none : Option Jvm.ClassFile.FieldType) [] ∧
  jRm x 0 0 ∧
  (∀ q : jW, en q = some (.returned none, q))
theorem wma_code_26 {x : jCx} {en : (jW) → Option (Outcome × jW)} {t : Nat} {a1 : Int32} {a2 : Int64} {a4 : Int32} {a5 : Int32} (h : hma_code x en t a1 a2 a4 a5) (s0 : Int32) (s1 : Int32) (s2 : Nat) (W : jW) : jJ x 6 26 [(0, vR t), (1, vI a1), (2, vL a2), (4, vI a4), (5, vI a5)] [vI s0, vI s1, vR s2] W (fma_code_26 t a1 a2 a4 a5 s0 s1 s2 W) en := by
  have h0 := h
  obtain ⟨hx, hm, hr, he⟩ := h0
  unfold fma_code_26
  refine j_gd (fun h8 => ?_)
  refine j_gd (fun h9 => ?_)
  refine j_iast hx (f := 1008) (o := t) kd1008 h8 (by decide +kernel) h9 ?_
  refine j_ltw rfl (fun W10 hc11 => ?_)
  refine j_runA hx 1 (tb := [(27, .aload_n 0)]) (jtb_ok (by decide +kernel)) (pc' := 28) (lv' := [(0, vR t), (1, vI a1), (2, vL a2), (4, vI a4), (5, vI a5)]) (st' := [vR t]) rfl ?_
  refine j_gd (fun h13 => ?_)
  refine j_getR hx flX15_26 kl1009 h13 (by decide) (by decide +kernel) ?_
  refine j_runA hx 2 (tb := [(31, .iload_n 1), (32, .iload 5)]) (jtb_ok (by decide +kernel)) (pc' := 34) (lv' := [(0, vR t), (1, vI a1), (2, vL a2), (4, vI a4), (5, vI a5)]) (st' := [vI a5, vI a1, vR (jR W10 1009 t)]) rfl ?_
  refine j_gd (fun h14 => ?_)
  refine j_iast hx (f := 1009) (o := t) kd1009 rfl (by decide +kernel) h14 ?_
  refine j_ltw rfl (fun W15 hc16 => ?_)
  have h17 : jC W15 t = 10 := (congrFun hc16 _).trans h13
  exact j_vret hx hm (by decide +kernel) (he _)
theorem wma_code {x : jCx} {en : (jW) → Option (Outcome × jW)} {t : Nat} {a1 : Int32} {a2 : Int64} {a4 : Int32} {a5 : Int32} (h : hma_code x en t a1 a2 a4 a5) (W : jW) : jJ x 6 0 [(0, vR t), (1, vI a1), (2, vL a2), (4, vI a4), (5, vI a5)] [] W (fma_code t a1 a2 a4 a5 W) en := by
  have h0 := h
  obtain ⟨hx, hm, hr, he⟩ := h0
  unfold fma_code
  refine j_runA hx 1 (tb := [(0, .aload_n 0)]) (jtb_ok (by decide +kernel)) (pc' := 1) (lv' := [(0, vR t), (1, vI a1), (2, vL a2), (4, vI a4), (5, vI a5)]) (st' := [vR t]) rfl ?_
  refine j_gd (fun h1 => ?_)
  refine j_getR hx flX15_18 kl1007 h1 (by decide) (by decide +kernel) ?_
  refine j_runA hx 2 (tb := [(4, .iload_n 1), (5, .lload_n 2)]) (jtb_ok (by decide +kernel)) (pc' := 6) (lv' := [(0, vR t), (1, vI a1), (2, vL a2), (4, vI a4), (5, vI a5)]) (st' := [vL a2, vI a1, vR (jR W 1007 t)]) rfl ?_
  refine j_gd (fun h2 => ?_)
  refine j_last hx (f := 1007) (o := t) kd1007 rfl (by decide +kernel) h2 ?_
  refine j_ltw rfl (fun W3 hc4 => ?_)
  have h5 : jC W3 t = 10 := (congrFun hc4 _).trans h1
  refine j_runA hx 1 (tb := [(7, .aload_n 0)]) (jtb_ok (by decide +kernel)) (pc' := 8) (lv' := [(0, vR t), (1, vI a1), (2, vL a2), (4, vI a4), (5, vI a5)]) (st' := [vR t]) rfl ?_
  refine j_getR hx flX15_22 kl1008 h5 (by decide) (by decide +kernel) ?_
  refine j_runA hx 2 (tb := [(11, .iload_n 1), (12, .aload_n 0)]) (jtb_ok (by decide +kernel)) (pc' := 13) (lv' := [(0, vR t), (1, vI a1), (2, vL a2), (4, vI a4), (5, vI a5)]) (st' := [vR t, vI a1, vR (jR W3 1008 t)]) rfl ?_
  refine j_getI hx flX15_39 kd1000 h5 (by decide) (by decide +kernel) ?_
  refine j_runA hx 1 (tb := [(16, .iconst 1)]) (jtb_ok (by decide +kernel)) (pc' := 17) (lv' := [(0, vR t), (1, vI a1), (2, vL a2), (4, vI a4), (5, vI a5)]) (st' := [vI (kI 1), vI (jI W3 1000 t), vI a1, vR (jR W3 1008 t)]) rfl ?_
  refine j_icmp_ne hx (off := 8) (tgt := 25) (by decide +kernel) (by decide) (fun _ => ?_) (fun _ => ?_)
  · refine j_runA hx 1 (tb := [(25, .iconst 0)]) (jtb_ok (by decide +kernel)) (pc' := 26) (lv' := [(0, vR t), (1, vI a1), (2, vL a2), (4, vI a4), (5, vI a5)]) (st' := [vI (kI 0), vI a1, vR (jR W3 1008 t)]) rfl ?_
    exact wma_code_26 h (kI 0) a1 (jR W3 1008 t) W3
  refine j_runA hx 1 (tb := [(20, .iload 4)]) (jtb_ok (by decide +kernel)) (pc' := 22) (lv' := [(0, vR t), (1, vI a1), (2, vL a2), (4, vI a4), (5, vI a5)]) (st' := [vI a4, vI a1, vR (jR W3 1008 t)]) rfl ?_
  refine j_goto hx (off := 4) (by decide +kernel) (tgt := 26) (by decide) ?_
  exact wma_code_26 h a4 a1 (jR W3 1008 t) W3
theorem cma_code (t : Nat) (a1 : Int32) (a2 : Int64) (a4 : Int32) (a5 : Int32) (W : jW) : jM yX15_code cX15_code 6 (Option.none : Option Jvm.ClassFile.FieldType) [] 0 0 [vR t, vI a1, vL a2, vI a4, vI a5] W ((fma_code t a1 a2 a4 a5 W).bind (fun q => some (.returned none, q))) := 
  jM.of (Nat.le_of_ble_eq_true rfl) (fun x hx hm hr => wma_code ⟨hx, hm, hr, fun _ => rfl⟩ W)
def hma_base (x : jCx) (en : ((Nat × jW) ⊕ Int64 × jW) → Option (Outcome × jW)) (t : Nat) (a1 : Int32) : Prop :=
  jOK x RX15 cX15_base 2 ∧
  jMt x "base" (Option.some Jvm.ClassFile.FieldType.long) [] ∧
  jRm x 2 26 ∧
  (∀ q : Int64 × jW, en (.inr q) = some (.returned (some (.long q.1)), q.2)) ∧
  (∀ z : Nat × jW, en (.inl z) = some (.threw (z.1 - 1), z.2))
theorem wma_base_15 {x : jCx} {en : ((Nat × jW) ⊕ Int64 × jW) → Option (Outcome × jW)} {t : Nat} {a1 : Int32} (h : hma_base x en t a1) (s0 : Int32) (s1 : Nat) (W : jW) : jJ x 2 15 [(0, vR t), (1, vI a1)] [vI s0, vR s1] W (fma_base_15 t a1 s0 s1 W) en := by
  have h0 := h
  obtain ⟨hx, hm, hr, he, ht⟩ := h0
  unfold fma_base_15
  refine j_gd (fun h4 => ?_)
  refine j_EV (j_callV (av := [vI s0]) (st := []) hx hr (Or.inl q2074) q2076 qs86 rfl md_fma_must np_fma_must (cma_must s1 s0 W) (by decide) (Nat.le_of_ble_eq_true rfl) h4 (by decide) (by decide +kernel)) (fun z _ r h9 => j_upE hm hx (ht z) h9) (fun q5 _ => ?_)
  refine j_runA hx 1 (tb := [(18, .aload_n 0)]) (jtb_ok (by decide +kernel)) (pc' := 19) (lv' := [(0, vR t), (1, vI a1)]) (st' := [vR t]) rfl ?_
  refine j_gd (fun h7 => ?_)
  refine j_getR hx flX15_18 kl1007 h7 (by decide) (by decide +kernel) ?_
  refine j_runA hx 1 (tb := [(22, .iload_n 1)]) (jtb_ok (by decide +kernel)) (pc' := 23) (lv' := [(0, vR t), (1, vI a1)]) (st' := [vI a1, vR (jR q5 1007 t)]) rfl ?_
  refine j_gd (fun h8 => ?_)
  refine j_lald hx (f := 1007) (o := t) kd1007 rfl (by decide +kernel) h8 ?_
  exact j_lret hx hm (by decide +kernel) (he _)
theorem wma_base {x : jCx} {en : ((Nat × jW) ⊕ Int64 × jW) → Option (Outcome × jW)} {t : Nat} {a1 : Int32} (h : hma_base x en t a1) (W : jW) : jJ x 2 0 [(0, vR t), (1, vI a1)] [] W (fma_base t a1 W) en := by
  have h0 := h
  obtain ⟨hx, hm, hr, he, ht⟩ := h0
  unfold fma_base
  refine j_runA hx 2 (tb := [(0, .aload_n 0), (1, .aload_n 0)]) (jtb_ok (by decide +kernel)) (pc' := 2) (lv' := [(0, vR t), (1, vI a1)]) (st' := [vR t, vR t]) rfl ?_
  refine j_gd (fun h1 => ?_)
  refine j_getR hx flX15_22 kl1008 h1 (by decide) (by decide +kernel) ?_
  refine j_runA hx 1 (tb := [(5, .iload_n 1)]) (jtb_ok (by decide +kernel)) (pc' := 6) (lv' := [(0, vR t), (1, vI a1)]) (st' := [vI a1, vR (jR W 1008 t), vR t]) rfl ?_
  refine j_gd (fun h2 => ?_)
  refine j_iald hx (f := 1008) (o := t) kd1008 rfl (by decide +kernel) h2 ?_
  refine j_if_ne hx (off := 7) (tgt := 14) (by decide +kernel) (by decide) (fun _ => ?_) (fun _ => ?_)
  · refine j_runA hx 1 (tb := [(14, .iconst 0)]) (jtb_ok (by decide +kernel)) (pc' := 15) (lv' := [(0, vR t), (1, vI a1)]) (st' := [vI (kI 0), vR t]) rfl ?_
    exact wma_base_15 h (kI 0) t W
  refine j_runA hx 1 (tb := [(10, .iconst 1)]) (jtb_ok (by decide +kernel)) (pc' := 11) (lv' := [(0, vR t), (1, vI a1)]) (st' := [vI (kI 1), vR t]) rfl ?_
  refine j_goto hx (off := 4) (by decide +kernel) (tgt := 15) (by decide) ?_
  exact wma_base_15 h (kI 1) t W
theorem cma_base (t : Nat) (a1 : Int32) (W : jW) : jM yX15_base cX15_base 2 (Option.some Jvm.ClassFile.FieldType.long) [] 2 26 [vR t, vI a1] W ((fma_base t a1 W).bind (fun q => some (Sum.elim (fun z => (.threw (z.1 - 1), z.2)) (fun q => (.returned (some (.long q.1)), q.2)) q))) := 
  jM.of (Nat.le_of_ble_eq_true rfl) (fun x hx hm hr => wma_base ⟨hx, hm, hr, fun _ => rfl, fun _ => rfl⟩ W)
def hma_sum (x : jCx) (en : (Int64 × jW) → Option (Outcome × jW)) (t : Nat) (a1 : Int64) (a3 : Int64) (a5 : Int32) (a6 : Int32) (a7 : Int32) : Prop :=
  jOK x RX15 cX15_sum 16 ∧
  jMt x "sum" (Option.some Jvm.ClassFile.FieldType.long) [] ∧
  jRm x 1 16 ∧
  (∀ q : Int64 × jW, en q = some (.returned (some (.long q.1)), q.2))
theorem wma_sum_201 {x : jCx} {en : (Int64 × jW) → Option (Outcome × jW)} {t : Nat} {a1 : Int64} {a3 : Int64} {a5 : Int32} {a6 : Int32} {a7 : Int32} (h : hma_sum x en t a1 a3 a5 a6 a7) (l8 : Int64) (s0 : Int32) (s1 : Nat) (W : jW) : jJ x 16 201 [(0, vR t), (1, vL a1), (3, vL a3), (5, vI a5), (6, vI a6), (7, vI a7), (8, vL l8)] [vI s0, vR s1] W (fma_sum_201 t a1 a3 a5 a6 a7 l8 s0 s1 W) en := by
  have h0 := h
  obtain ⟨hx, hm, hr, he⟩ := h0
  unfold fma_sum_201
  refine j_gd (fun h29 => ?_)
  refine j_gd (fun h30 => ?_)
  refine j_putI hx fwX15_96 wf1013 kd1013 h29 (by decide) (by decide +kernel) (nz1013 h30) (fz1013 h30) ?_
  refine j_ltw rfl (fun W31 hc32 => ?_)
  have h33 : jC W31 s1 = 10 := (congrFun hc32 _).trans h29
  refine j_runA hx 1 (tb := [(204, .lload 8)]) (jtb_ok (by decide +kernel)) (pc' := 206) (lv' := [(0, vR t), (1, vL a1), (3, vL a3), (5, vI a5), (6, vI a6), (7, vI a7), (8, vL l8)]) (st' := [vL l8]) rfl ?_
  exact j_lret hx hm (by decide +kernel) (he _)
theorem wma_sum_147 {x : jCx} {en : (Int64 × jW) → Option (Outcome × jW)} {t : Nat} {a1 : Int64} {a3 : Int64} {a5 : Int32} {a6 : Int32} {a7 : Int32} (h : hma_sum x en t a1 a3 a5 a6 a7) (l8 : Int64) (l10 : Int64) (l12 : Int64) (l14 : Int64) (s0 : Int32) (s1 : Nat) (W : jW) : jJ x 16 147 [(0, vR t), (1, vL a1), (3, vL a3), (5, vI a5), (6, vI a6), (7, vI a7), (8, vL l8), (10, vL l10), (12, vL l12), (14, vL l14)] [vI s0, vR s1] W (fma_sum_147 t a1 a3 a5 a6 a7 l8 l10 l12 l14 s0 s1 W) en := by
  have h0 := h
  obtain ⟨hx, hm, hr, he⟩ := h0
  unfold fma_sum_147
  refine j_gd (fun h22 => ?_)
  refine j_gd (fun h23 => ?_)
  refine j_putI hx fwX15_93 wf1012 kd1012 h22 (by decide) (by decide +kernel) (nz1012 h23) (fz1012 h23) ?_
  refine j_ltw rfl (fun W24 hc25 => ?_)
  have h26 : jC W24 s1 = 10 := (congrFun hc25 _).trans h22
  refine j_runA hx 2 (tb := [(150, .aload_n 0), (151, .iload 5)]) (jtb_ok (by decide +kernel)) (pc' := 153) (lv' := [(0, vR t), (1, vL a1), (3, vL a3), (5, vI a5), (6, vI a6), (7, vI a7), (8, vL l8), (10, vL l10), (12, vL l12), (14, vL l14)]) (st' := [vI a5, vR t]) rfl ?_
  refine j_if_eq hx (off := 27) (tgt := 180) (by decide +kernel) (by decide) (fun _ => ?_) (fun _ => ?_)
  · refine j_runA hx 8 (tb := [(180, .lload 10), (182, .lload 14), (184, .lxor), (185, .lload 12), (187, .lload 14), (189, .lxor), (190, .land), (191, .lconst 0)]) (jtb_ok (by decide +kernel)) (pc' := 192) (lv' := [(0, vR t), (1, vL a1), (3, vL a3), (5, vI a5), (6, vI a6), (7, vI a7), (8, vL l8), (10, vL l10), (12, vL l12), (14, vL l14)]) (st' := [vL (kJ 0), vL ((l10 ^^^ l14) &&& (l12 ^^^ l14)), vR t]) rfl ?_
    refine j_lcmp_ge hx (off := 7) (tgt := 200) (by decide +kernel) (by decide +kernel) (by decide) (fun _ => ?_) (fun _ => ?_)
    · refine j_runA hx 1 (tb := [(200, .iconst 0)]) (jtb_ok (by decide +kernel)) (pc' := 201) (lv' := [(0, vR t), (1, vL a1), (3, vL a3), (5, vI a5), (6, vI a6), (7, vI a7), (8, vL l8), (10, vL l10), (12, vL l12), (14, vL l14)]) (st' := [vI (kI 0), vR t]) rfl ?_
      refine j_lv (lv' := [(0, vR t), (1, vL a1), (3, vL a3), (5, vI a5), (6, vI a6), (7, vI a7), (8, vL l8)]) ⟨rfl, rfl, rfl, rfl, rfl, rfl, rfl, trivial⟩ ?_
      exact wma_sum_201 h l8 (kI 0) t W24
    refine j_runA hx 1 (tb := [(196, .iconst 1)]) (jtb_ok (by decide +kernel)) (pc' := 197) (lv' := [(0, vR t), (1, vL a1), (3, vL a3), (5, vI a5), (6, vI a6), (7, vI a7), (8, vL l8), (10, vL l10), (12, vL l12), (14, vL l14)]) (st' := [vI (kI 1), vR t]) rfl ?_
    refine j_goto hx (off := 4) (by decide +kernel) (tgt := 201) (by decide) ?_
    refine j_lv (lv' := [(0, vR t), (1, vL a1), (3, vL a3), (5, vI a5), (6, vI a6), (7, vI a7), (8, vL l8)]) ⟨rfl, rfl, rfl, rfl, rfl, rfl, rfl, trivial⟩ ?_
    exact wma_sum_201 h l8 (kI 1) t W24
  refine j_runA hx 8 (tb := [(156, .lload 10), (158, .lload 12), (160, .lxor), (161, .lload 10), (163, .lload 14), (165, .lxor), (166, .land), (167, .lconst 0)]) (jtb_ok (by decide +kernel)) (pc' := 168) (lv' := [(0, vR t), (1, vL a1), (3, vL a3), (5, vI a5), (6, vI a6), (7, vI a7), (8, vL l8), (10, vL l10), (12, vL l12), (14, vL l14)]) (st' := [vL (kJ 0), vL ((l10 ^^^ l12) &&& (l10 ^^^ l14)), vR t]) rfl ?_
  refine j_lcmp_ge hx (off := 7) (tgt := 176) (by decide +kernel) (by decide +kernel) (by decide) (fun _ => ?_) (fun _ => ?_)
  · refine j_runA hx 1 (tb := [(176, .iconst 0)]) (jtb_ok (by decide +kernel)) (pc' := 177) (lv' := [(0, vR t), (1, vL a1), (3, vL a3), (5, vI a5), (6, vI a6), (7, vI a7), (8, vL l8), (10, vL l10), (12, vL l12), (14, vL l14)]) (st' := [vI (kI 0), vR t]) rfl ?_
    refine j_goto hx (off := 24) (by decide +kernel) (tgt := 201) (by decide) ?_
    refine j_lv (lv' := [(0, vR t), (1, vL a1), (3, vL a3), (5, vI a5), (6, vI a6), (7, vI a7), (8, vL l8)]) ⟨rfl, rfl, rfl, rfl, rfl, rfl, rfl, trivial⟩ ?_
    exact wma_sum_201 h l8 (kI 0) t W24
  refine j_runA hx 1 (tb := [(172, .iconst 1)]) (jtb_ok (by decide +kernel)) (pc' := 173) (lv' := [(0, vR t), (1, vL a1), (3, vL a3), (5, vI a5), (6, vI a6), (7, vI a7), (8, vL l8), (10, vL l10), (12, vL l12), (14, vL l14)]) (st' := [vI (kI 1), vR t]) rfl ?_
  refine j_goto hx (off := 28) (by decide +kernel) (tgt := 201) (by decide) ?_
  refine j_lv (lv' := [(0, vR t), (1, vL a1), (3, vL a3), (5, vI a5), (6, vI a6), (7, vI a7), (8, vL l8)]) ⟨rfl, rfl, rfl, rfl, rfl, rfl, rfl, trivial⟩ ?_
  exact wma_sum_201 h l8 (kI 1) t W24
theorem wma_sum_113 {x : jCx} {en : (Int64 × jW) → Option (Outcome × jW)} {t : Nat} {a1 : Int64} {a3 : Int64} {a5 : Int32} {a6 : Int32} {a7 : Int32} (h : hma_sum x en t a1 a3 a5 a6 a7) (l8 : Int64) (l10 : Int64) (l12 : Int64) (l14 : Int64) (s0 : Int32) (s1 : Nat) (W : jW) : jJ x 16 113 [(0, vR t), (1, vL a1), (3, vL a3), (5, vI a5), (6, vI a6), (7, vI a7), (8, vL l8), (10, vL l10), (12, vL l12), (14, vL l14)] [vI s0, vR s1] W (fma_sum_113 t a1 a3 a5 a6 a7 l8 l10 l12 l14 s0 s1 W) en := by
  have h0 := h
  obtain ⟨hx, hm, hr, he⟩ := h0
  unfold fma_sum_113
  refine j_gd (fun h15 => ?_)
  refine j_gd (fun h16 => ?_)
  refine j_putI hx fwX15_90 wf1011 kd1011 h15 (by decide) (by decide +kernel) (nz1011 h16) (fz1011 h16) ?_
  refine j_ltw rfl (fun W17 hc18 => ?_)
  have h19 : jC W17 s1 = 10 := (congrFun hc18 _).trans h15
  refine j_runA hx 2 (tb := [(116, .aload_n 0), (117, .iload 5)]) (jtb_ok (by decide +kernel)) (pc' := 119) (lv' := [(0, vR t), (1, vL a1), (3, vL a3), (5, vI a5), (6, vI a6), (7, vI a7), (8, vL l8), (10, vL l10), (12, vL l12), (14, vL l14)]) (st' := [vI a5, vR t]) rfl ?_
  refine j_if_eq hx (off := 21) (tgt := 140) (by decide +kernel) (by decide) (fun _ => ?_) (fun _ => ?_)
  · refine j_runA hx 2 (tb := [(140, .lload 10), (142, .lload 14)]) (jtb_ok (by decide +kernel)) (pc' := 144) (lv' := [(0, vR t), (1, vL a1), (3, vL a3), (5, vI a5), (6, vI a6), (7, vI a7), (8, vL l8), (10, vL l10), (12, vL l12), (14, vL l14)]) (st' := [vL l14, vL l10, vR t]) rfl ?_
    refine j_TI (j_callS (av := [vL l10, vL l14]) (st := [vR t]) hx hr (Or.inr ⟨_, q2094⟩) q819 q226 md_fcl_isAbove np_fcl_isAbove (ccl_isAbove l10 l14 W17) (by decide) (Nat.le_of_ble_eq_true rfl) (by decide +kernel)) ?_
    exact wma_sum_147 h l8 l10 l12 l14 (fcl_isAbove l10 l14) t W17
  refine j_runA hx 2 (tb := [(122, .lload 12), (124, .lload 10)]) (jtb_ok (by decide +kernel)) (pc' := 126) (lv' := [(0, vR t), (1, vL a1), (3, vL a3), (5, vI a5), (6, vI a6), (7, vI a7), (8, vL l8), (10, vL l10), (12, vL l12), (14, vL l14)]) (st' := [vL l10, vL l12, vR t]) rfl ?_
  refine j_TI (j_callS (av := [vL l12, vL l10]) (st := [vR t]) hx hr (Or.inr ⟨_, q2094⟩) q819 q226 md_fcl_isAbove np_fcl_isAbove (ccl_isAbove l12 l10 W17) (by decide) (Nat.le_of_ble_eq_true rfl) (by decide +kernel)) ?_
  refine j_if_ne hx (off := 7) (tgt := 136) (by decide +kernel) (by decide) (fun _ => ?_) (fun _ => ?_)
  · refine j_runA hx 1 (tb := [(136, .iconst 0)]) (jtb_ok (by decide +kernel)) (pc' := 137) (lv' := [(0, vR t), (1, vL a1), (3, vL a3), (5, vI a5), (6, vI a6), (7, vI a7), (8, vL l8), (10, vL l10), (12, vL l12), (14, vL l14)]) (st' := [vI (kI 0), vR t]) rfl ?_
    refine j_goto hx (off := 10) (by decide +kernel) (tgt := 147) (by decide) ?_
    exact wma_sum_147 h l8 l10 l12 l14 (kI 0) t W17
  refine j_runA hx 1 (tb := [(132, .iconst 1)]) (jtb_ok (by decide +kernel)) (pc' := 133) (lv' := [(0, vR t), (1, vL a1), (3, vL a3), (5, vI a5), (6, vI a6), (7, vI a7), (8, vL l8), (10, vL l10), (12, vL l12), (14, vL l14)]) (st' := [vI (kI 1), vR t]) rfl ?_
  refine j_goto hx (off := 14) (by decide +kernel) (tgt := 147) (by decide) ?_
  exact wma_sum_147 h l8 l10 l12 l14 (kI 1) t W17
theorem wma_sum_97 {x : jCx} {en : (Int64 × jW) → Option (Outcome × jW)} {t : Nat} {a1 : Int64} {a3 : Int64} {a5 : Int32} {a6 : Int32} {a7 : Int32} (h : hma_sum x en t a1 a3 a5 a6 a7) (l8 : Int64) (l10 : Int64) (l12 : Int64) (l14 : Int64) (s0 : Int32) (s1 : Nat) (W : jW) : jJ x 16 97 [(0, vR t), (1, vL a1), (3, vL a3), (5, vI a5), (6, vI a6), (7, vI a7), (8, vL l8), (10, vL l10), (12, vL l12), (14, vL l14)] [vI s0, vR s1] W (fma_sum_97 t a1 a3 a5 a6 a7 l8 l10 l12 l14 s0 s1 W) en := by
  have h0 := h
  obtain ⟨hx, hm, hr, he⟩ := h0
  unfold fma_sum_97
  refine j_gd (fun h8 => ?_)
  refine j_gd (fun h9 => ?_)
  refine j_putI hx fwX15_87 wf1010 kd1010 h8 (by decide) (by decide +kernel) (nz1010 h9) (fz1010 h9) ?_
  refine j_ltw rfl (fun W10 hc11 => ?_)
  have h12 : jC W10 s1 = 10 := (congrFun hc11 _).trans h8
  refine j_runA hx 3 (tb := [(100, .aload_n 0), (101, .lload 14), (103, .lconst 0)]) (jtb_ok (by decide +kernel)) (pc' := 104) (lv' := [(0, vR t), (1, vL a1), (3, vL a3), (5, vI a5), (6, vI a6), (7, vI a7), (8, vL l8), (10, vL l10), (12, vL l12), (14, vL l14)]) (st' := [vL (kJ 0), vL l14, vR t]) rfl ?_
  refine j_lcmp_ne hx (off := 7) (tgt := 112) (by decide +kernel) (by decide +kernel) (by decide) (fun _ => ?_) (fun _ => ?_)
  · refine j_runA hx 1 (tb := [(112, .iconst 0)]) (jtb_ok (by decide +kernel)) (pc' := 113) (lv' := [(0, vR t), (1, vL a1), (3, vL a3), (5, vI a5), (6, vI a6), (7, vI a7), (8, vL l8), (10, vL l10), (12, vL l12), (14, vL l14)]) (st' := [vI (kI 0), vR t]) rfl ?_
    exact wma_sum_113 h l8 l10 l12 l14 (kI 0) t W10
  refine j_runA hx 1 (tb := [(108, .iconst 1)]) (jtb_ok (by decide +kernel)) (pc' := 109) (lv' := [(0, vR t), (1, vL a1), (3, vL a3), (5, vI a5), (6, vI a6), (7, vI a7), (8, vL l8), (10, vL l10), (12, vL l12), (14, vL l14)]) (st' := [vI (kI 1), vR t]) rfl ?_
  refine j_goto hx (off := 4) (by decide +kernel) (tgt := 113) (by decide) ?_
  exact wma_sum_113 h l8 l10 l12 l14 (kI 1) t W10
theorem wma_sum_82 {x : jCx} {en : (Int64 × jW) → Option (Outcome × jW)} {t : Nat} {a1 : Int64} {a3 : Int64} {a5 : Int32} {a6 : Int32} {a7 : Int32} (h : hma_sum x en t a1 a3 a5 a6 a7) (l8 : Int64) (l10 : Int64) (l12 : Int64) (s0 : Int64) (W : jW) : jJ x 16 82 [(0, vR t), (1, vL a1), (3, vL a3), (5, vI a5), (6, vI a6), (7, vI a7), (8, vL l8), (10, vL l10), (12, vL l12)] [vL s0] W (fma_sum_82 t a1 a3 a5 a6 a7 l8 l10 l12 s0 W) en := by
  have h0 := h
  obtain ⟨hx, hm, hr, he⟩ := h0
  unfold fma_sum_82
  refine j_runA hx 4 (tb := [(82, .lstore 14), (84, .aload_n 0), (85, .lload 14), (87, .lconst 0)]) (jtb_ok (by decide +kernel)) (pc' := 88) (lv' := [(14, vL s0), (0, vR t), (1, vL a1), (3, vL a3), (5, vI a5), (6, vI a6), (7, vI a7), (8, vL l8), (10, vL l10), (12, vL l12)]) (st' := [vL (kJ 0), vL s0, vR t]) rfl ?_
  refine j_lcmp_ge hx (off := 7) (tgt := 96) (by decide +kernel) (by decide +kernel) (by decide) (fun _ => ?_) (fun _ => ?_)
  · refine j_runA hx 1 (tb := [(96, .iconst 0)]) (jtb_ok (by decide +kernel)) (pc' := 97) (lv' := [(14, vL s0), (0, vR t), (1, vL a1), (3, vL a3), (5, vI a5), (6, vI a6), (7, vI a7), (8, vL l8), (10, vL l10), (12, vL l12)]) (st' := [vI (kI 0), vR t]) rfl ?_
    refine j_lv (lv' := [(0, vR t), (1, vL a1), (3, vL a3), (5, vI a5), (6, vI a6), (7, vI a7), (8, vL l8), (10, vL l10), (12, vL l12), (14, vL s0)]) ⟨rfl, rfl, rfl, rfl, rfl, rfl, rfl, rfl, rfl, rfl, trivial⟩ ?_
    exact wma_sum_97 h l8 l10 l12 s0 (kI 0) t W
  refine j_runA hx 1 (tb := [(92, .iconst 1)]) (jtb_ok (by decide +kernel)) (pc' := 93) (lv' := [(14, vL s0), (0, vR t), (1, vL a1), (3, vL a3), (5, vI a5), (6, vI a6), (7, vI a7), (8, vL l8), (10, vL l10), (12, vL l12)]) (st' := [vI (kI 1), vR t]) rfl ?_
  refine j_goto hx (off := 4) (by decide +kernel) (tgt := 97) (by decide) ?_
  refine j_lv (lv' := [(0, vR t), (1, vL a1), (3, vL a3), (5, vI a5), (6, vI a6), (7, vI a7), (8, vL l8), (10, vL l10), (12, vL l12), (14, vL s0)]) ⟨rfl, rfl, rfl, rfl, rfl, rfl, rfl, rfl, rfl, rfl, trivial⟩ ?_
  exact wma_sum_97 h l8 l10 l12 s0 (kI 1) t W
theorem wma_sum_65 {x : jCx} {en : (Int64 × jW) → Option (Outcome × jW)} {t : Nat} {a1 : Int64} {a3 : Int64} {a5 : Int32} {a6 : Int32} {a7 : Int32} (h : hma_sum x en t a1 a3 a5 a6 a7) (l8 : Int64) (l10 : Int64) (s0 : Int64) (W : jW) : jJ x 16 65 [(0, vR t), (1, vL a1), (3, vL a3), (5, vI a5), (6, vI a6), (7, vI a7), (8, vL l8), (10, vL l10)] [vL s0] W (fma_sum_65 t a1 a3 a5 a6 a7 l8 l10 s0 W) en := by
  have h0 := h
  obtain ⟨hx, hm, hr, he⟩ := h0
  unfold fma_sum_65
  refine j_runA hx 2 (tb := [(65, .lstore 12), (67, .iload 6)]) (jtb_ok (by decide +kernel)) (pc' := 69) (lv' := [(12, vL s0), (0, vR t), (1, vL a1), (3, vL a3), (5, vI a5), (6, vI a6), (7, vI a7), (8, vL l8), (10, vL l10)]) (st' := [vI a6]) rfl ?_
  refine j_if_eq hx (off := 8) (tgt := 77) (by decide +kernel) (by decide) (fun _ => ?_) (fun _ => ?_)
  · refine j_runA hx 3 (tb := [(77, .lload 8), (79, .bipush 32), (81, .lshl)]) (jtb_ok (by decide +kernel)) (pc' := 82) (lv' := [(12, vL s0), (0, vR t), (1, vL a1), (3, vL a3), (5, vI a5), (6, vI a6), (7, vI a7), (8, vL l8), (10, vL l10)]) (st' := [vL (lxl l8 (kI 32))]) rfl ?_
    refine j_lv (lv' := [(0, vR t), (1, vL a1), (3, vL a3), (5, vI a5), (6, vI a6), (7, vI a7), (8, vL l8), (10, vL l10), (12, vL s0)]) ⟨rfl, rfl, rfl, rfl, rfl, rfl, rfl, rfl, rfl, trivial⟩ ?_
    exact wma_sum_82 h l8 l10 s0 (lxl l8 (kI 32)) W
  refine j_runA hx 1 (tb := [(72, .lload 8)]) (jtb_ok (by decide +kernel)) (pc' := 74) (lv' := [(12, vL s0), (0, vR t), (1, vL a1), (3, vL a3), (5, vI a5), (6, vI a6), (7, vI a7), (8, vL l8), (10, vL l10)]) (st' := [vL l8]) rfl ?_
  refine j_goto hx (off := 8) (by decide +kernel) (tgt := 82) (by decide) ?_
  refine j_lv (lv' := [(0, vR t), (1, vL a1), (3, vL a3), (5, vI a5), (6, vI a6), (7, vI a7), (8, vL l8), (10, vL l10), (12, vL s0)]) ⟨rfl, rfl, rfl, rfl, rfl, rfl, rfl, rfl, rfl, trivial⟩ ?_
  exact wma_sum_82 h l8 l10 s0 l8 W
theorem wma_sum_50 {x : jCx} {en : (Int64 × jW) → Option (Outcome × jW)} {t : Nat} {a1 : Int64} {a3 : Int64} {a5 : Int32} {a6 : Int32} {a7 : Int32} (h : hma_sum x en t a1 a3 a5 a6 a7) (l8 : Int64) (s0 : Int64) (W : jW) : jJ x 16 50 [(0, vR t), (1, vL a1), (3, vL a3), (5, vI a5), (6, vI a6), (7, vI a7), (8, vL l8)] [vL s0] W (fma_sum_50 t a1 a3 a5 a6 a7 l8 s0 W) en := by
  have h0 := h
  obtain ⟨hx, hm, hr, he⟩ := h0
  unfold fma_sum_50
  refine j_runA hx 2 (tb := [(50, .lstore 10), (52, .iload 6)]) (jtb_ok (by decide +kernel)) (pc' := 54) (lv' := [(10, vL s0), (0, vR t), (1, vL a1), (3, vL a3), (5, vI a5), (6, vI a6), (7, vI a7), (8, vL l8)]) (st' := [vI a6]) rfl ?_
  refine j_if_eq hx (off := 7) (tgt := 61) (by decide +kernel) (by decide) (fun _ => ?_) (fun _ => ?_)
  · refine j_runA hx 3 (tb := [(61, .lload_n 3), (62, .bipush 32), (64, .lshl)]) (jtb_ok (by decide +kernel)) (pc' := 65) (lv' := [(10, vL s0), (0, vR t), (1, vL a1), (3, vL a3), (5, vI a5), (6, vI a6), (7, vI a7), (8, vL l8)]) (st' := [vL (lxl a3 (kI 32))]) rfl ?_
    refine j_lv (lv' := [(0, vR t), (1, vL a1), (3, vL a3), (5, vI a5), (6, vI a6), (7, vI a7), (8, vL l8), (10, vL s0)]) ⟨rfl, rfl, rfl, rfl, rfl, rfl, rfl, rfl, trivial⟩ ?_
    exact wma_sum_65 h l8 s0 (lxl a3 (kI 32)) W
  refine j_runA hx 1 (tb := [(57, .lload_n 3)]) (jtb_ok (by decide +kernel)) (pc' := 58) (lv' := [(10, vL s0), (0, vR t), (1, vL a1), (3, vL a3), (5, vI a5), (6, vI a6), (7, vI a7), (8, vL l8)]) (st' := [vL a3]) rfl ?_
  refine j_goto hx (off := 7) (by decide +kernel) (tgt := 65) (by decide) ?_
  refine j_lv (lv' := [(0, vR t), (1, vL a1), (3, vL a3), (5, vI a5), (6, vI a6), (7, vI a7), (8, vL l8), (10, vL s0)]) ⟨rfl, rfl, rfl, rfl, rfl, rfl, rfl, rfl, trivial⟩ ?_
  exact wma_sum_65 h l8 s0 a3 W
theorem wma_sum_29 {x : jCx} {en : (Int64 × jW) → Option (Outcome × jW)} {t : Nat} {a1 : Int64} {a3 : Int64} {a5 : Int32} {a6 : Int32} {a7 : Int32} (h : hma_sum x en t a1 a3 a5 a6 a7) (l8 : Int64) (W : jW) : jJ x 16 29 [(0, vR t), (1, vL a1), (3, vL a3), (5, vI a5), (6, vI a6), (7, vI a7), (8, vL l8)] [] W (fma_sum_29 t a1 a3 a5 a6 a7 l8 W) en := by
  have h0 := h
  obtain ⟨hx, hm, hr, he⟩ := h0
  unfold fma_sum_29
  refine j_runA hx 1 (tb := [(29, .iload 7)]) (jtb_ok (by decide +kernel)) (pc' := 31) (lv' := [(0, vR t), (1, vL a1), (3, vL a3), (5, vI a5), (6, vI a6), (7, vI a7), (8, vL l8)]) (st' := [vI a7]) rfl ?_
  refine j_if_ne hx (off := 6) (tgt := 37) (by decide +kernel) (by decide) (fun _ => ?_) (fun _ => ?_)
  · refine j_runA hx 1 (tb := [(37, .iload 6)]) (jtb_ok (by decide +kernel)) (pc' := 39) (lv' := [(0, vR t), (1, vL a1), (3, vL a3), (5, vI a5), (6, vI a6), (7, vI a7), (8, vL l8)]) (st' := [vI a6]) rfl ?_
    refine j_if_eq hx (off := 7) (tgt := 46) (by decide +kernel) (by decide) (fun _ => ?_) (fun _ => ?_)
    · refine j_runA hx 3 (tb := [(46, .lload_n 1), (47, .bipush 32), (49, .lshl)]) (jtb_ok (by decide +kernel)) (pc' := 50) (lv' := [(0, vR t), (1, vL a1), (3, vL a3), (5, vI a5), (6, vI a6), (7, vI a7), (8, vL l8)]) (st' := [vL (lxl a1 (kI 32))]) rfl ?_
      exact wma_sum_50 h l8 (lxl a1 (kI 32)) W
    refine j_runA hx 1 (tb := [(42, .lload_n 1)]) (jtb_ok (by decide +kernel)) (pc' := 43) (lv' := [(0, vR t), (1, vL a1), (3, vL a3), (5, vI a5), (6, vI a6), (7, vI a7), (8, vL l8)]) (st' := [vL a1]) rfl ?_
    refine j_goto hx (off := 7) (by decide +kernel) (tgt := 50) (by decide) ?_
    exact wma_sum_50 h l8 a1 W
  refine j_runA hx 1 (tb := [(34, .lload 8)]) (jtb_ok (by decide +kernel)) (pc' := 36) (lv' := [(0, vR t), (1, vL a1), (3, vL a3), (5, vI a5), (6, vI a6), (7, vI a7), (8, vL l8)]) (st' := [vL l8]) rfl ?_
  exact j_lret hx hm (by decide +kernel) (he _)
theorem wma_sum_14 {x : jCx} {en : (Int64 × jW) → Option (Outcome × jW)} {t : Nat} {a1 : Int64} {a3 : Int64} {a5 : Int32} {a6 : Int32} {a7 : Int32} (h : hma_sum x en t a1 a3 a5 a6 a7) (s0 : Int64) (W : jW) : jJ x 16 14 [(0, vR t), (1, vL a1), (3, vL a3), (5, vI a5), (6, vI a6), (7, vI a7)] [vL s0] W (fma_sum_14 t a1 a3 a5 a6 a7 s0 W) en := by
  have h0 := h
  obtain ⟨hx, hm, hr, he⟩ := h0
  unfold fma_sum_14
  refine j_runA hx 2 (tb := [(14, .lstore 8), (16, .iload 6)]) (jtb_ok (by decide +kernel)) (pc' := 18) (lv' := [(8, vL s0), (0, vR t), (1, vL a1), (3, vL a3), (5, vI a5), (6, vI a6), (7, vI a7)]) (st' := [vI a6]) rfl ?_
  refine j_if_ne hx (off := 11) (tgt := 29) (by decide +kernel) (by decide) (fun _ => ?_) (fun _ => ?_)
  · refine j_lv (lv' := [(0, vR t), (1, vL a1), (3, vL a3), (5, vI a5), (6, vI a6), (7, vI a7), (8, vL s0)]) ⟨rfl, rfl, rfl, rfl, rfl, rfl, rfl, trivial⟩ ?_
    exact wma_sum_29 h s0 W
  refine j_runA hx 1 (tb := [(21, .lload 8)]) (jtb_ok (by decide +kernel)) (pc' := 23) (lv' := [(8, vL s0), (0, vR t), (1, vL a1), (3, vL a3), (5, vI a5), (6, vI a6), (7, vI a7)]) (st' := [vL s0]) rfl ?_
  refine j_ldc2 hx (v := (kJ 4294967295)) (jkd2 q2089 (by decide +kernel)) (by decide +kernel) ?_
  refine j_runA hx 2 (tb := [(26, .land), (27, .lstore 8)]) (jtb_ok (by decide +kernel)) (pc' := 29) (lv' := [(8, vL (s0 &&& (kJ 4294967295))), (0, vR t), (1, vL a1), (3, vL a3), (5, vI a5), (6, vI a6), (7, vI a7)]) (st' := []) rfl ?_
  refine j_let (v := (s0 &&& (kJ 4294967295))) (lv := fun v2 => [(8, vL v2), (0, vR t), (1, vL a1), (3, vL a3), (5, vI a5), (6, vI a6), (7, vI a7)]) (st := fun _ => []) (fun v2 => ?_)
  refine j_lv (lv' := [(0, vR t), (1, vL a1), (3, vL a3), (5, vI a5), (6, vI a6), (7, vI a7), (8, vL v2)]) ⟨rfl, rfl, rfl, rfl, rfl, rfl, rfl, trivial⟩ ?_
  exact wma_sum_29 h v2 W
theorem wma_sum {x : jCx} {en : (Int64 × jW) → Option (Outcome × jW)} {t : Nat} {a1 : Int64} {a3 : Int64} {a5 : Int32} {a6 : Int32} {a7 : Int32} (h : hma_sum x en t a1 a3 a5 a6 a7) (W : jW) : jJ x 16 0 [(0, vR t), (1, vL a1), (3, vL a3), (5, vI a5), (6, vI a6), (7, vI a7)] [] W (fma_sum t a1 a3 a5 a6 a7 W) en := by
  have h0 := h
  obtain ⟨hx, hm, hr, he⟩ := h0
  unfold fma_sum
  refine j_runA hx 1 (tb := [(0, .iload 5)]) (jtb_ok (by decide +kernel)) (pc' := 2) (lv' := [(0, vR t), (1, vL a1), (3, vL a3), (5, vI a5), (6, vI a6), (7, vI a7)]) (st' := [vI a5]) rfl ?_
  refine j_if_eq hx (off := 9) (tgt := 11) (by decide +kernel) (by decide) (fun _ => ?_) (fun _ => ?_)
  · refine j_runA hx 3 (tb := [(11, .lload_n 1), (12, .lload_n 3), (13, .ladd)]) (jtb_ok (by decide +kernel)) (pc' := 14) (lv' := [(0, vR t), (1, vL a1), (3, vL a3), (5, vI a5), (6, vI a6), (7, vI a7)]) (st' := [vL (a1 + a3)]) rfl ?_
    exact wma_sum_14 h (a1 + a3) W
  refine j_runA hx 3 (tb := [(5, .lload_n 1), (6, .lload_n 3), (7, .lsub)]) (jtb_ok (by decide +kernel)) (pc' := 8) (lv' := [(0, vR t), (1, vL a1), (3, vL a3), (5, vI a5), (6, vI a6), (7, vI a7)]) (st' := [vL (a1 - a3)]) rfl ?_
  refine j_goto hx (off := 6) (by decide +kernel) (tgt := 14) (by decide) ?_
  exact wma_sum_14 h (a1 - a3) W
theorem cma_sum (t : Nat) (a1 : Int64) (a3 : Int64) (a5 : Int32) (a6 : Int32) (a7 : Int32) (W : jW) : jM yX15_sum cX15_sum 16 (Option.some Jvm.ClassFile.FieldType.long) [] 1 16 [vR t, vL a1, vL a3, vI a5, vI a6, vI a7] W ((fma_sum t a1 a3 a5 a6 a7 W).bind (fun q => some (.returned (some (.long q.1)), q.2))) := 
  jM.of (Nat.le_of_ble_eq_true rfl) (fun x hx hm hr => wma_sum ⟨hx, hm, hr, fun _ => rfl⟩ W)
def hma_put (x : jCx) (en : (jW) → Option (Outcome × jW)) (t : Nat) (a1 : Int32) (a2 : Int64) (a4 : Int32) : Prop :=
  jOK x RX15 cX15_put 5 ∧
  jMt x "put" (Option.none : Option Jvm.ClassFile.FieldType) [] ∧
  jRm x 0 0 ∧
  (∀ q : jW, en q = some (.returned none, q))
theorem wma_put_26 {x : jCx} {en : (jW) → Option (Outcome × jW)} {t : Nat} {a1 : Int32} {a2 : Int64} {a4 : Int32} (h : hma_put x en t a1 a2 a4) (s0 : Int64) (s1 : Int32) (s2 : Nat) (W : jW) : jJ x 5 26 [(0, vR t), (1, vI a1), (2, vL a2), (4, vI a4)] [vL s0, vI s1, vR s2] W (fma_put_26 t a1 a2 a4 s0 s1 s2 W) en := by
  have h0 := h
  obtain ⟨hx, hm, hr, he⟩ := h0
  unfold fma_put_26
  refine j_gd (fun h3 => ?_)
  refine j_gd (fun h4 => ?_)
  refine j_last hx (f := 1007) (o := t) kd1007 h3 (by decide +kernel) h4 ?_
  refine j_ltw rfl (fun W5 hc6 => ?_)
  refine j_runA hx 1 (tb := [(27, .aload_n 0)]) (jtb_ok (by decide +kernel)) (pc' := 28) (lv' := [(0, vR t), (1, vI a1), (2, vL a2), (4, vI a4)]) (st' := [vR t]) rfl ?_
  refine j_gd (fun h8 => ?_)
  refine j_getR hx flX15_22 kl1008 h8 (by decide) (by decide +kernel) ?_
  refine j_runA hx 2 (tb := [(31, .iload_n 1), (32, .iconst 0)]) (jtb_ok (by decide +kernel)) (pc' := 33) (lv' := [(0, vR t), (1, vI a1), (2, vL a2), (4, vI a4)]) (st' := [vI (kI 0), vI a1, vR (jR W5 1008 t)]) rfl ?_
  refine j_gd (fun h9 => ?_)
  refine j_iast hx (f := 1008) (o := t) kd1008 rfl (by decide +kernel) h9 ?_
  refine j_ltw rfl (fun W10 hc11 => ?_)
  have h12 : jC W10 t = 10 := (congrFun hc11 _).trans h8
  exact j_vret hx hm (by decide +kernel) (he _)
theorem wma_put {x : jCx} {en : (jW) → Option (Outcome × jW)} {t : Nat} {a1 : Int32} {a2 : Int64} {a4 : Int32} (h : hma_put x en t a1 a2 a4) (W : jW) : jJ x 5 0 [(0, vR t), (1, vI a1), (2, vL a2), (4, vI a4)] [] W (fma_put t a1 a2 a4 W) en := by
  have h0 := h
  obtain ⟨hx, hm, hr, he⟩ := h0
  unfold fma_put
  refine j_runA hx 2 (tb := [(0, .iload_n 1), (1, .bipush 31)]) (jtb_ok (by decide +kernel)) (pc' := 3) (lv' := [(0, vR t), (1, vI a1), (2, vL a2), (4, vI a4)]) (st' := [vI (kI 31), vI a1]) rfl ?_
  refine j_icmp_ne hx (off := 4) (tgt := 7) (by decide +kernel) (by decide) (fun _ => ?_) (fun _ => ?_)
  · refine j_runA hx 1 (tb := [(7, .aload_n 0)]) (jtb_ok (by decide +kernel)) (pc' := 8) (lv' := [(0, vR t), (1, vI a1), (2, vL a2), (4, vI a4)]) (st' := [vR t]) rfl ?_
    refine j_gd (fun h1 => ?_)
    refine j_getR hx flX15_18 kl1007 h1 (by decide) (by decide +kernel) ?_
    refine j_runA hx 2 (tb := [(11, .iload_n 1), (12, .iload 4)]) (jtb_ok (by decide +kernel)) (pc' := 14) (lv' := [(0, vR t), (1, vI a1), (2, vL a2), (4, vI a4)]) (st' := [vI a4, vI a1, vR (jR W 1007 t)]) rfl ?_
    refine j_if_eq hx (off := 7) (tgt := 21) (by decide +kernel) (by decide) (fun _ => ?_) (fun _ => ?_)
    · refine j_runA hx 1 (tb := [(21, .lload_n 2)]) (jtb_ok (by decide +kernel)) (pc' := 22) (lv' := [(0, vR t), (1, vI a1), (2, vL a2), (4, vI a4)]) (st' := [vL a2, vI a1, vR (jR W 1007 t)]) rfl ?_
      refine j_ldc2 hx (v := (kJ 4294967295)) (jkd2 q2089 (by decide +kernel)) (by decide +kernel) ?_
      refine j_runA hx 1 (tb := [(25, .land)]) (jtb_ok (by decide +kernel)) (pc' := 26) (lv' := [(0, vR t), (1, vI a1), (2, vL a2), (4, vI a4)]) (st' := [vL (a2 &&& (kJ 4294967295)), vI a1, vR (jR W 1007 t)]) rfl ?_
      exact wma_put_26 h (a2 &&& (kJ 4294967295)) a1 (jR W 1007 t) W
    refine j_runA hx 1 (tb := [(17, .lload_n 2)]) (jtb_ok (by decide +kernel)) (pc' := 18) (lv' := [(0, vR t), (1, vI a1), (2, vL a2), (4, vI a4)]) (st' := [vL a2, vI a1, vR (jR W 1007 t)]) rfl ?_
    refine j_goto hx (off := 8) (by decide +kernel) (tgt := 26) (by decide) ?_
    exact wma_put_26 h a2 a1 (jR W 1007 t) W
  exact j_vret hx hm (by decide +kernel) (he _)
theorem cma_put (t : Nat) (a1 : Int32) (a2 : Int64) (a4 : Int32) (W : jW) : jM yX15_put cX15_put 5 (Option.none : Option Jvm.ClassFile.FieldType) [] 0 0 [vR t, vI a1, vL a2, vI a4] W ((fma_put t a1 a2 a4 W).bind (fun q => some (.returned none, q))) := 
  jM.of (Nat.le_of_ble_eq_true rfl) (fun x hx hm hr => wma_put ⟨hx, hm, hr, fun _ => rfl⟩ W)
def hma_putBase (x : jCx) (en : (jW) → Option (Outcome × jW)) (t : Nat) (a1 : Int32) (a2 : Int64) (a4 : Int32) : Prop :=
  jOK x RX15 cX15_putBase 5 ∧
  jMt x "putBase" (Option.none : Option Jvm.ClassFile.FieldType) [] ∧
  jRm x 0 0 ∧
  (∀ q : jW, en q = some (.returned none, q))
theorem wma_putBase_19 {x : jCx} {en : (jW) → Option (Outcome × jW)} {t : Nat} {a1 : Int32} {a2 : Int64} {a4 : Int32} (h : hma_putBase x en t a1 a2 a4) (s0 : Int64) (s1 : Int32) (s2 : Nat) (W : jW) : jJ x 5 19 [(0, vR t), (1, vI a1), (2, vL a2), (4, vI a4)] [vL s0, vI s1, vR s2] W (fma_putBase_19 t a1 a2 a4 s0 s1 s2 W) en := by
  have h0 := h
  obtain ⟨hx, hm, hr, he⟩ := h0
  unfold fma_putBase_19
  refine j_gd (fun h3 => ?_)
  refine j_gd (fun h4 => ?_)
  refine j_last hx (f := 1007) (o := t) kd1007 h3 (by decide +kernel) h4 ?_
  refine j_ltw rfl (fun W5 hc6 => ?_)
  refine j_runA hx 1 (tb := [(20, .aload_n 0)]) (jtb_ok (by decide +kernel)) (pc' := 21) (lv' := [(0, vR t), (1, vI a1), (2, vL a2), (4, vI a4)]) (st' := [vR t]) rfl ?_
  refine j_gd (fun h8 => ?_)
  refine j_getR hx flX15_22 kl1008 h8 (by decide) (by decide +kernel) ?_
  refine j_runA hx 2 (tb := [(24, .iload_n 1), (25, .iconst 0)]) (jtb_ok (by decide +kernel)) (pc' := 26) (lv' := [(0, vR t), (1, vI a1), (2, vL a2), (4, vI a4)]) (st' := [vI (kI 0), vI a1, vR (jR W5 1008 t)]) rfl ?_
  refine j_gd (fun h9 => ?_)
  refine j_iast hx (f := 1008) (o := t) kd1008 rfl (by decide +kernel) h9 ?_
  refine j_ltw rfl (fun W10 hc11 => ?_)
  have h12 : jC W10 t = 10 := (congrFun hc11 _).trans h8
  exact j_vret hx hm (by decide +kernel) (he _)
theorem wma_putBase {x : jCx} {en : (jW) → Option (Outcome × jW)} {t : Nat} {a1 : Int32} {a2 : Int64} {a4 : Int32} (h : hma_putBase x en t a1 a2 a4) (W : jW) : jJ x 5 0 [(0, vR t), (1, vI a1), (2, vL a2), (4, vI a4)] [] W (fma_putBase t a1 a2 a4 W) en := by
  have h0 := h
  obtain ⟨hx, hm, hr, he⟩ := h0
  unfold fma_putBase
  refine j_runA hx 1 (tb := [(0, .aload_n 0)]) (jtb_ok (by decide +kernel)) (pc' := 1) (lv' := [(0, vR t), (1, vI a1), (2, vL a2), (4, vI a4)]) (st' := [vR t]) rfl ?_
  refine j_gd (fun h1 => ?_)
  refine j_getR hx flX15_18 kl1007 h1 (by decide) (by decide +kernel) ?_
  refine j_runA hx 2 (tb := [(4, .iload_n 1), (5, .iload 4)]) (jtb_ok (by decide +kernel)) (pc' := 7) (lv' := [(0, vR t), (1, vI a1), (2, vL a2), (4, vI a4)]) (st' := [vI a4, vI a1, vR (jR W 1007 t)]) rfl ?_
  refine j_if_eq hx (off := 7) (tgt := 14) (by decide +kernel) (by decide) (fun _ => ?_) (fun _ => ?_)
  · refine j_runA hx 1 (tb := [(14, .lload_n 2)]) (jtb_ok (by decide +kernel)) (pc' := 15) (lv' := [(0, vR t), (1, vI a1), (2, vL a2), (4, vI a4)]) (st' := [vL a2, vI a1, vR (jR W 1007 t)]) rfl ?_
    refine j_ldc2 hx (v := (kJ 4294967295)) (jkd2 q2089 (by decide +kernel)) (by decide +kernel) ?_
    refine j_runA hx 1 (tb := [(18, .land)]) (jtb_ok (by decide +kernel)) (pc' := 19) (lv' := [(0, vR t), (1, vI a1), (2, vL a2), (4, vI a4)]) (st' := [vL (a2 &&& (kJ 4294967295)), vI a1, vR (jR W 1007 t)]) rfl ?_
    exact wma_putBase_19 h (a2 &&& (kJ 4294967295)) a1 (jR W 1007 t) W
  refine j_runA hx 1 (tb := [(10, .lload_n 2)]) (jtb_ok (by decide +kernel)) (pc' := 11) (lv' := [(0, vR t), (1, vI a1), (2, vL a2), (4, vI a4)]) (st' := [vL a2, vI a1, vR (jR W 1007 t)]) rfl ?_
  refine j_goto hx (off := 8) (by decide +kernel) (tgt := 19) (by decide) ?_
  exact wma_putBase_19 h a2 a1 (jR W 1007 t) W
theorem cma_putBase (t : Nat) (a1 : Int32) (a2 : Int64) (a4 : Int32) (W : jW) : jM yX15_putBase cX15_putBase 5 (Option.none : Option Jvm.ClassFile.FieldType) [] 0 0 [vR t, vI a1, vL a2, vI a4] W ((fma_putBase t a1 a2 a4 W).bind (fun q => some (.returned none, q))) := 
  jM.of (Nat.le_of_ble_eq_true rfl) (fun x hx hm hr => wma_putBase ⟨hx, hm, hr, fun _ => rfl⟩ W)
