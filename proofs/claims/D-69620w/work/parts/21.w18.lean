/-! ===== walks: fma_loaded fme_kindAt fma_isCode fme_blockAt fma_loadTo fma_access fma_pair fma_host fma_link fwr_behindEnd ===== -/
set_option maxRecDepth 100000
def hma_loaded (x : jCx) (en : (fma_loaded_S ⊕ (Int64)) → Option (Outcome × jW)) (t : Nat) (a1 : Int32) (a2 : Int64) (a4 : Int32) (W : jW) : Prop :=
  jOK x RX15 cX15_loaded 10 ∧
  jMt x "loaded" (Option.some Jvm.ClassFile.FieldType.long) [] ∧
  jRm x 5 76 ∧
  (∀ q : Int64, en (.inr q) = some (.returned (some (.long q)), W)) ∧
  (∀ (l5 : Int64) (l7 : Int32), jJ x 10 25 [(0, vR t), (1, vI a1), (2, vL a2), (4, vI a4), (5, vL l5), (7, vI l7)] [] W (some (.inl (l5, l7))) en)
theorem wma_loaded_78 {x : jCx} {en : (fma_loaded_S ⊕ (Int64)) → Option (Outcome × jW)} {W : jW} {t : Nat} {a1 : Int32} {a2 : Int64} {a4 : Int32} (h : hma_loaded x en t a1 a2 a4 W) (l5 : Int64) (l7 : Int32) (l8 : Int32) (s0 : Int32) : jJ x 10 78 [(0, vR t), (1, vI a1), (2, vL a2), (4, vI a4), (5, vL l5), (7, vI l7), (8, vI l8)] [vI s0] W (fma_loaded_78 t a1 a2 a4 l5 l7 l8 s0 W) en := by
  have h0 := h
  obtain ⟨hx, hm, hr, he, k25⟩ := h0
  unfold fma_loaded_78
  refine j_runA hx 8 (tb := [(78, .istore 9), (80, .lload 5), (82, .bipush 8), (84, .lshl), (85, .iload 9), (87, .bipush 8), (89, .iload 8), (91, .iconst 4)]) (jtb_ok (by decide +kernel)) (pc' := 92) (lv' := [(9, vI s0), (0, vR t), (1, vI a1), (2, vL a2), (4, vI a4), (5, vL l5), (7, vI l7), (8, vI l8)]) (st' := [vI (kI 4), vI l8, vI (kI 8), vI s0, vL (lxl l5 (kI 8))]) rfl ?_
  refine j_irem hx (by decide +kernel) (by decide +kernel) ?_
  refine j_runA hx 7 (tb := [(93, .imul), (94, .ishr), (95, .sipush 255), (98, .iand), (99, .i2l), (100, .lor), (101, .lstore 5)]) (jtb_ok (by decide +kernel)) (pc' := 103) (lv' := [(5, vL ((lxl l5 (kI 8)) ||| (((ixr s0 ((kI 8) * (irm l8 (kI 4)))) &&& (kI 255)).toInt64))), (9, vI s0), (0, vR t), (1, vI a1), (2, vL a2), (4, vI a4), (7, vI l7), (8, vI l8)]) (st' := []) rfl ?_
  refine j_let (v := ((lxl l5 (kI 8)) ||| (((ixr s0 ((kI 8) * (irm l8 (kI 4)))) &&& (kI 255)).toInt64))) (lv := fun v15 => [(5, vL v15), (9, vI s0), (0, vR t), (1, vI a1), (2, vL a2), (4, vI a4), (7, vI l7), (8, vI l8)]) (st := fun _ => []) (fun v15 => ?_)
  refine j_runA hx 1 (tb := [(103, .iinc 7 (-1))]) (jtb_ok (by decide +kernel)) (pc' := 106) (lv' := [(7, vI (l7 + (kI (-1)))), (5, vL v15), (9, vI s0), (0, vR t), (1, vI a1), (2, vL a2), (4, vI a4), (8, vI l8)]) (st' := []) rfl ?_
  refine j_let (v := (l7 + (kI (-1)))) (lv := fun v16 => [(7, vI v16), (5, vL v15), (9, vI s0), (0, vR t), (1, vI a1), (2, vL a2), (4, vI a4), (8, vI l8)]) (st := fun _ => []) (fun v16 => ?_)
  refine j_goto hx (off := -81) (by decide +kernel) (tgt := 25) (by decide) ?_
  refine j_lv (lv' := [(0, vR t), (1, vI a1), (2, vL a2), (4, vI a4), (5, vL v15), (7, vI v16)]) ⟨rfl, rfl, rfl, rfl, rfl, rfl, trivial⟩ ?_
  exact k25 v15 v16
theorem wma_loaded_25 {x : jCx} {en : (fma_loaded_S ⊕ (Int64)) → Option (Outcome × jW)} {W : jW} {t : Nat} {a1 : Int32} {a2 : Int64} {a4 : Int32} (h : hma_loaded x en t a1 a2 a4 W) (l5 : Int64) (l7 : Int32) : jJ x 10 25 [(0, vR t), (1, vI a1), (2, vL a2), (4, vI a4), (5, vL l5), (7, vI l7)] [] W (fma_loaded_25 t a1 a2 a4 l5 l7 W) en := by
  have h0 := h
  obtain ⟨hx, hm, hr, he, k25⟩ := h0
  unfold fma_loaded_25
  refine j_runA hx 1 (tb := [(25, .iload 7)]) (jtb_ok (by decide +kernel)) (pc' := 27) (lv' := [(0, vR t), (1, vI a1), (2, vL a2), (4, vI a4), (5, vL l5), (7, vI l7)]) (st' := [vI l7]) rfl ?_
  refine j_if_lt hx (off := 82) (tgt := 109) (by decide +kernel) (by decide) (fun _ => ?_) (fun _ => ?_)
  · refine j_runA hx 1 (tb := [(109, .lload 5)]) (jtb_ok (by decide +kernel)) (pc' := 111) (lv' := [(0, vR t), (1, vI a1), (2, vL a2), (4, vI a4), (5, vL l5), (7, vI l7)]) (st' := [vL l5]) rfl ?_
    exact j_lret hx hm (by decide +kernel) (he _)
  refine j_runA hx 5 (tb := [(30, .lload_n 2), (31, .iload 7), (33, .i2l), (34, .ladd), (35, .aload_n 0)]) (jtb_ok (by decide +kernel)) (pc' := 36) (lv' := [(0, vR t), (1, vI a1), (2, vL a2), (4, vI a4), (5, vL l5), (7, vI l7)]) (st' := [vR t, vL (a2 + l7.toInt64)]) rfl ?_
  refine j_gd (fun h6 => ?_)
  refine j_OL (j_callV (av := []) (st := [vL (a2 + l7.toInt64)]) hx hr (Or.inl q2039) q2041 qs80 rfl md_fma_begin np_fma_begin (cma_begin t W) (by decide) (Nat.le_of_ble_eq_true rfl) h6 (by decide) (by decide +kernel)) (fun q7 _ => ?_)
  refine j_runA hx 3 (tb := [(39, .lsub), (40, .l2i), (41, .istore 8)]) (jtb_ok (by decide +kernel)) (pc' := 43) (lv' := [(8, vI (((a2 + l7.toInt64) - q7).toInt32)), (0, vR t), (1, vI a1), (2, vL a2), (4, vI a4), (5, vL l5), (7, vI l7)]) (st' := []) rfl ?_
  refine j_let (v := ((a2 + l7.toInt64) - q7).toInt32) (lv := fun v8 => [(8, vI v8), (0, vR t), (1, vI a1), (2, vL a2), (4, vI a4), (5, vL l5), (7, vI l7)]) (st := fun _ => []) (fun v8 => ?_)
  refine j_runA hx 1 (tb := [(43, .aload_n 0)]) (jtb_ok (by decide +kernel)) (pc' := 44) (lv' := [(8, vI v8), (0, vR t), (1, vI a1), (2, vL a2), (4, vI a4), (5, vL l5), (7, vI l7)]) (st' := [vR t]) rfl ?_
  refine j_OI (j_callV (av := []) (st := []) hx hr (Or.inl q1978) q1980 qs72 rfl md_fma_isNew np_fma_isNew (cma_isNew t W) (by decide) (Nat.le_of_ble_eq_true rfl) h6 (by decide) (by decide +kernel)) (fun q9 _ => ?_)
  refine j_if_eq hx (off := 19) (tgt := 66) (by decide +kernel) (by decide) (fun _ => ?_) (fun _ => ?_)
  · refine j_runA hx 1 (tb := [(66, .aload_n 0)]) (jtb_ok (by decide +kernel)) (pc' := 67) (lv' := [(8, vI v8), (0, vR t), (1, vI a1), (2, vL a2), (4, vI a4), (5, vL l5), (7, vI l7)]) (st' := [vR t]) rfl ?_
    refine j_getR hx flX15_43 kl1001 h6 (by decide) (by decide +kernel) ?_
    refine j_gd (fun h10 => ?_)
    refine j_getR hx flX15_266 kl204 h10 (by decide) (by decide +kernel) ?_
    refine j_runA hx 2 (tb := [(73, .iload 8), (75, .iconst 4)]) (jtb_ok (by decide +kernel)) (pc' := 76) (lv' := [(8, vI v8), (0, vR t), (1, vI a1), (2, vL a2), (4, vI a4), (5, vL l5), (7, vI l7)]) (st' := [vI (kI 4), vI v8, vR (jR W 204 (jR W 1001 t))]) rfl ?_
    refine j_idiv hx (by decide +kernel) (by decide +kernel) ?_
    refine j_gd (fun h11 => ?_)
    refine j_iald hx (f := 204) (o := (jR W 1001 t)) kd204 rfl (by decide +kernel) h11 ?_
    refine j_lv (lv' := [(0, vR t), (1, vI a1), (2, vL a2), (4, vI a4), (5, vL l5), (7, vI l7), (8, vI v8)]) ⟨rfl, rfl, rfl, rfl, rfl, rfl, rfl, trivial⟩ ?_
    exact wma_loaded_78 h l5 l7 v8 (jA W 204 (jR W 1001 t) (ix (v8 / (kI 4))))
  refine j_runA hx 1 (tb := [(50, .aload_n 0)]) (jtb_ok (by decide +kernel)) (pc' := 51) (lv' := [(8, vI v8), (0, vR t), (1, vI a1), (2, vL a2), (4, vI a4), (5, vL l5), (7, vI l7)]) (st' := [vR t]) rfl ?_
  refine j_getR hx flX15_47 kl1002 h6 (by decide) (by decide +kernel) ?_
  refine j_runA hx 2 (tb := [(54, .iload 8), (56, .iconst 4)]) (jtb_ok (by decide +kernel)) (pc' := 57) (lv' := [(8, vI v8), (0, vR t), (1, vI a1), (2, vL a2), (4, vI a4), (5, vL l5), (7, vI l7)]) (st' := [vI (kI 4), vI v8, vR (jR W 1002 t)]) rfl ?_
  refine j_idiv hx (by decide +kernel) (by decide +kernel) ?_
  refine j_runA hx 2 (tb := [(58, .iconst 4), (59, .imul)]) (jtb_ok (by decide +kernel)) (pc' := 60) (lv' := [(8, vI v8), (0, vR t), (1, vI a1), (2, vL a2), (4, vI a4), (5, vL l5), (7, vI l7)]) (st' := [vI ((v8 / (kI 4)) * (kI 4)), vR (jR W 1002 t)]) rfl ?_
  refine j_gd (fun h12 => ?_)
  refine j_OI (j_callV (av := [vI ((v8 / (kI 4)) * (kI 4))]) (st := []) hx hr (Or.inl q2067) q797 q798 rfl md_fwr_wordAt np_fwr_wordAt (cwr_wordAt (jR W 1002 t) ((v8 / (kI 4)) * (kI 4)) W) (by decide) (Nat.le_of_ble_eq_true rfl) h12 (by decide) (by decide +kernel)) (fun q13 _ => ?_)
  refine j_goto hx (off := 15) (by decide +kernel) (tgt := 78) (by decide) ?_
  refine j_lv (lv' := [(0, vR t), (1, vI a1), (2, vL a2), (4, vI a4), (5, vL l5), (7, vI l7), (8, vI v8)]) ⟨rfl, rfl, rfl, rfl, rfl, rfl, rfl, trivial⟩ ?_
  exact wma_loaded_78 h l5 l7 v8 q13
theorem wma_loaded {x : jCx} {en : (fma_loaded_S ⊕ (Int64)) → Option (Outcome × jW)} {W : jW} {t : Nat} {a1 : Int32} {a2 : Int64} {a4 : Int32} (h : hma_loaded x en t a1 a2 a4 W) : jJ x 10 0 [(0, vR t), (1, vI a1), (2, vL a2), (4, vI a4)] [] W (fma_loaded_0 t a1 a2 a4 W) en := by
  have h0 := h
  obtain ⟨hx, hm, hr, he, k25⟩ := h0
  unfold fma_loaded_0
  refine j_runA hx 1 (tb := [(0, .iload_n 1)]) (jtb_ok (by decide +kernel)) (pc' := 1) (lv' := [(0, vR t), (1, vI a1), (2, vL a2), (4, vI a4)]) (st' := [vI a1]) rfl ?_
  refine j_if_lt hx (off := 15) (tgt := 16) (by decide +kernel) (by decide) (fun _ => ?_) (fun _ => ?_)
  · refine j_runA hx 6 (tb := [(16, .lconst 0), (17, .lstore 5), (19, .iload 4), (21, .iconst 1), (22, .isub), (23, .istore 7)]) (jtb_ok (by decide +kernel)) (pc' := 25) (lv' := [(7, vI (a4 - (kI 1))), (5, vL (kJ 0)), (0, vR t), (1, vI a1), (2, vL a2), (4, vI a4)]) (st' := []) rfl ?_
    refine j_let (v := (a4 - (kI 1))) (lv := fun v1 => [(7, vI v1), (5, vL (kJ 0)), (0, vR t), (1, vI a1), (2, vL a2), (4, vI a4)]) (st := fun _ => []) (fun v1 => ?_)
    refine j_lv (lv' := [(0, vR t), (1, vI a1), (2, vL a2), (4, vI a4), (5, vL (kJ 0)), (7, vI v1)]) ⟨rfl, rfl, rfl, rfl, rfl, rfl, trivial⟩ ?_
    exact k25 (kJ 0) v1
  refine j_runA hx 1 (tb := [(4, .aload_n 0)]) (jtb_ok (by decide +kernel)) (pc' := 5) (lv' := [(0, vR t), (1, vI a1), (2, vL a2), (4, vI a4)]) (st' := [vR t]) rfl ?_
  refine j_gd (fun h2 => ?_)
  refine j_getR hx flX15_60 kl1005 h2 (by decide) (by decide +kernel) ?_
  refine j_runA hx 3 (tb := [(8, .iload_n 1), (9, .lload_n 2), (10, .iload 4)]) (jtb_ok (by decide +kernel)) (pc' := 12) (lv' := [(0, vR t), (1, vI a1), (2, vL a2), (4, vI a4)]) (st' := [vI a4, vL a2, vI a1, vR (jR W 1005 t)]) rfl ?_
  refine j_gd (fun h3 => ?_)
  refine j_OL (j_callV (av := [vI a1, vL a2, vI a4]) (st := []) hx hr (Or.inl q2213) q2214 q2215 rfl md_fme_load np_fme_load (cme_load (jR W 1005 t) a1 a2 a4 W) (by decide) (Nat.le_of_ble_eq_true rfl) h3 (by decide) (by decide +kernel)) (fun q4 _ => ?_)
  exact j_lret hx hm (by decide +kernel) (he _)
theorem cma_loaded (t : Nat) (a1 : Int32) (a2 : Int64) (a4 : Int32) (W : jW) : jM yX15_loaded cX15_loaded 10 (Option.some Jvm.ClassFile.FieldType.long) [] 5 76 [vR t, vI a1, vL a2, vI a4] W ((fma_loaded t a1 a2 a4 W).bind (fun q => some (.returned (some (.long q)), W))) := by
  refine jM.of (Nat.le_of_ble_eq_true rfl) (fun x hx hm hr => ?_)
  refine j_begin (P := (fun s => (25, [(0, vR t), (1, vI a1), (2, vL a2), (4, vI a4), (5, vL s.1), (7, vI s.2)], W))) (fun en he hk => ?_)
  have h : hma_loaded x en t a1 a2 a4 W := ⟨hx, hm, hr, fun q => he _, fun l5 l7 => hk (l5, l7)⟩
  exact ⟨fun s => wma_loaded_25 h s.1 s.2, wma_loaded h⟩
def hme_kindAt (x : jCx) (en : (Int32) → Option (Outcome × jW)) (t : Nat) (a1 : Int32) (a2 : Int64) (W : jW) : Prop :=
  jOK x RX17 cX17_kindAt 4 ∧
  jMt x "kindAt" (Option.some Jvm.ClassFile.FieldType.int) [] ∧
  jRm x 4 57 ∧
  (∀ q : Int32, en q = some (.returned (some (.int q)), W))
theorem wme_kindAt {x : jCx} {en : (Int32) → Option (Outcome × jW)} {W : jW} {t : Nat} {a1 : Int32} {a2 : Int64} (h : hme_kindAt x en t a1 a2 W) : jJ x 4 0 [(0, vR t), (1, vI a1), (2, vL a2)] [] W (fme_kindAt t a1 a2 W) en := by
  have h0 := h
  obtain ⟨hx, hm, hr, he⟩ := h0
  unfold fme_kindAt
  refine j_runA hx 1 (tb := [(0, .aload_n 0)]) (jtb_ok (by decide +kernel)) (pc' := 1) (lv' := [(0, vR t), (1, vI a1), (2, vL a2)]) (st' := [vR t]) rfl ?_
  refine j_gd (fun h1 => ?_)
  refine j_getR hx flX17_23 kl1205 h1 (by decide) (by decide +kernel) ?_
  refine j_runA hx 3 (tb := [(4, .aload_n 0), (5, .iload_n 1), (6, .lload_n 2)]) (jtb_ok (by decide +kernel)) (pc' := 7) (lv' := [(0, vR t), (1, vI a1), (2, vL a2)]) (st' := [vL a2, vI a1, vR t, vR (jR W 1205 t)]) rfl ?_
  refine j_OI (j_callV (av := [vI a1, vL a2]) (st := [vR (jR W 1205 t)]) hx hr (Or.inl q2025) q2026 q2027 rfl md_fme_cellOf np_fme_cellOf (cme_cellOf t a1 a2 W) (by decide) (Nat.le_of_ble_eq_true rfl) h1 (by decide) (by decide +kernel)) (fun q2 _ => ?_)
  refine j_gd (fun h3 => ?_)
  refine j_bald hx (f := 1205) (o := t) kd1205 rfl (by decide +kernel) h3 ?_
  exact j_iret hx hm (by decide +kernel) rfl (he _)
theorem cme_kindAt (t : Nat) (a1 : Int32) (a2 : Int64) (W : jW) : jM yX17_kindAt cX17_kindAt 4 (Option.some Jvm.ClassFile.FieldType.int) [] 4 57 [vR t, vI a1, vL a2] W ((fme_kindAt t a1 a2 W).bind (fun q => some (.returned (some (.int q)), W))) := 
  jM.of (Nat.le_of_ble_eq_true rfl) (fun x hx hm hr => wme_kindAt ⟨hx, hm, hr, fun _ => rfl⟩)
def hma_isCode (x : jCx) (en : (Int32) → Option (Outcome × jW)) (t : Nat) (a1 : Int32) (a2 : Int64) (a4 : Int32) (W : jW) : Prop :=
  jOK x RX15 cX15_isCode 5 ∧
  jMt x "isCode" (Option.some Jvm.ClassFile.FieldType.boolean) [] ∧
  jRm x 5 72 ∧
  (∀ q : Int32, en q = some (.returned (some (.int q)), W))
theorem wma_isCode_45 {x : jCx} {en : (Int32) → Option (Outcome × jW)} {W : jW} {t : Nat} {a1 : Int32} {a2 : Int64} {a4 : Int32} (h : hma_isCode x en t a1 a2 a4 W) : jJ x 5 45 [(0, vR t), (1, vI a1), (2, vL a2), (4, vI a4)] [] W (fma_isCode_45 t a1 a2 a4 W) en := by
  have h0 := h
  obtain ⟨hx, hm, hr, he⟩ := h0
  unfold fma_isCode_45
  refine j_runA hx 1 (tb := [(45, .iconst 0)]) (jtb_ok (by decide +kernel)) (pc' := 46) (lv' := [(0, vR t), (1, vI a1), (2, vL a2), (4, vI a4)]) (st' := [vI (kI 0)]) rfl ?_
  exact j_iret hx hm (by decide +kernel) jz0n (he _)
theorem wma_isCode {x : jCx} {en : (Int32) → Option (Outcome × jW)} {W : jW} {t : Nat} {a1 : Int32} {a2 : Int64} {a4 : Int32} (h : hma_isCode x en t a1 a2 a4 W) : jJ x 5 0 [(0, vR t), (1, vI a1), (2, vL a2), (4, vI a4)] [] W (fma_isCode t a1 a2 a4 W) en := by
  have h0 := h
  obtain ⟨hx, hm, hr, he⟩ := h0
  unfold fma_isCode
  refine j_runA hx 1 (tb := [(0, .aload_n 0)]) (jtb_ok (by decide +kernel)) (pc' := 1) (lv' := [(0, vR t), (1, vI a1), (2, vL a2), (4, vI a4)]) (st' := [vR t]) rfl ?_
  refine j_gd (fun h1 => ?_)
  refine j_getI hx flX15_39 kd1000 h1 (by decide) (by decide +kernel) ?_
  refine j_runA hx 1 (tb := [(4, .iconst 1)]) (jtb_ok (by decide +kernel)) (pc' := 5) (lv' := [(0, vR t), (1, vI a1), (2, vL a2), (4, vI a4)]) (st' := [vI (kI 1), vI (jI W 1000 t)]) rfl ?_
  refine j_icmp_ne hx (off := 40) (tgt := 45) (by decide +kernel) (by decide) (fun _ => ?_) (fun _ => ?_)
  · exact wma_isCode_45 h
  refine j_runA hx 1 (tb := [(8, .iload_n 1)]) (jtb_ok (by decide +kernel)) (pc' := 9) (lv' := [(0, vR t), (1, vI a1), (2, vL a2), (4, vI a4)]) (st' := [vI a1]) rfl ?_
  refine j_if_lt hx (off := 36) (tgt := 45) (by decide +kernel) (by decide) (fun _ => ?_) (fun _ => ?_)
  · exact wma_isCode_45 h
  refine j_runA hx 2 (tb := [(12, .iload 4), (14, .bipush 8)]) (jtb_ok (by decide +kernel)) (pc' := 16) (lv' := [(0, vR t), (1, vI a1), (2, vL a2), (4, vI a4)]) (st' := [vI (kI 8), vI a4]) rfl ?_
  refine j_icmp_ne hx (off := 29) (tgt := 45) (by decide +kernel) (by decide) (fun _ => ?_) (fun _ => ?_)
  · exact wma_isCode_45 h
  refine j_runA hx 1 (tb := [(19, .lload_n 2)]) (jtb_ok (by decide +kernel)) (pc' := 20) (lv' := [(0, vR t), (1, vI a1), (2, vL a2), (4, vI a4)]) (st' := [vL a2]) rfl ?_
  refine j_ldc2 hx (v := (kJ 8)) (jkd2 q2169 (by decide +kernel)) (by decide +kernel) ?_
  refine j_lrem hx (by decide +kernel) (by decide +kernel) ?_
  refine j_runA hx 1 (tb := [(24, .lconst 0)]) (jtb_ok (by decide +kernel)) (pc' := 25) (lv' := [(0, vR t), (1, vI a1), (2, vL a2), (4, vI a4)]) (st' := [vL (kJ 0), vL (lrm a2 (kJ 8))]) rfl ?_
  refine j_lcmp_ne hx (off := 19) (tgt := 45) (by decide +kernel) (by decide +kernel) (by decide) (fun _ => ?_) (fun _ => ?_)
  · exact wma_isCode_45 h
  refine j_runA hx 1 (tb := [(29, .aload_n 0)]) (jtb_ok (by decide +kernel)) (pc' := 30) (lv' := [(0, vR t), (1, vI a1), (2, vL a2), (4, vI a4)]) (st' := [vR t]) rfl ?_
  refine j_getR hx flX15_60 kl1005 h1 (by decide) (by decide +kernel) ?_
  refine j_runA hx 2 (tb := [(33, .iload_n 1), (34, .lload_n 2)]) (jtb_ok (by decide +kernel)) (pc' := 35) (lv' := [(0, vR t), (1, vI a1), (2, vL a2), (4, vI a4)]) (st' := [vL a2, vI a1, vR (jR W 1005 t)]) rfl ?_
  refine j_gd (fun h2 => ?_)
  refine j_OI (j_callV (av := [vI a1, vL a2]) (st := []) hx hr (Or.inl q2221) q2222 q2223 rfl md_fme_kindAt np_fme_kindAt (cme_kindAt (jR W 1005 t) a1 a2 W) (by decide) (Nat.le_of_ble_eq_true rfl) h2 (by decide) (by decide +kernel)) (fun q3 _ => ?_)
  refine j_if_eq hx (off := 7) (tgt := 45) (by decide +kernel) (by decide) (fun _ => ?_) (fun _ => ?_)
  · exact wma_isCode_45 h
  refine j_runA hx 1 (tb := [(41, .iconst 1)]) (jtb_ok (by decide +kernel)) (pc' := 42) (lv' := [(0, vR t), (1, vI a1), (2, vL a2), (4, vI a4)]) (st' := [vI (kI 1)]) rfl ?_
  refine j_goto hx (off := 4) (by decide +kernel) (tgt := 46) (by decide) ?_
  exact j_iret hx hm (by decide +kernel) jz1n (he _)
theorem cma_isCode (t : Nat) (a1 : Int32) (a2 : Int64) (a4 : Int32) (W : jW) : jM yX15_isCode cX15_isCode 5 (Option.some Jvm.ClassFile.FieldType.boolean) [] 5 72 [vR t, vI a1, vL a2, vI a4] W ((fma_isCode t a1 a2 a4 W).bind (fun q => some (.returned (some (.int q)), W))) := 
  jM.of (Nat.le_of_ble_eq_true rfl) (fun x hx hm hr => wma_isCode ⟨hx, hm, hr, fun _ => rfl⟩)
def hme_blockAt (x : jCx) (en : (Int32) → Option (Outcome × jW)) (t : Nat) (a1 : Int32) (a2 : Int64) (W : jW) : Prop :=
  jOK x RX17 cX17_blockAt 4 ∧
  jMt x "blockAt" (Option.some Jvm.ClassFile.FieldType.int) [] ∧
  jRm x 4 57 ∧
  (∀ q : Int32, en q = some (.returned (some (.int q)), W))
theorem wme_blockAt {x : jCx} {en : (Int32) → Option (Outcome × jW)} {W : jW} {t : Nat} {a1 : Int32} {a2 : Int64} (h : hme_blockAt x en t a1 a2 W) : jJ x 4 0 [(0, vR t), (1, vI a1), (2, vL a2)] [] W (fme_blockAt t a1 a2 W) en := by
  have h0 := h
  obtain ⟨hx, hm, hr, he⟩ := h0
  unfold fme_blockAt
  refine j_runA hx 1 (tb := [(0, .aload_n 0)]) (jtb_ok (by decide +kernel)) (pc' := 1) (lv' := [(0, vR t), (1, vI a1), (2, vL a2)]) (st' := [vR t]) rfl ?_
  refine j_gd (fun h1 => ?_)
  refine j_getR hx flX17_26 kl1206 h1 (by decide) (by decide +kernel) ?_
  refine j_runA hx 3 (tb := [(4, .aload_n 0), (5, .iload_n 1), (6, .lload_n 2)]) (jtb_ok (by decide +kernel)) (pc' := 7) (lv' := [(0, vR t), (1, vI a1), (2, vL a2)]) (st' := [vL a2, vI a1, vR t, vR (jR W 1206 t)]) rfl ?_
  refine j_OI (j_callV (av := [vI a1, vL a2]) (st := [vR (jR W 1206 t)]) hx hr (Or.inl q2025) q2026 q2027 rfl md_fme_cellOf np_fme_cellOf (cme_cellOf t a1 a2 W) (by decide) (Nat.le_of_ble_eq_true rfl) h1 (by decide) (by decide +kernel)) (fun q2 _ => ?_)
  refine j_gd (fun h3 => ?_)
  refine j_iald hx (f := 1206) (o := t) kd1206 rfl (by decide +kernel) h3 ?_
  exact j_iret hx hm (by decide +kernel) rfl (he _)
theorem cme_blockAt (t : Nat) (a1 : Int32) (a2 : Int64) (W : jW) : jM yX17_blockAt cX17_blockAt 4 (Option.some Jvm.ClassFile.FieldType.int) [] 4 57 [vR t, vI a1, vL a2] W ((fme_blockAt t a1 a2 W).bind (fun q => some (.returned (some (.int q)), W))) := 
  jM.of (Nat.le_of_ble_eq_true rfl) (fun x hx hm hr => wme_blockAt ⟨hx, hm, hr, fun _ => rfl⟩)
def hma_loadTo (x : jCx) (en : (jW) → Option (Outcome × jW)) (t : Nat) (a1 : Int32) (a2 : Int32) (a3 : Int64) (a5 : Int32) (a6 : Int32) : Prop :=
  jOK x RX15 cX15_loadTo 9 ∧
  jMt x "loadTo" (Option.none : Option Jvm.ClassFile.FieldType) [] ∧
  jRm x 6 97 ∧
  (∀ q : jW, en q = some (.returned none, q))
theorem wma_loadTo_71 {x : jCx} {en : (jW) → Option (Outcome × jW)} {t : Nat} {a1 : Int32} {a2 : Int32} {a3 : Int64} {a5 : Int32} {a6 : Int32} (h : hma_loadTo x en t a1 a2 a3 a5 a6) (s0 : Int64) (s1 : Int32) (s2 : Nat) (W : jW) : jJ x 9 71 [(0, vR t), (1, vI a1), (2, vI a2), (3, vL a3), (5, vI a5), (6, vI a6)] [vL s0, vI s1, vR s2] W (fma_loadTo_71 t a1 a2 a3 a5 a6 s0 s1 s2 W) en := by
  have h0 := h
  obtain ⟨hx, hm, hr, he⟩ := h0
  unfold fma_loadTo_71
  refine j_runA hx 1 (tb := [(71, .iconst 1)]) (jtb_ok (by decide +kernel)) (pc' := 72) (lv' := [(0, vR t), (1, vI a1), (2, vI a2), (3, vL a3), (5, vI a5), (6, vI a6)]) (st' := [vI (kI 1), vL s0, vI s1, vR s2]) rfl ?_
  refine j_gd (fun h10 => ?_)
  refine j_WV (j_callV (av := [vI s1, vL s0, vI (kI 1)]) (st := []) hx hr (Or.inl q2095) q2097 qs90 rfl md_fma_put np_fma_put (cma_put s2 s1 s0 (kI 1) W) (by decide) (Nat.le_of_ble_eq_true rfl) h10 (by decide) (by decide +kernel)) (fun q11 _ => ?_)
  exact j_vret hx hm (by decide +kernel) (he _)
theorem wma_loadTo {x : jCx} {en : (jW) → Option (Outcome × jW)} {t : Nat} {a1 : Int32} {a2 : Int32} {a3 : Int64} {a5 : Int32} {a6 : Int32} (h : hma_loadTo x en t a1 a2 a3 a5 a6) (W : jW) : jJ x 9 0 [(0, vR t), (1, vI a1), (2, vI a2), (3, vL a3), (5, vI a5), (6, vI a6)] [] W (fma_loadTo t a1 a2 a3 a5 a6 W) en := by
  have h0 := h
  obtain ⟨hx, hm, hr, he⟩ := h0
  unfold fma_loadTo
  refine j_runA hx 4 (tb := [(0, .aload_n 0), (1, .iload_n 2), (2, .lload_n 3), (3, .iload 5)]) (jtb_ok (by decide +kernel)) (pc' := 5) (lv' := [(0, vR t), (1, vI a1), (2, vI a2), (3, vL a3), (5, vI a5), (6, vI a6)]) (st' := [vI a5, vL a3, vI a2, vR t]) rfl ?_
  refine j_gd (fun h1 => ?_)
  refine j_OL (j_callV (av := [vI a2, vL a3, vI a5]) (st := []) hx hr (Or.inl q2209) q2211 qs110 rfl md_fma_loaded np_fma_loaded (cma_loaded t a2 a3 a5 W) (by decide) (Nat.le_of_ble_eq_true rfl) h1 (by decide) (by decide +kernel)) (fun q2 _ => ?_)
  refine j_runA hx 5 (tb := [(8, .lstore 7), (10, .aload_n 0), (11, .iload_n 2), (12, .lload_n 3), (13, .iload 5)]) (jtb_ok (by decide +kernel)) (pc' := 15) (lv' := [(7, vL q2), (0, vR t), (1, vI a1), (2, vI a2), (3, vL a3), (5, vI a5), (6, vI a6)]) (st' := [vI a5, vL a3, vI a2, vR t]) rfl ?_
  refine j_OI (j_callV (av := [vI a2, vL a3, vI a5]) (st := []) hx hr (Or.inl q2217) q2219 qs111 rfl md_fma_isCode np_fma_isCode (cma_isCode t a2 a3 a5 W) (by decide) (Nat.le_of_ble_eq_true rfl) h1 (by decide) (by decide +kernel)) (fun q3 _ => ?_)
  refine j_if_eq hx (off := 37) (tgt := 55) (by decide +kernel) (by decide) (fun _ => ?_) (fun _ => ?_)
  · refine j_runA hx 3 (tb := [(55, .aload_n 0), (56, .iload_n 1), (57, .iload 6)]) (jtb_ok (by decide +kernel)) (pc' := 59) (lv' := [(7, vL q2), (0, vR t), (1, vI a1), (2, vI a2), (3, vL a3), (5, vI a5), (6, vI a6)]) (st' := [vI a6, vI a1, vR t]) rfl ?_
    refine j_if_eq hx (off := 10) (tgt := 69) (by decide +kernel) (by decide) (fun _ => ?_) (fun _ => ?_)
    · refine j_runA hx 1 (tb := [(69, .lload 7)]) (jtb_ok (by decide +kernel)) (pc' := 71) (lv' := [(7, vL q2), (0, vR t), (1, vI a1), (2, vI a2), (3, vL a3), (5, vI a5), (6, vI a6)]) (st' := [vL q2, vI a1, vR t]) rfl ?_
      refine j_lv (lv' := [(0, vR t), (1, vI a1), (2, vI a2), (3, vL a3), (5, vI a5), (6, vI a6)]) ⟨rfl, rfl, rfl, rfl, rfl, rfl, trivial⟩ ?_
      exact wma_loadTo_71 h q2 a1 t W
    refine j_runA hx 3 (tb := [(62, .lload 7), (64, .l2i), (65, .i2l)]) (jtb_ok (by decide +kernel)) (pc' := 66) (lv' := [(7, vL q2), (0, vR t), (1, vI a1), (2, vI a2), (3, vL a3), (5, vI a5), (6, vI a6)]) (st' := [vL q2.toInt32.toInt64, vI a1, vR t]) rfl ?_
    refine j_goto hx (off := 5) (by decide +kernel) (tgt := 71) (by decide) ?_
    refine j_lv (lv' := [(0, vR t), (1, vI a1), (2, vI a2), (3, vL a3), (5, vI a5), (6, vI a6)]) ⟨rfl, rfl, rfl, rfl, rfl, rfl, trivial⟩ ?_
    exact wma_loadTo_71 h q2.toInt32.toInt64 a1 t W
  refine j_runA hx 2 (tb := [(21, .iload_n 1), (22, .bipush 31)]) (jtb_ok (by decide +kernel)) (pc' := 24) (lv' := [(7, vL q2), (0, vR t), (1, vI a1), (2, vI a2), (3, vL a3), (5, vI a5), (6, vI a6)]) (st' := [vI (kI 31), vI a1]) rfl ?_
  refine j_icmp_eq hx (off := 51) (tgt := 75) (by decide +kernel) (by decide) (fun _ => ?_) (fun _ => ?_)
  · exact j_vret hx hm (by decide +kernel) (he _)
  refine j_runA hx 4 (tb := [(27, .aload_n 0), (28, .iload_n 1), (29, .lload 7), (31, .aload_n 0)]) (jtb_ok (by decide +kernel)) (pc' := 32) (lv' := [(7, vL q2), (0, vR t), (1, vI a1), (2, vI a2), (3, vL a3), (5, vI a5), (6, vI a6)]) (st' := [vR t, vL q2, vI a1, vR t]) rfl ?_
  refine j_getR hx flX15_60 kl1005 h1 (by decide) (by decide +kernel) ?_
  refine j_runA hx 2 (tb := [(35, .iload_n 2), (36, .lload_n 3)]) (jtb_ok (by decide +kernel)) (pc' := 37) (lv' := [(7, vL q2), (0, vR t), (1, vI a1), (2, vI a2), (3, vL a3), (5, vI a5), (6, vI a6)]) (st' := [vL a3, vI a2, vR (jR W 1005 t), vL q2, vI a1, vR t]) rfl ?_
  refine j_gd (fun h4 => ?_)
  refine j_OI (j_callV (av := [vI a2, vL a3]) (st := [vL q2, vI a1, vR t]) hx hr (Or.inl q2221) q2222 q2223 rfl md_fme_kindAt np_fme_kindAt (cme_kindAt (jR W 1005 t) a2 a3 W) (by decide) (Nat.le_of_ble_eq_true rfl) h4 (by decide) (by decide +kernel)) (fun q5 _ => ?_)
  refine j_runA hx 1 (tb := [(40, .aload_n 0)]) (jtb_ok (by decide +kernel)) (pc' := 41) (lv' := [(7, vL q2), (0, vR t), (1, vI a1), (2, vI a2), (3, vL a3), (5, vI a5), (6, vI a6)]) (st' := [vR t, vI q5, vL q2, vI a1, vR t]) rfl ?_
  refine j_getR hx flX15_60 kl1005 h1 (by decide) (by decide +kernel) ?_
  refine j_runA hx 2 (tb := [(44, .iload_n 2), (45, .lload_n 3)]) (jtb_ok (by decide +kernel)) (pc' := 46) (lv' := [(7, vL q2), (0, vR t), (1, vI a1), (2, vI a2), (3, vL a3), (5, vI a5), (6, vI a6)]) (st' := [vL a3, vI a2, vR (jR W 1005 t), vI q5, vL q2, vI a1, vR t]) rfl ?_
  refine j_OI (j_callV (av := [vI a2, vL a3]) (st := [vI q5, vL q2, vI a1, vR t]) hx hr (Or.inl q2225) q2226 q2227 rfl md_fme_blockAt np_fme_blockAt (cme_blockAt (jR W 1005 t) a2 a3 W) (by decide) (Nat.le_of_ble_eq_true rfl) h4 (by decide) (by decide +kernel)) (fun q6 _ => ?_)
  refine j_WV (j_callV (av := [vI a1, vL q2, vI q5, vI q6]) (st := []) hx hr (Or.inl q2079) q2081 qs87 rfl md_fma_code np_fma_code (cma_code t a1 q2 q5 q6 W) (by decide) (Nat.le_of_ble_eq_true rfl) h1 (by decide) (by decide +kernel)) (fun q7 _ => ?_)
  refine j_goto hx (off := 23) (by decide +kernel) (tgt := 75) (by decide) ?_
  exact j_vret hx hm (by decide +kernel) (he _)
theorem cma_loadTo (t : Nat) (a1 : Int32) (a2 : Int32) (a3 : Int64) (a5 : Int32) (a6 : Int32) (W : jW) : jM yX15_loadTo cX15_loadTo 9 (Option.none : Option Jvm.ClassFile.FieldType) [] 6 97 [vR t, vI a1, vI a2, vL a3, vI a5, vI a6] W ((fma_loadTo t a1 a2 a3 a5 a6 W).bind (fun q => some (.returned none, q))) := 
  jM.of (Nat.le_of_ble_eq_true rfl) (fun x hx hm hr => wma_loadTo ⟨hx, hm, hr, fun _ => rfl⟩ W)
def hma_access (x : jCx) (en : ((Nat × jW) ⊕ jW) → Option (Outcome × jW)) (t : Nat) (a1 : Int32) (a2 : Int64) : Prop :=
  jOK x RX15 cX15_access 8 ∧
  jMt x "access" (Option.none : Option Jvm.ClassFile.FieldType) [] ∧
  jRm x 7 117 ∧
  (∀ q : jW, en (.inr q) = some (.returned none, q)) ∧
  (∀ z : Nat × jW, en (.inl z) = some (.threw (z.1 - 1), z.2))
theorem wma_access_95 {x : jCx} {en : ((Nat × jW) ⊕ jW) → Option (Outcome × jW)} {t : Nat} {a1 : Int32} {a2 : Int64} (h : hma_access x en t a1 a2) (s0 : Int32) (s1 : Int32) (s2 : Int64) (s3 : Int32) (s4 : Int32) (s5 : Nat) (W : jW) : jJ x 8 95 [(0, vR t), (1, vI a1), (2, vL a2)] [vI s0, vI s1, vL s2, vI s3, vI s4, vR s5] W (fma_access_95 t a1 a2 s0 s1 s2 s3 s4 s5 W) en := by
  have h0 := h
  obtain ⟨hx, hm, hr, he, ht⟩ := h0
  unfold fma_access_95
  refine j_gd (fun h17 => ?_)
  refine j_WV (j_callV (av := [vI s4, vI s3, vL s2, vI s1, vI s0]) (st := []) hx hr (Or.inl q2205) q2207 qs109 rfl md_fma_loadTo np_fma_loadTo (cma_loadTo s5 s4 s3 s2 s1 s0 W) (by decide) (Nat.le_of_ble_eq_true rfl) h17 (by decide) (by decide +kernel)) (fun q18 _ => ?_)
  exact j_vret hx hm (by decide +kernel) (he _)
theorem wma_access_52 {x : jCx} {en : ((Nat × jW) ⊕ jW) → Option (Outcome × jW)} {t : Nat} {a1 : Int32} {a2 : Int64} (h : hma_access x en t a1 a2) (l4 : Int32) (l5 : Int32) (l6 : Int32) (s0 : Int32) (s1 : Int32) (s2 : Int64) (s3 : Nat) (W : jW) : jJ x 8 52 [(0, vR t), (1, vI a1), (2, vL a2), (4, vI l4), (5, vI l5), (6, vI l6)] [vI s0, vI s1, vL s2, vR s3] W (fma_access_52 t a1 a2 l4 l5 l6 s0 s1 s2 s3 W) en := by
  have h0 := h
  obtain ⟨hx, hm, hr, he, ht⟩ := h0
  unfold fma_access_52
  refine j_gd (fun h10 => ?_)
  refine j_EI (j_callV (av := [vL s2, vI s1, vI s0]) (st := []) hx hr (Or.inl q2170) q2172 qs105 rfl md_fma_looked np_fma_looked (cma_looked s3 s2 s1 s0 W) (by decide) (Nat.le_of_ble_eq_true rfl) h10 (by decide) (by decide +kernel)) (fun z _ r h9 => j_upE hm hx (ht z) h9) (fun q11 _ => ?_)
  refine j_runA hx 2 (tb := [(55, .istore 7), (57, .iload 5)]) (jtb_ok (by decide +kernel)) (pc' := 59) (lv' := [(7, vI q11.1), (0, vR t), (1, vI a1), (2, vL a2), (4, vI l4), (5, vI l5), (6, vI l6)]) (st' := [vI l5]) rfl ?_
  refine j_if_ne hx (off := 17) (tgt := 76) (by decide +kernel) (by decide) (fun _ => ?_) (fun _ => ?_)
  · refine j_runA hx 7 (tb := [(76, .aload_n 0), (77, .iload 6), (79, .iload 7), (81, .lload_n 2), (82, .iload 4), (84, .iload 5), (86, .iconst 2)]) (jtb_ok (by decide +kernel)) (pc' := 87) (lv' := [(7, vI q11.1), (0, vR t), (1, vI a1), (2, vL a2), (4, vI l4), (5, vI l5), (6, vI l6)]) (st' := [vI (kI 2), vI l5, vI l4, vL a2, vI q11.1, vI l6, vR t]) rfl ?_
    refine j_icmp_ne hx (off := 7) (tgt := 94) (by decide +kernel) (by decide) (fun _ => ?_) (fun _ => ?_)
    · refine j_runA hx 1 (tb := [(94, .iconst 0)]) (jtb_ok (by decide +kernel)) (pc' := 95) (lv' := [(7, vI q11.1), (0, vR t), (1, vI a1), (2, vL a2), (4, vI l4), (5, vI l5), (6, vI l6)]) (st' := [vI (kI 0), vI l4, vL a2, vI q11.1, vI l6, vR t]) rfl ?_
      refine j_lv (lv' := [(0, vR t), (1, vI a1), (2, vL a2)]) ⟨rfl, rfl, rfl, trivial⟩ ?_
      exact wma_access_95 h (kI 0) l4 a2 q11.1 l6 t q11.2
    refine j_runA hx 1 (tb := [(90, .iconst 1)]) (jtb_ok (by decide +kernel)) (pc' := 91) (lv' := [(7, vI q11.1), (0, vR t), (1, vI a1), (2, vL a2), (4, vI l4), (5, vI l5), (6, vI l6)]) (st' := [vI (kI 1), vI l4, vL a2, vI q11.1, vI l6, vR t]) rfl ?_
    refine j_goto hx (off := 4) (by decide +kernel) (tgt := 95) (by decide) ?_
    refine j_lv (lv' := [(0, vR t), (1, vI a1), (2, vL a2)]) ⟨rfl, rfl, rfl, trivial⟩ ?_
    exact wma_access_95 h (kI 1) l4 a2 q11.1 l6 t q11.2
  refine j_runA hx 5 (tb := [(62, .aload_n 0), (63, .iload 6), (65, .iload 7), (67, .lload_n 2), (68, .iload 4)]) (jtb_ok (by decide +kernel)) (pc' := 70) (lv' := [(7, vI q11.1), (0, vR t), (1, vI a1), (2, vL a2), (4, vI l4), (5, vI l5), (6, vI l6)]) (st' := [vI l4, vL a2, vI q11.1, vI l6, vR t]) rfl ?_
  refine j_gd (fun h13 => ?_)
  refine j_WV (j_callV (av := [vI l6, vI q11.1, vL a2, vI l4]) (st := []) hx hr (Or.inl q2193) q2195 qs107 rfl md_fma_storeFrom np_fma_storeFrom (cma_storeFrom t l6 q11.1 a2 l4 q11.2) (by decide) (Nat.le_of_ble_eq_true rfl) h13 (by decide) (by decide +kernel)) (fun q14 _ => ?_)
  refine j_goto hx (off := 25) (by decide +kernel) (tgt := 98) (by decide) ?_
  exact j_vret hx hm (by decide +kernel) (he _)
theorem wma_access_38 {x : jCx} {en : ((Nat × jW) ⊕ jW) → Option (Outcome × jW)} {t : Nat} {a1 : Int32} {a2 : Int64} (h : hma_access x en t a1 a2) (l4 : Int32) (l5 : Int32) (l6 : Int32) (W : jW) : jJ x 8 38 [(0, vR t), (1, vI a1), (2, vL a2), (4, vI l4), (5, vI l5), (6, vI l6)] [] W (fma_access_38 t a1 a2 l4 l5 l6 W) en := by
  have h0 := h
  obtain ⟨hx, hm, hr, he, ht⟩ := h0
  unfold fma_access_38
  refine j_runA hx 4 (tb := [(38, .aload_n 0), (39, .lload_n 2), (40, .iload 4), (42, .iload 5)]) (jtb_ok (by decide +kernel)) (pc' := 44) (lv' := [(0, vR t), (1, vI a1), (2, vL a2), (4, vI l4), (5, vI l5), (6, vI l6)]) (st' := [vI l5, vI l4, vL a2, vR t]) rfl ?_
  refine j_if_ne hx (off := 7) (tgt := 51) (by decide +kernel) (by decide) (fun _ => ?_) (fun _ => ?_)
  · refine j_runA hx 1 (tb := [(51, .iconst 0)]) (jtb_ok (by decide +kernel)) (pc' := 52) (lv' := [(0, vR t), (1, vI a1), (2, vL a2), (4, vI l4), (5, vI l5), (6, vI l6)]) (st' := [vI (kI 0), vI l4, vL a2, vR t]) rfl ?_
    exact wma_access_52 h l4 l5 l6 (kI 0) l4 a2 t W
  refine j_runA hx 1 (tb := [(47, .iconst 1)]) (jtb_ok (by decide +kernel)) (pc' := 48) (lv' := [(0, vR t), (1, vI a1), (2, vL a2), (4, vI l4), (5, vI l5), (6, vI l6)]) (st' := [vI (kI 1), vI l4, vL a2, vR t]) rfl ?_
  refine j_goto hx (off := 4) (by decide +kernel) (tgt := 52) (by decide) ?_
  exact wma_access_52 h l4 l5 l6 (kI 1) l4 a2 t W
theorem wma_access {x : jCx} {en : ((Nat × jW) ⊕ jW) → Option (Outcome × jW)} {t : Nat} {a1 : Int32} {a2 : Int64} (h : hma_access x en t a1 a2) (W : jW) : jJ x 8 0 [(0, vR t), (1, vI a1), (2, vL a2)] [] W (fma_access t a1 a2 W) en := by
  have h0 := h
  obtain ⟨hx, hm, hr, he, ht⟩ := h0
  unfold fma_access
  refine j_runA hx 1 (tb := [(0, .iload_n 1)]) (jtb_ok (by decide +kernel)) (pc' := 1) (lv' := [(0, vR t), (1, vI a1), (2, vL a2)]) (st' := [vI a1]) rfl ?_
  refine j_TI (j_callS (av := [vI a1]) (st := []) hx hr (Or.inl q2160) q1092 q247 md_fwo_bytesOf np_fwo_bytesOf (cwo_bytesOf a1 W) (by decide) (Nat.le_of_ble_eq_true rfl) (by decide +kernel)) ?_
  refine j_runA hx 1 (tb := [(4, .istore 4)]) (jtb_ok (by decide +kernel)) (pc' := 6) (lv' := [(4, vI (fwo_bytesOf a1)), (0, vR t), (1, vI a1), (2, vL a2)]) (st' := []) rfl ?_
  refine j_let (v := (fwo_bytesOf a1)) (lv := fun v1 => [(4, vI v1), (0, vR t), (1, vI a1), (2, vL a2)]) (st := fun _ => []) (fun v1 => ?_)
  refine j_runA hx 6 (tb := [(6, .iload_n 1), (7, .bipush 22), (9, .ishr), (10, .iconst 3), (11, .iand), (12, .istore 5)]) (jtb_ok (by decide +kernel)) (pc' := 14) (lv' := [(5, vI ((ixr a1 (kI 22)) &&& (kI 3))), (4, vI v1), (0, vR t), (1, vI a1), (2, vL a2)]) (st' := []) rfl ?_
  refine j_let (v := ((ixr a1 (kI 22)) &&& (kI 3))) (lv := fun v2 => [(5, vI v2), (4, vI v1), (0, vR t), (1, vI a1), (2, vL a2)]) (st := fun _ => []) (fun v2 => ?_)
  refine j_runA hx 1 (tb := [(14, .iload_n 1)]) (jtb_ok (by decide +kernel)) (pc' := 15) (lv' := [(5, vI v2), (4, vI v1), (0, vR t), (1, vI a1), (2, vL a2)]) (st' := [vI a1]) rfl ?_
  refine j_TI (j_callS (av := [vI a1]) (st := []) hx hr (Or.inl q2078) q992 q247 md_fwo_d np_fwo_d (cwo_d a1 W) (by decide) (Nat.le_of_ble_eq_true rfl) (by decide +kernel)) ?_
  refine j_runA hx 1 (tb := [(18, .istore 6)]) (jtb_ok (by decide +kernel)) (pc' := 20) (lv' := [(6, vI (fwo_d a1)), (5, vI v2), (4, vI v1), (0, vR t), (1, vI a1), (2, vL a2)]) (st' := []) rfl ?_
  refine j_let (v := (fwo_d a1)) (lv := fun v3 => [(6, vI v3), (5, vI v2), (4, vI v1), (0, vR t), (1, vI a1), (2, vL a2)]) (st := fun _ => []) (fun v3 => ?_)
  refine j_runA hx 1 (tb := [(20, .iload 5)]) (jtb_ok (by decide +kernel)) (pc' := 22) (lv' := [(6, vI v3), (5, vI v2), (4, vI v1), (0, vR t), (1, vI a1), (2, vL a2)]) (st' := [vI v2]) rfl ?_
  refine j_if_ne hx (off := 16) (tgt := 38) (by decide +kernel) (by decide) (fun _ => ?_) (fun _ => ?_)
  · refine j_lv (lv' := [(0, vR t), (1, vI a1), (2, vL a2), (4, vI v1), (5, vI v2), (6, vI v3)]) ⟨rfl, rfl, rfl, rfl, rfl, rfl, trivial⟩ ?_
    exact wma_access_38 h v1 v2 v3 W
  refine j_runA hx 5 (tb := [(25, .aload_n 0), (26, .aload_n 0), (27, .iload 6), (29, .lload_n 2), (30, .iload 4)]) (jtb_ok (by decide +kernel)) (pc' := 32) (lv' := [(6, vI v3), (5, vI v2), (4, vI v1), (0, vR t), (1, vI a1), (2, vL a2)]) (st' := [vI v1, vL a2, vI v3, vR t, vR t]) rfl ?_
  refine j_gd (fun h4 => ?_)
  refine j_OI (j_callV (av := [vI v3, vL a2, vI v1]) (st := [vR t]) hx hr (Or.inl q2165) q2167 qs104 rfl md_fma_isStorable np_fma_isStorable (cma_isStorable t v3 a2 v1 W) (by decide) (Nat.le_of_ble_eq_true rfl) h4 (by decide) (by decide +kernel)) (fun q5 _ => ?_)
  refine j_EV (j_callV (av := [vI q5]) (st := []) hx hr (Or.inl q2074) q2076 qs86 rfl md_fma_must np_fma_must (cma_must t q5 W) (by decide) (Nat.le_of_ble_eq_true rfl) h4 (by decide) (by decide +kernel)) (fun z _ r h9 => j_upE hm hx (ht z) h9) (fun q6 _ => ?_)
  refine j_lv (lv' := [(0, vR t), (1, vI a1), (2, vL a2), (4, vI v1), (5, vI v2), (6, vI v3)]) ⟨rfl, rfl, rfl, rfl, rfl, rfl, trivial⟩ ?_
  exact wma_access_38 h v1 v2 v3 q6
theorem cma_access (t : Nat) (a1 : Int32) (a2 : Int64) (W : jW) : jM yX15_access cX15_access 8 (Option.none : Option Jvm.ClassFile.FieldType) [] 7 117 [vR t, vI a1, vL a2] W ((fma_access t a1 a2 W).bind (fun q => some (Sum.elim (fun z => (.threw (z.1 - 1), z.2)) (fun q => (.returned none, q)) q))) := 
  jM.of (Nat.le_of_ble_eq_true rfl) (fun x hx hm hr => wma_access ⟨hx, hm, hr, fun _ => rfl, fun _ => rfl⟩ W)
def hma_pair (x : jCx) (en : ((Nat × jW) ⊕ jW) → Option (Outcome × jW)) (t : Nat) (a1 : Int32) : Prop :=
  jOK x RX15 cX15_pair 15 ∧
  jMt x "pair" (Option.none : Option Jvm.ClassFile.FieldType) [] ∧
  jRm x 7 117 ∧
  (∀ q : jW, en (.inr q) = some (.returned none, q)) ∧
  (∀ z : Nat × jW, en (.inl z) = some (.threw (z.1 - 1), z.2))
theorem wma_pair_320 {x : jCx} {en : ((Nat × jW) ⊕ jW) → Option (Outcome × jW)} {t : Nat} {a1 : Int32} (h : hma_pair x en t a1) (l2 : Int32) (l3 : Int32) (l4 : Int64) (l6 : Int64) (W : jW) : jJ x 15 320 [(0, vR t), (1, vI a1), (2, vI l2), (3, vI l3), (4, vL l4), (6, vL l6)] [] W (fma_pair_320 t a1 l2 l3 l4 l6 W) en := by
  have h0 := h
  obtain ⟨hx, hm, hr, he, ht⟩ := h0
  unfold fma_pair_320
  refine j_runA hx 2 (tb := [(320, .iload_n 2), (321, .iconst 2)]) (jtb_ok (by decide +kernel)) (pc' := 322) (lv' := [(0, vR t), (1, vI a1), (2, vI l2), (3, vI l3), (4, vL l4), (6, vL l6)]) (st' := [vI (kI 2), vI l2]) rfl ?_
  refine j_icmp_eq hx (off := 14) (tgt := 336) (by decide +kernel) (by decide) (fun _ => ?_) (fun _ => ?_)
  · exact j_vret hx hm (by decide +kernel) (he _)
  refine j_runA hx 6 (tb := [(325, .aload_n 0), (326, .iload_n 3), (327, .lload 6), (329, .lload 4), (331, .ladd), (332, .iconst 1)]) (jtb_ok (by decide +kernel)) (pc' := 333) (lv' := [(0, vR t), (1, vI a1), (2, vI l2), (3, vI l3), (4, vL l4), (6, vL l6)]) (st' := [vI (kI 1), vL (l6 + l4), vI l3, vR t]) rfl ?_
  refine j_gd (fun h57 => ?_)
  refine j_WV (j_callV (av := [vI l3, vL (l6 + l4), vI (kI 1)]) (st := []) hx hr (Or.inl q2099) q2101 qs91 rfl md_fma_putBase np_fma_putBase (cma_putBase t l3 (l6 + l4) (kI 1) W) (by decide) (Nat.le_of_ble_eq_true rfl) h57 (by decide) (by decide +kernel)) (fun q58 _ => ?_)
  exact j_vret hx hm (by decide +kernel) (he _)
theorem wma_pair_249 {x : jCx} {en : ((Nat × jW) ⊕ jW) → Option (Outcome × jW)} {t : Nat} {a1 : Int32} (h : hma_pair x en t a1) (l2 : Int32) (l3 : Int32) (l4 : Int64) (l6 : Int64) (l8 : Int64) (l10 : Int32) (l11 : Int32) (l12 : Int32) (l13 : Int32) (s0 : Int32) (s1 : Int32) (s2 : Int64) (s3 : Nat) (W : jW) : jJ x 15 249 [(0, vR t), (1, vI a1), (2, vI l2), (3, vI l3), (4, vL l4), (6, vL l6), (8, vL l8), (10, vI l10), (11, vI l11), (12, vI l12), (13, vI l13)] [vI s0, vI s1, vL s2, vR s3] W (fma_pair_249 t a1 l2 l3 l4 l6 l8 l10 l11 l12 l13 s0 s1 s2 s3 W) en := by
  have h0 := h
  obtain ⟨hx, hm, hr, he, ht⟩ := h0
  unfold fma_pair_249
  refine j_gd (fun h41 => ?_)
  refine j_EI (j_callV (av := [vL s2, vI s1, vI s0]) (st := []) hx hr (Or.inl q2170) q2172 qs105 rfl md_fma_looked np_fma_looked (cma_looked s3 s2 s1 s0 W) (by decide) (Nat.le_of_ble_eq_true rfl) h41 (by decide) (by decide +kernel)) (fun z _ r h9 => j_upE hm hx (ht z) h9) (fun q42 _ => ?_)
  refine j_runA hx 2 (tb := [(252, .istore 14), (254, .iload 10)]) (jtb_ok (by decide +kernel)) (pc' := 256) (lv' := [(14, vI q42.1), (0, vR t), (1, vI a1), (2, vI l2), (3, vI l3), (4, vL l4), (6, vL l6), (8, vL l8), (10, vI l10), (11, vI l11), (12, vI l12), (13, vI l13)]) (st' := [vI l10]) rfl ?_
  refine j_if_eq hx (off := 36) (tgt := 292) (by decide +kernel) (by decide) (fun _ => ?_) (fun _ => ?_)
  · refine j_runA hx 5 (tb := [(292, .aload_n 0), (293, .iload 11), (295, .iload 13), (297, .lload 8), (299, .bipush 8)]) (jtb_ok (by decide +kernel)) (pc' := 301) (lv' := [(14, vI q42.1), (0, vR t), (1, vI a1), (2, vI l2), (3, vI l3), (4, vL l4), (6, vL l6), (8, vL l8), (10, vI l10), (11, vI l11), (12, vI l12), (13, vI l13)]) (st' := [vI (kI 8), vL l8, vI l13, vI l11, vR t]) rfl ?_
    refine j_gd (fun h44 => ?_)
    refine j_WV (j_callV (av := [vI l11, vI l13, vL l8, vI (kI 8)]) (st := []) hx hr (Or.inl q2193) q2195 qs107 rfl md_fma_storeFrom np_fma_storeFrom (cma_storeFrom t l11 l13 l8 (kI 8) q42.2) (by decide) (Nat.le_of_ble_eq_true rfl) h44 (by decide) (by decide +kernel)) (fun q45 _ => ?_)
    refine j_runA hx 4 (tb := [(304, .aload_n 0), (305, .iload 12), (307, .iload 14), (309, .lload 8)]) (jtb_ok (by decide +kernel)) (pc' := 311) (lv' := [(14, vI q42.1), (0, vR t), (1, vI a1), (2, vI l2), (3, vI l3), (4, vL l4), (6, vL l6), (8, vL l8), (10, vI l10), (11, vI l11), (12, vI l12), (13, vI l13)]) (st' := [vL l8, vI q42.1, vI l12, vR t]) rfl ?_
    refine j_ldc2 hx (v := (kJ 8)) (jkd2 q2169 (by decide +kernel)) (by decide +kernel) ?_
    refine j_runA hx 2 (tb := [(314, .ladd), (315, .bipush 8)]) (jtb_ok (by decide +kernel)) (pc' := 317) (lv' := [(14, vI q42.1), (0, vR t), (1, vI a1), (2, vI l2), (3, vI l3), (4, vL l4), (6, vL l6), (8, vL l8), (10, vI l10), (11, vI l11), (12, vI l12), (13, vI l13)]) (st' := [vI (kI 8), vL (l8 + (kJ 8)), vI q42.1, vI l12, vR t]) rfl ?_
    refine j_gd (fun h47 => ?_)
    refine j_WV (j_callV (av := [vI l12, vI q42.1, vL (l8 + (kJ 8)), vI (kI 8)]) (st := []) hx hr (Or.inl q2193) q2195 qs107 rfl md_fma_storeFrom np_fma_storeFrom (cma_storeFrom t l12 q42.1 (l8 + (kJ 8)) (kI 8) q45) (by decide) (Nat.le_of_ble_eq_true rfl) h47 (by decide) (by decide +kernel)) (fun q48 _ => ?_)
    refine j_lv (lv' := [(0, vR t), (1, vI a1), (2, vI l2), (3, vI l3), (4, vL l4), (6, vL l6)]) ⟨rfl, rfl, rfl, rfl, rfl, rfl, trivial⟩ ?_
    exact wma_pair_320 h l2 l3 l4 l6 q48
  refine j_runA hx 6 (tb := [(259, .aload_n 0), (260, .iload 11), (262, .iload 13), (264, .lload 8), (266, .bipush 8), (268, .iconst 0)]) (jtb_ok (by decide +kernel)) (pc' := 269) (lv' := [(14, vI q42.1), (0, vR t), (1, vI a1), (2, vI l2), (3, vI l3), (4, vL l4), (6, vL l6), (8, vL l8), (10, vI l10), (11, vI l11), (12, vI l12), (13, vI l13)]) (st' := [vI (kI 0), vI (kI 8), vL l8, vI l13, vI l11, vR t]) rfl ?_
  refine j_gd (fun h50 => ?_)
  refine j_WV (j_callV (av := [vI l11, vI l13, vL l8, vI (kI 8), vI (kI 0)]) (st := []) hx hr (Or.inl q2205) q2207 qs109 rfl md_fma_loadTo np_fma_loadTo (cma_loadTo t l11 l13 l8 (kI 8) (kI 0) q42.2) (by decide) (Nat.le_of_ble_eq_true rfl) h50 (by decide) (by decide +kernel)) (fun q51 _ => ?_)
  refine j_runA hx 4 (tb := [(272, .aload_n 0), (273, .iload 12), (275, .iload 14), (277, .lload 8)]) (jtb_ok (by decide +kernel)) (pc' := 279) (lv' := [(14, vI q42.1), (0, vR t), (1, vI a1), (2, vI l2), (3, vI l3), (4, vL l4), (6, vL l6), (8, vL l8), (10, vI l10), (11, vI l11), (12, vI l12), (13, vI l13)]) (st' := [vL l8, vI q42.1, vI l12, vR t]) rfl ?_
  refine j_ldc2 hx (v := (kJ 8)) (jkd2 q2169 (by decide +kernel)) (by decide +kernel) ?_
  refine j_runA hx 3 (tb := [(282, .ladd), (283, .bipush 8), (285, .iconst 0)]) (jtb_ok (by decide +kernel)) (pc' := 286) (lv' := [(14, vI q42.1), (0, vR t), (1, vI a1), (2, vI l2), (3, vI l3), (4, vL l4), (6, vL l6), (8, vL l8), (10, vI l10), (11, vI l11), (12, vI l12), (13, vI l13)]) (st' := [vI (kI 0), vI (kI 8), vL (l8 + (kJ 8)), vI q42.1, vI l12, vR t]) rfl ?_
  refine j_gd (fun h53 => ?_)
  refine j_WV (j_callV (av := [vI l12, vI q42.1, vL (l8 + (kJ 8)), vI (kI 8), vI (kI 0)]) (st := []) hx hr (Or.inl q2205) q2207 qs109 rfl md_fma_loadTo np_fma_loadTo (cma_loadTo t l12 q42.1 (l8 + (kJ 8)) (kI 8) (kI 0) q51) (by decide) (Nat.le_of_ble_eq_true rfl) h53 (by decide) (by decide +kernel)) (fun q54 _ => ?_)
  refine j_goto hx (off := 31) (by decide +kernel) (tgt := 320) (by decide) ?_
  refine j_lv (lv' := [(0, vR t), (1, vI a1), (2, vI l2), (3, vI l3), (4, vL l4), (6, vL l6)]) ⟨rfl, rfl, rfl, rfl, rfl, rfl, trivial⟩ ?_
  exact wma_pair_320 h l2 l3 l4 l6 q54
theorem wma_pair_225 {x : jCx} {en : ((Nat × jW) ⊕ jW) → Option (Outcome × jW)} {t : Nat} {a1 : Int32} (h : hma_pair x en t a1) (l2 : Int32) (l3 : Int32) (l4 : Int64) (l6 : Int64) (l8 : Int64) (l10 : Int32) (l11 : Int32) (l12 : Int32) (s0 : Int32) (s1 : Int32) (s2 : Int64) (s3 : Nat) (W : jW) : jJ x 15 225 [(0, vR t), (1, vI a1), (2, vI l2), (3, vI l3), (4, vL l4), (6, vL l6), (8, vL l8), (10, vI l10), (11, vI l11), (12, vI l12)] [vI s0, vI s1, vL s2, vR s3] W (fma_pair_225 t a1 l2 l3 l4 l6 l8 l10 l11 l12 s0 s1 s2 s3 W) en := by
  have h0 := h
  obtain ⟨hx, hm, hr, he, ht⟩ := h0
  unfold fma_pair_225
  refine j_gd (fun h37 => ?_)
  refine j_EI (j_callV (av := [vL s2, vI s1, vI s0]) (st := []) hx hr (Or.inl q2170) q2172 qs105 rfl md_fma_looked np_fma_looked (cma_looked s3 s2 s1 s0 W) (by decide) (Nat.le_of_ble_eq_true rfl) h37 (by decide) (by decide +kernel)) (fun z _ r h9 => j_upE hm hx (ht z) h9) (fun q38 _ => ?_)
  refine j_runA hx 3 (tb := [(228, .istore 13), (230, .aload_n 0), (231, .lload 8)]) (jtb_ok (by decide +kernel)) (pc' := 233) (lv' := [(13, vI q38.1), (0, vR t), (1, vI a1), (2, vI l2), (3, vI l3), (4, vL l4), (6, vL l6), (8, vL l8), (10, vI l10), (11, vI l11), (12, vI l12)]) (st' := [vL l8, vR t]) rfl ?_
  refine j_ldc2 hx (v := (kJ 8)) (jkd2 q2169 (by decide +kernel)) (by decide +kernel) ?_
  refine j_runA hx 3 (tb := [(236, .ladd), (237, .bipush 8), (239, .iload 10)]) (jtb_ok (by decide +kernel)) (pc' := 241) (lv' := [(13, vI q38.1), (0, vR t), (1, vI a1), (2, vI l2), (3, vI l3), (4, vL l4), (6, vL l6), (8, vL l8), (10, vI l10), (11, vI l11), (12, vI l12)]) (st' := [vI l10, vI (kI 8), vL (l8 + (kJ 8)), vR t]) rfl ?_
  refine j_if_ne hx (off := 7) (tgt := 248) (by decide +kernel) (by decide) (fun _ => ?_) (fun _ => ?_)
  · refine j_runA hx 1 (tb := [(248, .iconst 0)]) (jtb_ok (by decide +kernel)) (pc' := 249) (lv' := [(13, vI q38.1), (0, vR t), (1, vI a1), (2, vI l2), (3, vI l3), (4, vL l4), (6, vL l6), (8, vL l8), (10, vI l10), (11, vI l11), (12, vI l12)]) (st' := [vI (kI 0), vI (kI 8), vL (l8 + (kJ 8)), vR t]) rfl ?_
    refine j_lv (lv' := [(0, vR t), (1, vI a1), (2, vI l2), (3, vI l3), (4, vL l4), (6, vL l6), (8, vL l8), (10, vI l10), (11, vI l11), (12, vI l12), (13, vI q38.1)]) ⟨rfl, rfl, rfl, rfl, rfl, rfl, rfl, rfl, rfl, rfl, rfl, trivial⟩ ?_
    exact wma_pair_249 h l2 l3 l4 l6 l8 l10 l11 l12 q38.1 (kI 0) (kI 8) (l8 + (kJ 8)) t q38.2
  refine j_runA hx 1 (tb := [(244, .iconst 1)]) (jtb_ok (by decide +kernel)) (pc' := 245) (lv' := [(13, vI q38.1), (0, vR t), (1, vI a1), (2, vI l2), (3, vI l3), (4, vL l4), (6, vL l6), (8, vL l8), (10, vI l10), (11, vI l11), (12, vI l12)]) (st' := [vI (kI 1), vI (kI 8), vL (l8 + (kJ 8)), vR t]) rfl ?_
  refine j_goto hx (off := 4) (by decide +kernel) (tgt := 249) (by decide) ?_
  refine j_lv (lv' := [(0, vR t), (1, vI a1), (2, vI l2), (3, vI l3), (4, vL l4), (6, vL l6), (8, vL l8), (10, vI l10), (11, vI l11), (12, vI l12), (13, vI q38.1)]) ⟨rfl, rfl, rfl, rfl, rfl, rfl, rfl, rfl, rfl, rfl, rfl, trivial⟩ ?_
  exact wma_pair_249 h l2 l3 l4 l6 l8 l10 l11 l12 q38.1 (kI 1) (kI 8) (l8 + (kJ 8)) t q38.2
theorem wma_pair_207 {x : jCx} {en : ((Nat × jW) ⊕ jW) → Option (Outcome × jW)} {t : Nat} {a1 : Int32} (h : hma_pair x en t a1) (l2 : Int32) (l3 : Int32) (l4 : Int64) (l6 : Int64) (l8 : Int64) (l10 : Int32) (l11 : Int32) (l12 : Int32) (s0 : Int32) (s1 : Nat) (W : jW) : jJ x 15 207 [(0, vR t), (1, vI a1), (2, vI l2), (3, vI l3), (4, vL l4), (6, vL l6), (8, vL l8), (10, vI l10), (11, vI l11), (12, vI l12)] [vI s0, vR s1] W (fma_pair_207 t a1 l2 l3 l4 l6 l8 l10 l11 l12 s0 s1 W) en := by
  have h0 := h
  obtain ⟨hx, hm, hr, he, ht⟩ := h0
  unfold fma_pair_207
  refine j_gd (fun h33 => ?_)
  refine j_EV (j_callV (av := [vI s0]) (st := []) hx hr (Or.inl q2074) q2076 qs86 rfl md_fma_must np_fma_must (cma_must s1 s0 W) (by decide) (Nat.le_of_ble_eq_true rfl) h33 (by decide) (by decide +kernel)) (fun z _ r h9 => j_upE hm hx (ht z) h9) (fun q34 _ => ?_)
  refine j_runA hx 4 (tb := [(210, .aload_n 0), (211, .lload 8), (213, .bipush 8), (215, .iload 10)]) (jtb_ok (by decide +kernel)) (pc' := 217) (lv' := [(0, vR t), (1, vI a1), (2, vI l2), (3, vI l3), (4, vL l4), (6, vL l6), (8, vL l8), (10, vI l10), (11, vI l11), (12, vI l12)]) (st' := [vI l10, vI (kI 8), vL l8, vR t]) rfl ?_
  refine j_if_ne hx (off := 7) (tgt := 224) (by decide +kernel) (by decide) (fun _ => ?_) (fun _ => ?_)
  · refine j_runA hx 1 (tb := [(224, .iconst 0)]) (jtb_ok (by decide +kernel)) (pc' := 225) (lv' := [(0, vR t), (1, vI a1), (2, vI l2), (3, vI l3), (4, vL l4), (6, vL l6), (8, vL l8), (10, vI l10), (11, vI l11), (12, vI l12)]) (st' := [vI (kI 0), vI (kI 8), vL l8, vR t]) rfl ?_
    exact wma_pair_225 h l2 l3 l4 l6 l8 l10 l11 l12 (kI 0) (kI 8) l8 t q34
  refine j_runA hx 1 (tb := [(220, .iconst 1)]) (jtb_ok (by decide +kernel)) (pc' := 221) (lv' := [(0, vR t), (1, vI a1), (2, vI l2), (3, vI l3), (4, vL l4), (6, vL l6), (8, vL l8), (10, vI l10), (11, vI l11), (12, vI l12)]) (st' := [vI (kI 1), vI (kI 8), vL l8, vR t]) rfl ?_
  refine j_goto hx (off := 4) (by decide +kernel) (tgt := 225) (by decide) ?_
  exact wma_pair_225 h l2 l3 l4 l6 l8 l10 l11 l12 (kI 1) (kI 8) l8 t q34
theorem wma_pair_202 {x : jCx} {en : ((Nat × jW) ⊕ jW) → Option (Outcome × jW)} {t : Nat} {a1 : Int32} (h : hma_pair x en t a1) (l2 : Int32) (l3 : Int32) (l4 : Int64) (l6 : Int64) (l8 : Int64) (l10 : Int32) (l11 : Int32) (l12 : Int32) (s0 : Nat) (W : jW) : jJ x 15 202 [(0, vR t), (1, vI a1), (2, vI l2), (3, vI l3), (4, vL l4), (6, vL l6), (8, vL l8), (10, vI l10), (11, vI l11), (12, vI l12)] [vR s0] W (fma_pair_202 t a1 l2 l3 l4 l6 l8 l10 l11 l12 s0 W) en := by
  have h0 := h
  obtain ⟨hx, hm, hr, he, ht⟩ := h0
  unfold fma_pair_202
  refine j_runA hx 1 (tb := [(202, .iconst 1)]) (jtb_ok (by decide +kernel)) (pc' := 203) (lv' := [(0, vR t), (1, vI a1), (2, vI l2), (3, vI l3), (4, vL l4), (6, vL l6), (8, vL l8), (10, vI l10), (11, vI l11), (12, vI l12)]) (st' := [vI (kI 1), vR s0]) rfl ?_
  refine j_goto hx (off := 4) (by decide +kernel) (tgt := 207) (by decide) ?_
  exact wma_pair_207 h l2 l3 l4 l6 l8 l10 l11 l12 (kI 1) s0 W
theorem wma_pair_206 {x : jCx} {en : ((Nat × jW) ⊕ jW) → Option (Outcome × jW)} {t : Nat} {a1 : Int32} (h : hma_pair x en t a1) (l2 : Int32) (l3 : Int32) (l4 : Int64) (l6 : Int64) (l8 : Int64) (l10 : Int32) (l11 : Int32) (l12 : Int32) (s0 : Nat) (W : jW) : jJ x 15 206 [(0, vR t), (1, vI a1), (2, vI l2), (3, vI l3), (4, vL l4), (6, vL l6), (8, vL l8), (10, vI l10), (11, vI l11), (12, vI l12)] [vR s0] W (fma_pair_206 t a1 l2 l3 l4 l6 l8 l10 l11 l12 s0 W) en := by
  have h0 := h
  obtain ⟨hx, hm, hr, he, ht⟩ := h0
  unfold fma_pair_206
  refine j_runA hx 1 (tb := [(206, .iconst 0)]) (jtb_ok (by decide +kernel)) (pc' := 207) (lv' := [(0, vR t), (1, vI a1), (2, vI l2), (3, vI l3), (4, vL l4), (6, vL l6), (8, vL l8), (10, vI l10), (11, vI l11), (12, vI l12)]) (st' := [vI (kI 0), vR s0]) rfl ?_
  exact wma_pair_207 h l2 l3 l4 l6 l8 l10 l11 l12 (kI 0) s0 W
theorem wma_pair_155 {x : jCx} {en : ((Nat × jW) ⊕ jW) → Option (Outcome × jW)} {t : Nat} {a1 : Int32} (h : hma_pair x en t a1) (l2 : Int32) (l3 : Int32) (l4 : Int64) (l6 : Int64) (l8 : Int64) (l10 : Int32) (l11 : Int32) (l12 : Int32) (s0 : Int32) (s1 : Nat) (W : jW) : jJ x 15 155 [(0, vR t), (1, vI a1), (2, vI l2), (3, vI l3), (4, vL l4), (6, vL l6), (8, vL l8), (10, vI l10), (11, vI l11), (12, vI l12)] [vI s0, vR s1] W (fma_pair_155 t a1 l2 l3 l4 l6 l8 l10 l11 l12 s0 s1 W) en := by
  have h0 := h
  obtain ⟨hx, hm, hr, he, ht⟩ := h0
  unfold fma_pair_155
  refine j_gd (fun h24 => ?_)
  refine j_EV (j_callV (av := [vI s0]) (st := []) hx hr (Or.inl q2074) q2076 qs86 rfl md_fma_must np_fma_must (cma_must s1 s0 W) (by decide) (Nat.le_of_ble_eq_true rfl) h24 (by decide) (by decide +kernel)) (fun z _ r h9 => j_upE hm hx (ht z) h9) (fun q25 _ => ?_)
  refine j_runA hx 2 (tb := [(158, .aload_n 0), (159, .lload 8)]) (jtb_ok (by decide +kernel)) (pc' := 161) (lv' := [(0, vR t), (1, vI a1), (2, vI l2), (3, vI l3), (4, vL l4), (6, vL l6), (8, vL l8), (10, vI l10), (11, vI l11), (12, vI l12)]) (st' := [vL l8, vR t]) rfl ?_
  refine j_ldc2 hx (v := (kJ 8)) (jkd2 q2169 (by decide +kernel)) (by decide +kernel) ?_
  refine j_lrem hx (by decide +kernel) (by decide +kernel) ?_
  refine j_runA hx 1 (tb := [(165, .lconst 0)]) (jtb_ok (by decide +kernel)) (pc' := 166) (lv' := [(0, vR t), (1, vI a1), (2, vI l2), (3, vI l3), (4, vL l4), (6, vL l6), (8, vL l8), (10, vI l10), (11, vI l11), (12, vI l12)]) (st' := [vL (kJ 0), vL (lrm l8 (kJ 8)), vR t]) rfl ?_
  refine j_lcmp_eq hx (off := 35) (tgt := 202) (by decide +kernel) (by decide +kernel) (by decide) (fun _ => ?_) (fun _ => ?_)
  · exact wma_pair_202 h l2 l3 l4 l6 l8 l10 l11 l12 t q25
  refine j_runA hx 1 (tb := [(170, .aload_n 0)]) (jtb_ok (by decide +kernel)) (pc' := 171) (lv' := [(0, vR t), (1, vI a1), (2, vI l2), (3, vI l3), (4, vL l4), (6, vL l6), (8, vL l8), (10, vI l10), (11, vI l11), (12, vI l12)]) (st' := [vR t, vR t]) rfl ?_
  refine j_gd (fun h27 => ?_)
  refine j_getR hx flX15_60 kl1005 h27 (by decide) (by decide +kernel) ?_
  refine j_runA hx 2 (tb := [(174, .lload 8), (176, .bipush 8)]) (jtb_ok (by decide +kernel)) (pc' := 178) (lv' := [(0, vR t), (1, vI a1), (2, vI l2), (3, vI l3), (4, vL l4), (6, vL l6), (8, vL l8), (10, vI l10), (11, vI l11), (12, vI l12)]) (st' := [vI (kI 8), vL l8, vR (jR q25 1005 t), vR t]) rfl ?_
  refine j_gd (fun h28 => ?_)
  refine j_OI (j_callV (av := [vL l8, vI (kI 8)]) (st := [vR t]) hx hr (Or.inl q2179) q2180 q2181 rfl md_fme_hasCode np_fme_hasCode (cme_hasCode (jR q25 1005 t) l8 (kI 8) q25) (by decide) (Nat.le_of_ble_eq_true rfl) h28 (by decide) (by decide +kernel)) (fun q29 _ => ?_)
  refine j_if_ne hx (off := 25) (tgt := 206) (by decide +kernel) (by decide) (fun _ => ?_) (fun _ => ?_)
  · exact wma_pair_206 h l2 l3 l4 l6 l8 l10 l11 l12 t q25
  refine j_runA hx 1 (tb := [(184, .aload_n 0)]) (jtb_ok (by decide +kernel)) (pc' := 185) (lv' := [(0, vR t), (1, vI a1), (2, vI l2), (3, vI l3), (4, vL l4), (6, vL l6), (8, vL l8), (10, vI l10), (11, vI l11), (12, vI l12)]) (st' := [vR t, vR t]) rfl ?_
  refine j_getR hx flX15_60 kl1005 h27 (by decide) (by decide +kernel) ?_
  refine j_runA hx 1 (tb := [(188, .lload 8)]) (jtb_ok (by decide +kernel)) (pc' := 190) (lv' := [(0, vR t), (1, vI a1), (2, vI l2), (3, vI l3), (4, vL l4), (6, vL l6), (8, vL l8), (10, vI l10), (11, vI l11), (12, vI l12)]) (st' := [vL l8, vR (jR q25 1005 t), vR t]) rfl ?_
  refine j_ldc2 hx (v := (kJ 8)) (jkd2 q2169 (by decide +kernel)) (by decide +kernel) ?_
  refine j_runA hx 2 (tb := [(193, .ladd), (194, .bipush 8)]) (jtb_ok (by decide +kernel)) (pc' := 196) (lv' := [(0, vR t), (1, vI a1), (2, vI l2), (3, vI l3), (4, vL l4), (6, vL l6), (8, vL l8), (10, vI l10), (11, vI l11), (12, vI l12)]) (st' := [vI (kI 8), vL (l8 + (kJ 8)), vR (jR q25 1005 t), vR t]) rfl ?_
  refine j_OI (j_callV (av := [vL (l8 + (kJ 8)), vI (kI 8)]) (st := [vR t]) hx hr (Or.inl q2179) q2180 q2181 rfl md_fme_hasCode np_fme_hasCode (cme_hasCode (jR q25 1005 t) (l8 + (kJ 8)) (kI 8) q25) (by decide) (Nat.le_of_ble_eq_true rfl) h28 (by decide) (by decide +kernel)) (fun q30 _ => ?_)
  refine j_if_ne hx (off := 7) (tgt := 206) (by decide +kernel) (by decide) (fun _ => ?_) (fun _ => ?_)
  · exact wma_pair_206 h l2 l3 l4 l6 l8 l10 l11 l12 t q25
  exact wma_pair_202 h l2 l3 l4 l6 l8 l10 l11 l12 t q25
theorem wma_pair_154 {x : jCx} {en : ((Nat × jW) ⊕ jW) → Option (Outcome × jW)} {t : Nat} {a1 : Int32} (h : hma_pair x en t a1) (l2 : Int32) (l3 : Int32) (l4 : Int64) (l6 : Int64) (l8 : Int64) (l10 : Int32) (l11 : Int32) (l12 : Int32) (s0 : Nat) (W : jW) : jJ x 15 154 [(0, vR t), (1, vI a1), (2, vI l2), (3, vI l3), (4, vL l4), (6, vL l6), (8, vL l8), (10, vI l10), (11, vI l11), (12, vI l12)] [vR s0] W (fma_pair_154 t a1 l2 l3 l4 l6 l8 l10 l11 l12 s0 W) en := by
  have h0 := h
  obtain ⟨hx, hm, hr, he, ht⟩ := h0
  unfold fma_pair_154
  refine j_runA hx 1 (tb := [(154, .iconst 0)]) (jtb_ok (by decide +kernel)) (pc' := 155) (lv' := [(0, vR t), (1, vI a1), (2, vI l2), (3, vI l3), (4, vL l4), (6, vL l6), (8, vL l8), (10, vI l10), (11, vI l11), (12, vI l12)]) (st' := [vI (kI 0), vR s0]) rfl ?_
  exact wma_pair_155 h l2 l3 l4 l6 l8 l10 l11 l12 (kI 0) s0 W
theorem wma_pair_123 {x : jCx} {en : ((Nat × jW) ⊕ jW) → Option (Outcome × jW)} {t : Nat} {a1 : Int32} (h : hma_pair x en t a1) (l2 : Int32) (l3 : Int32) (l4 : Int64) (l6 : Int64) (l8 : Int64) (l10 : Int32) (l11 : Int32) (l12 : Int32) (W : jW) : jJ x 15 123 [(0, vR t), (1, vI a1), (2, vI l2), (3, vI l3), (4, vL l4), (6, vL l6), (8, vL l8), (10, vI l10), (11, vI l11), (12, vI l12)] [] W (fma_pair_123 t a1 l2 l3 l4 l6 l8 l10 l11 l12 W) en := by
  have h0 := h
  obtain ⟨hx, hm, hr, he, ht⟩ := h0
  unfold fma_pair_123
  refine j_runA hx 4 (tb := [(123, .aload_n 0), (124, .aload_n 0), (125, .lload 8), (127, .bipush 8)]) (jtb_ok (by decide +kernel)) (pc' := 129) (lv' := [(0, vR t), (1, vI a1), (2, vI l2), (3, vI l3), (4, vL l4), (6, vL l6), (8, vL l8), (10, vI l10), (11, vI l11), (12, vI l12)]) (st' := [vI (kI 8), vL l8, vR t, vR t]) rfl ?_
  refine j_gd (fun h20 => ?_)
  refine j_OI (j_callV (av := [vL l8, vI (kI 8)]) (st := [vR t]) hx hr (Or.inl q2174) q2176 qs106 rfl md_fma_isInTexts np_fma_isInTexts (cma_isInTexts t l8 (kI 8) W) (by decide) (Nat.le_of_ble_eq_true rfl) h20 (by decide) (by decide +kernel)) (fun q21 _ => ?_)
  refine j_if_ne hx (off := 22) (tgt := 154) (by decide +kernel) (by decide) (fun _ => ?_) (fun _ => ?_)
  · exact wma_pair_154 h l2 l3 l4 l6 l8 l10 l11 l12 t W
  refine j_runA hx 2 (tb := [(135, .aload_n 0), (136, .lload 8)]) (jtb_ok (by decide +kernel)) (pc' := 138) (lv' := [(0, vR t), (1, vI a1), (2, vI l2), (3, vI l3), (4, vL l4), (6, vL l6), (8, vL l8), (10, vI l10), (11, vI l11), (12, vI l12)]) (st' := [vL l8, vR t, vR t]) rfl ?_
  refine j_ldc2 hx (v := (kJ 8)) (jkd2 q2169 (by decide +kernel)) (by decide +kernel) ?_
  refine j_runA hx 2 (tb := [(141, .ladd), (142, .bipush 8)]) (jtb_ok (by decide +kernel)) (pc' := 144) (lv' := [(0, vR t), (1, vI a1), (2, vI l2), (3, vI l3), (4, vL l4), (6, vL l6), (8, vL l8), (10, vI l10), (11, vI l11), (12, vI l12)]) (st' := [vI (kI 8), vL (l8 + (kJ 8)), vR t, vR t]) rfl ?_
  refine j_OI (j_callV (av := [vL (l8 + (kJ 8)), vI (kI 8)]) (st := [vR t]) hx hr (Or.inl q2174) q2176 qs106 rfl md_fma_isInTexts np_fma_isInTexts (cma_isInTexts t (l8 + (kJ 8)) (kI 8) W) (by decide) (Nat.le_of_ble_eq_true rfl) h20 (by decide) (by decide +kernel)) (fun q22 _ => ?_)
  refine j_if_ne hx (off := 7) (tgt := 154) (by decide +kernel) (by decide) (fun _ => ?_) (fun _ => ?_)
  · exact wma_pair_154 h l2 l3 l4 l6 l8 l10 l11 l12 t W
  refine j_runA hx 1 (tb := [(150, .iconst 1)]) (jtb_ok (by decide +kernel)) (pc' := 151) (lv' := [(0, vR t), (1, vI a1), (2, vI l2), (3, vI l3), (4, vL l4), (6, vL l6), (8, vL l8), (10, vI l10), (11, vI l11), (12, vI l12)]) (st' := [vI (kI 1), vR t]) rfl ?_
  refine j_goto hx (off := 4) (by decide +kernel) (tgt := 155) (by decide) ?_
  exact wma_pair_155 h l2 l3 l4 l6 l8 l10 l11 l12 (kI 1) t W
theorem wma_pair_120 {x : jCx} {en : ((Nat × jW) ⊕ jW) → Option (Outcome × jW)} {t : Nat} {a1 : Int32} (h : hma_pair x en t a1) (l2 : Int32) (l3 : Int32) (l4 : Int64) (l6 : Int64) (l8 : Int64) (l10 : Int32) (l11 : Int32) (l12 : Int32) (s0 : Int32) (s1 : Nat) (W : jW) : jJ x 15 120 [(0, vR t), (1, vI a1), (2, vI l2), (3, vI l3), (4, vL l4), (6, vL l6), (8, vL l8), (10, vI l10), (11, vI l11), (12, vI l12)] [vI s0, vR s1] W (fma_pair_120 t a1 l2 l3 l4 l6 l8 l10 l11 l12 s0 s1 W) en := by
  have h0 := h
  obtain ⟨hx, hm, hr, he, ht⟩ := h0
  unfold fma_pair_120
  refine j_gd (fun h15 => ?_)
  refine j_EV (j_callV (av := [vI s0]) (st := []) hx hr (Or.inl q2074) q2076 qs86 rfl md_fma_must np_fma_must (cma_must s1 s0 W) (by decide) (Nat.le_of_ble_eq_true rfl) h15 (by decide) (by decide +kernel)) (fun z _ r h9 => j_upE hm hx (ht z) h9) (fun q16 _ => ?_)
  exact wma_pair_123 h l2 l3 l4 l6 l8 l10 l11 l12 q16
theorem wma_pair_119 {x : jCx} {en : ((Nat × jW) ⊕ jW) → Option (Outcome × jW)} {t : Nat} {a1 : Int32} (h : hma_pair x en t a1) (l2 : Int32) (l3 : Int32) (l4 : Int64) (l6 : Int64) (l8 : Int64) (l10 : Int32) (l11 : Int32) (l12 : Int32) (s0 : Nat) (W : jW) : jJ x 15 119 [(0, vR t), (1, vI a1), (2, vI l2), (3, vI l3), (4, vL l4), (6, vL l6), (8, vL l8), (10, vI l10), (11, vI l11), (12, vI l12)] [vR s0] W (fma_pair_119 t a1 l2 l3 l4 l6 l8 l10 l11 l12 s0 W) en := by
  have h0 := h
  obtain ⟨hx, hm, hr, he, ht⟩ := h0
  unfold fma_pair_119
  refine j_runA hx 1 (tb := [(119, .iconst 0)]) (jtb_ok (by decide +kernel)) (pc' := 120) (lv' := [(0, vR t), (1, vI a1), (2, vI l2), (3, vI l3), (4, vL l4), (6, vL l6), (8, vL l8), (10, vI l10), (11, vI l11), (12, vI l12)]) (st' := [vI (kI 0), vR s0]) rfl ?_
  exact wma_pair_120 h l2 l3 l4 l6 l8 l10 l11 l12 (kI 0) s0 W
theorem wma_pair_65 {x : jCx} {en : ((Nat × jW) ⊕ jW) → Option (Outcome × jW)} {t : Nat} {a1 : Int32} (h : hma_pair x en t a1) (l2 : Int32) (l3 : Int32) (l4 : Int64) (l6 : Int64) (l8 : Int64) (s0 : Int32) (W : jW) : jJ x 15 65 [(0, vR t), (1, vI a1), (2, vI l2), (3, vI l3), (4, vL l4), (6, vL l6), (8, vL l8)] [vI s0] W (fma_pair_65 t a1 l2 l3 l4 l6 l8 s0 W) en := by
  have h0 := h
  obtain ⟨hx, hm, hr, he, ht⟩ := h0
  unfold fma_pair_65
  refine j_runA hx 2 (tb := [(65, .istore 10), (67, .iload_n 1)]) (jtb_ok (by decide +kernel)) (pc' := 68) (lv' := [(10, vI s0), (0, vR t), (1, vI a1), (2, vI l2), (3, vI l3), (4, vL l4), (6, vL l6), (8, vL l8)]) (st' := [vI a1]) rfl ?_
  refine j_TI (j_callS (av := [vI a1]) (st := []) hx hr (Or.inl q2078) q992 q247 md_fwo_d np_fwo_d (cwo_d a1 W) (by decide) (Nat.le_of_ble_eq_true rfl) (by decide +kernel)) ?_
  refine j_runA hx 1 (tb := [(71, .istore 11)]) (jtb_ok (by decide +kernel)) (pc' := 73) (lv' := [(11, vI (fwo_d a1)), (10, vI s0), (0, vR t), (1, vI a1), (2, vI l2), (3, vI l3), (4, vL l4), (6, vL l6), (8, vL l8)]) (st' := []) rfl ?_
  refine j_let (v := (fwo_d a1)) (lv := fun v9 => [(11, vI v9), (10, vI s0), (0, vR t), (1, vI a1), (2, vI l2), (3, vI l3), (4, vL l4), (6, vL l6), (8, vL l8)]) (st := fun _ => []) (fun v9 => ?_)
  refine j_runA hx 1 (tb := [(73, .iload_n 1)]) (jtb_ok (by decide +kernel)) (pc' := 74) (lv' := [(11, vI v9), (10, vI s0), (0, vR t), (1, vI a1), (2, vI l2), (3, vI l3), (4, vL l4), (6, vL l6), (8, vL l8)]) (st' := [vI a1]) rfl ?_
  refine j_TI (j_callS (av := [vI a1]) (st := []) hx hr (Or.inl q2144) q995 q247 md_fwo_a np_fwo_a (cwo_a a1 W) (by decide) (Nat.le_of_ble_eq_true rfl) (by decide +kernel)) ?_
  refine j_runA hx 1 (tb := [(77, .istore 12)]) (jtb_ok (by decide +kernel)) (pc' := 79) (lv' := [(12, vI (fwo_a a1)), (11, vI v9), (10, vI s0), (0, vR t), (1, vI a1), (2, vI l2), (3, vI l3), (4, vL l4), (6, vL l6), (8, vL l8)]) (st' := []) rfl ?_
  refine j_let (v := (fwo_a a1)) (lv := fun v10 => [(12, vI v10), (11, vI v9), (10, vI s0), (0, vR t), (1, vI a1), (2, vI l2), (3, vI l3), (4, vL l4), (6, vL l6), (8, vL l8)]) (st := fun _ => []) (fun v10 => ?_)
  refine j_runA hx 1 (tb := [(79, .iload 10)]) (jtb_ok (by decide +kernel)) (pc' := 81) (lv' := [(12, vI v10), (11, vI v9), (10, vI s0), (0, vR t), (1, vI a1), (2, vI l2), (3, vI l3), (4, vL l4), (6, vL l6), (8, vL l8)]) (st' := [vI s0]) rfl ?_
  refine j_if_ne hx (off := 42) (tgt := 123) (by decide +kernel) (by decide) (fun _ => ?_) (fun _ => ?_)
  · refine j_lv (lv' := [(0, vR t), (1, vI a1), (2, vI l2), (3, vI l3), (4, vL l4), (6, vL l6), (8, vL l8), (10, vI s0), (11, vI v9), (12, vI v10)]) ⟨rfl, rfl, rfl, rfl, rfl, rfl, rfl, rfl, rfl, rfl, trivial⟩ ?_
    exact wma_pair_123 h l2 l3 l4 l6 l8 s0 v9 v10 W
  refine j_runA hx 5 (tb := [(84, .aload_n 0), (85, .aload_n 0), (86, .iload 11), (88, .lload 8), (90, .bipush 8)]) (jtb_ok (by decide +kernel)) (pc' := 92) (lv' := [(12, vI v10), (11, vI v9), (10, vI s0), (0, vR t), (1, vI a1), (2, vI l2), (3, vI l3), (4, vL l4), (6, vL l6), (8, vL l8)]) (st' := [vI (kI 8), vL l8, vI v9, vR t, vR t]) rfl ?_
  refine j_gd (fun h11 => ?_)
  refine j_OI (j_callV (av := [vI v9, vL l8, vI (kI 8)]) (st := [vR t]) hx hr (Or.inl q2165) q2167 qs104 rfl md_fma_isStorable np_fma_isStorable (cma_isStorable t v9 l8 (kI 8) W) (by decide) (Nat.le_of_ble_eq_true rfl) h11 (by decide) (by decide +kernel)) (fun q12 _ => ?_)
  refine j_if_eq hx (off := 24) (tgt := 119) (by decide +kernel) (by decide) (fun _ => ?_) (fun _ => ?_)
  · refine j_lv (lv' := [(0, vR t), (1, vI a1), (2, vI l2), (3, vI l3), (4, vL l4), (6, vL l6), (8, vL l8), (10, vI s0), (11, vI v9), (12, vI v10)]) ⟨rfl, rfl, rfl, rfl, rfl, rfl, rfl, rfl, rfl, rfl, trivial⟩ ?_
    exact wma_pair_119 h l2 l3 l4 l6 l8 s0 v9 v10 t W
  refine j_runA hx 3 (tb := [(98, .aload_n 0), (99, .iload 12), (101, .lload 8)]) (jtb_ok (by decide +kernel)) (pc' := 103) (lv' := [(12, vI v10), (11, vI v9), (10, vI s0), (0, vR t), (1, vI a1), (2, vI l2), (3, vI l3), (4, vL l4), (6, vL l6), (8, vL l8)]) (st' := [vL l8, vI v10, vR t, vR t]) rfl ?_
  refine j_ldc2 hx (v := (kJ 8)) (jkd2 q2169 (by decide +kernel)) (by decide +kernel) ?_
  refine j_runA hx 2 (tb := [(106, .ladd), (107, .bipush 8)]) (jtb_ok (by decide +kernel)) (pc' := 109) (lv' := [(12, vI v10), (11, vI v9), (10, vI s0), (0, vR t), (1, vI a1), (2, vI l2), (3, vI l3), (4, vL l4), (6, vL l6), (8, vL l8)]) (st' := [vI (kI 8), vL (l8 + (kJ 8)), vI v10, vR t, vR t]) rfl ?_
  refine j_OI (j_callV (av := [vI v10, vL (l8 + (kJ 8)), vI (kI 8)]) (st := [vR t]) hx hr (Or.inl q2165) q2167 qs104 rfl md_fma_isStorable np_fma_isStorable (cma_isStorable t v10 (l8 + (kJ 8)) (kI 8) W) (by decide) (Nat.le_of_ble_eq_true rfl) h11 (by decide) (by decide +kernel)) (fun q13 _ => ?_)
  refine j_if_eq hx (off := 7) (tgt := 119) (by decide +kernel) (by decide) (fun _ => ?_) (fun _ => ?_)
  · refine j_lv (lv' := [(0, vR t), (1, vI a1), (2, vI l2), (3, vI l3), (4, vL l4), (6, vL l6), (8, vL l8), (10, vI s0), (11, vI v9), (12, vI v10)]) ⟨rfl, rfl, rfl, rfl, rfl, rfl, rfl, rfl, rfl, rfl, trivial⟩ ?_
    exact wma_pair_119 h l2 l3 l4 l6 l8 s0 v9 v10 t W
  refine j_runA hx 1 (tb := [(115, .iconst 1)]) (jtb_ok (by decide +kernel)) (pc' := 116) (lv' := [(12, vI v10), (11, vI v9), (10, vI s0), (0, vR t), (1, vI a1), (2, vI l2), (3, vI l3), (4, vL l4), (6, vL l6), (8, vL l8)]) (st' := [vI (kI 1), vR t]) rfl ?_
  refine j_goto hx (off := 4) (by decide +kernel) (tgt := 120) (by decide) ?_
  refine j_lv (lv' := [(0, vR t), (1, vI a1), (2, vI l2), (3, vI l3), (4, vL l4), (6, vL l6), (8, vL l8), (10, vI s0), (11, vI v9), (12, vI v10)]) ⟨rfl, rfl, rfl, rfl, rfl, rfl, rfl, rfl, rfl, rfl, trivial⟩ ?_
  exact wma_pair_120 h l2 l3 l4 l6 l8 s0 v9 v10 (kI 1) t W
theorem wma_pair_48 {x : jCx} {en : ((Nat × jW) ⊕ jW) → Option (Outcome × jW)} {t : Nat} {a1 : Int32} (h : hma_pair x en t a1) (l2 : Int32) (l3 : Int32) (l4 : Int64) (l6 : Int64) (s0 : Int64) (W : jW) : jJ x 15 48 [(0, vR t), (1, vI a1), (2, vI l2), (3, vI l3), (4, vL l4), (6, vL l6)] [vL s0] W (fma_pair_48 t a1 l2 l3 l4 l6 s0 W) en := by
  have h0 := h
  obtain ⟨hx, hm, hr, he, ht⟩ := h0
  unfold fma_pair_48
  refine j_runA hx 7 (tb := [(48, .lstore 8), (50, .iload_n 1), (51, .bipush 22), (53, .ishr), (54, .iconst 1), (55, .iand), (56, .iconst 1)]) (jtb_ok (by decide +kernel)) (pc' := 57) (lv' := [(8, vL s0), (0, vR t), (1, vI a1), (2, vI l2), (3, vI l3), (4, vL l4), (6, vL l6)]) (st' := [vI (kI 1), vI ((ixr a1 (kI 22)) &&& (kI 1))]) rfl ?_
  refine j_icmp_ne hx (off := 7) (tgt := 64) (by decide +kernel) (by decide) (fun _ => ?_) (fun _ => ?_)
  · refine j_runA hx 1 (tb := [(64, .iconst 0)]) (jtb_ok (by decide +kernel)) (pc' := 65) (lv' := [(8, vL s0), (0, vR t), (1, vI a1), (2, vI l2), (3, vI l3), (4, vL l4), (6, vL l6)]) (st' := [vI (kI 0)]) rfl ?_
    refine j_lv (lv' := [(0, vR t), (1, vI a1), (2, vI l2), (3, vI l3), (4, vL l4), (6, vL l6), (8, vL s0)]) ⟨rfl, rfl, rfl, rfl, rfl, rfl, rfl, trivial⟩ ?_
    exact wma_pair_65 h l2 l3 l4 l6 s0 (kI 0) W
  refine j_runA hx 1 (tb := [(60, .iconst 1)]) (jtb_ok (by decide +kernel)) (pc' := 61) (lv' := [(8, vL s0), (0, vR t), (1, vI a1), (2, vI l2), (3, vI l3), (4, vL l4), (6, vL l6)]) (st' := [vI (kI 1)]) rfl ?_
  refine j_goto hx (off := 4) (by decide +kernel) (tgt := 65) (by decide) ?_
  refine j_lv (lv' := [(0, vR t), (1, vI a1), (2, vI l2), (3, vI l3), (4, vL l4), (6, vL l6), (8, vL s0)]) ⟨rfl, rfl, rfl, rfl, rfl, rfl, rfl, trivial⟩ ?_
  exact wma_pair_65 h l2 l3 l4 l6 s0 (kI 1) W
theorem wma_pair {x : jCx} {en : ((Nat × jW) ⊕ jW) → Option (Outcome × jW)} {t : Nat} {a1 : Int32} (h : hma_pair x en t a1) (W : jW) : jJ x 15 0 [(0, vR t), (1, vI a1)] [] W (fma_pair t a1 W) en := by
  have h0 := h
  obtain ⟨hx, hm, hr, he, ht⟩ := h0
  unfold fma_pair
  refine j_runA hx 6 (tb := [(0, .iload_n 1), (1, .bipush 23), (3, .ishr), (4, .iconst 3), (5, .iand), (6, .istore_n 2)]) (jtb_ok (by decide +kernel)) (pc' := 7) (lv' := [(2, vI ((ixr a1 (kI 23)) &&& (kI 3))), (0, vR t), (1, vI a1)]) (st' := []) rfl ?_
  refine j_let (v := ((ixr a1 (kI 23)) &&& (kI 3))) (lv := fun v1 => [(2, vI v1), (0, vR t), (1, vI a1)]) (st := fun _ => []) (fun v1 => ?_)
  refine j_runA hx 1 (tb := [(7, .iload_n 1)]) (jtb_ok (by decide +kernel)) (pc' := 8) (lv' := [(2, vI v1), (0, vR t), (1, vI a1)]) (st' := [vI a1]) rfl ?_
  refine j_TI (j_callS (av := [vI a1]) (st := []) hx hr (Or.inl q2073) q998 q247 md_fwo_n np_fwo_n (cwo_n a1 W) (by decide) (Nat.le_of_ble_eq_true rfl) (by decide +kernel)) ?_
  refine j_runA hx 1 (tb := [(11, .istore_n 3)]) (jtb_ok (by decide +kernel)) (pc' := 12) (lv' := [(3, vI (fwo_n a1)), (2, vI v1), (0, vR t), (1, vI a1)]) (st' := []) rfl ?_
  refine j_let (v := (fwo_n a1)) (lv := fun v2 => [(3, vI v2), (2, vI v1), (0, vR t), (1, vI a1)]) (st := fun _ => []) (fun v2 => ?_)
  refine j_ldc2 hx (v := (kJ 8)) (jkd2 q2169 (by decide +kernel)) (by decide +kernel) ?_
  refine j_runA hx 8 (tb := [(15, .iload_n 1), (16, .bipush 10), (18, .ishl), (19, .bipush 25), (21, .ishr), (22, .i2l), (23, .lmul), (24, .lstore 4)]) (jtb_ok (by decide +kernel)) (pc' := 26) (lv' := [(4, vL ((kJ 8) * ((ixr (ixl a1 (kI 10)) (kI 25)).toInt64))), (3, vI v2), (2, vI v1), (0, vR t), (1, vI a1)]) (st' := []) rfl ?_
  refine j_let (v := ((kJ 8) * ((ixr (ixl a1 (kI 10)) (kI 25)).toInt64))) (lv := fun v3 => [(4, vL v3), (3, vI v2), (2, vI v1), (0, vR t), (1, vI a1)]) (st := fun _ => []) (fun v3 => ?_)
  refine j_runA hx 2 (tb := [(26, .aload_n 0), (27, .iload_n 3)]) (jtb_ok (by decide +kernel)) (pc' := 28) (lv' := [(4, vL v3), (3, vI v2), (2, vI v1), (0, vR t), (1, vI a1)]) (st' := [vI v2, vR t]) rfl ?_
  refine j_gd (fun h4 => ?_)
  refine j_EL (j_callV (av := [vI v2]) (st := []) hx hr (Or.inl q2085) q2087 qs88 rfl md_fma_base np_fma_base (cma_base t v2 W) (by decide) (Nat.le_of_ble_eq_true rfl) h4 (by decide) (by decide +kernel)) (fun z _ r h9 => j_upE hm hx (ht z) h9) (fun q5 _ => ?_)
  refine j_runA hx 3 (tb := [(31, .lstore 6), (33, .iload_n 2), (34, .iconst 1)]) (jtb_ok (by decide +kernel)) (pc' := 35) (lv' := [(6, vL q5.1), (4, vL v3), (3, vI v2), (2, vI v1), (0, vR t), (1, vI a1)]) (st' := [vI (kI 1), vI v1]) rfl ?_
  refine j_icmp_ne hx (off := 8) (tgt := 43) (by decide +kernel) (by decide) (fun _ => ?_) (fun _ => ?_)
  · refine j_runA hx 3 (tb := [(43, .lload 6), (45, .lload 4), (47, .ladd)]) (jtb_ok (by decide +kernel)) (pc' := 48) (lv' := [(6, vL q5.1), (4, vL v3), (3, vI v2), (2, vI v1), (0, vR t), (1, vI a1)]) (st' := [vL (q5.1 + v3)]) rfl ?_
    refine j_lv (lv' := [(0, vR t), (1, vI a1), (2, vI v1), (3, vI v2), (4, vL v3), (6, vL q5.1)]) ⟨rfl, rfl, rfl, rfl, rfl, rfl, trivial⟩ ?_
    exact wma_pair_48 h v1 v2 v3 q5.1 (q5.1 + v3) q5.2
  refine j_runA hx 1 (tb := [(38, .lload 6)]) (jtb_ok (by decide +kernel)) (pc' := 40) (lv' := [(6, vL q5.1), (4, vL v3), (3, vI v2), (2, vI v1), (0, vR t), (1, vI a1)]) (st' := [vL q5.1]) rfl ?_
  refine j_goto hx (off := 8) (by decide +kernel) (tgt := 48) (by decide) ?_
  refine j_lv (lv' := [(0, vR t), (1, vI a1), (2, vI v1), (3, vI v2), (4, vL v3), (6, vL q5.1)]) ⟨rfl, rfl, rfl, rfl, rfl, rfl, trivial⟩ ?_
  exact wma_pair_48 h v1 v2 v3 q5.1 q5.1 q5.2
theorem cma_pair (t : Nat) (a1 : Int32) (W : jW) : jM yX15_pair cX15_pair 15 (Option.none : Option Jvm.ClassFile.FieldType) [] 7 117 [vR t, vI a1] W ((fma_pair t a1 W).bind (fun q => some (Sum.elim (fun z => (.threw (z.1 - 1), z.2)) (fun q => (.returned none, q)) q))) := 
  jM.of (Nat.le_of_ble_eq_true rfl) (fun x hx hm hr => wma_pair ⟨hx, hm, hr, fun _ => rfl, fun _ => rfl⟩ W)
def hma_host (x : jCx) (en : (fma_host_S ⊕ ((Nat × jW) ⊕ jW)) → Option (Outcome × jW)) (t : Nat) : Prop :=
  jOK x RX15 cX15_host 13 ∧
  jMt x "host" (Option.none : Option Jvm.ClassFile.FieldType) [] ∧
  jRm x 6 99 ∧
  (∀ q : jW, en (.inr (.inr q)) = some (.returned none, q)) ∧
  (∀ z : Nat × jW, en (.inr (.inl z)) = some (.threw (z.1 - 1), z.2)) ∧
  (∀ (l1 : Int64) (l5 : Int64) (l7 : Int64) (l9 : Int32) (l10 : Int32) (l11 : Int32) (l12 : Int32) (W : jW), jJ x 13 252 [(0, vR t), (1, vL l1), (5, vL l5), (7, vL l7), (9, vI l9), (10, vI l10), (11, vI l11), (12, vI l12)] [] W (some (.inl (l1, l5, l7, l9, l10, l11, l12, W))) en)
theorem wma_host_293 {x : jCx} {en : (fma_host_S ⊕ ((Nat × jW) ⊕ jW)) → Option (Outcome × jW)} {t : Nat} (h : hma_host x en t) (l1 : Int64) (l5 : Int64) (l7 : Int64) (l9 : Int32) (l10 : Int32) (l11 : Int32) (l12 : Int32) (W : jW) : jJ x 13 293 [(0, vR t), (1, vL l1), (5, vL l5), (7, vL l7), (9, vI l9), (10, vI l10), (11, vI l11), (12, vI l12)] [] W (fma_host_293 t l1 l5 l7 l9 l10 l11 l12 W) en := by
  have h0 := h
  obtain ⟨hx, hm, hr, he, ht, k252⟩ := h0
  unfold fma_host_293
  refine j_runA hx 2 (tb := [(293, .aload_n 0), (294, .dup)]) (jtb_ok (by decide +kernel)) (pc' := 295) (lv' := [(0, vR t), (1, vL l1), (5, vL l5), (7, vL l7), (9, vI l9), (10, vI l10), (11, vI l11), (12, vI l12)]) (st' := [vR t, vR t]) rfl ?_
  refine j_gd (fun h77 => ?_)
  refine j_getI hx flX15_108 kd1018 h77 (by decide) (by decide +kernel) ?_
  refine j_runA hx 2 (tb := [(298, .iconst 1), (299, .iadd)]) (jtb_ok (by decide +kernel)) (pc' := 300) (lv' := [(0, vR t), (1, vL l1), (5, vL l5), (7, vL l7), (9, vI l9), (10, vI l10), (11, vI l11), (12, vI l12)]) (st' := [vI ((jI W 1018 t) + (kI 1)), vR t]) rfl ?_
  refine j_putI hx fwX15_108 wf1018 kd1018 h77 (by decide) (by decide +kernel) (ni1018 _) (fi1018 _) ?_
  refine j_ltw rfl (fun W78 hc79 => ?_)
  have h80 : jC W78 t = 10 := (congrFun hc79 _).trans h77
  refine j_runA hx 1 (tb := [(303, .iinc 12 1)]) (jtb_ok (by decide +kernel)) (pc' := 306) (lv' := [(12, vI (l12 + (kI 1))), (0, vR t), (1, vL l1), (5, vL l5), (7, vL l7), (9, vI l9), (10, vI l10), (11, vI l11)]) (st' := []) rfl ?_
  refine j_let (v := (l12 + (kI 1))) (lv := fun v82 => [(12, vI v82), (0, vR t), (1, vL l1), (5, vL l5), (7, vL l7), (9, vI l9), (10, vI l10), (11, vI l11)]) (st := fun _ => []) (fun v82 => ?_)
  refine j_goto hx (off := -54) (by decide +kernel) (tgt := 252) (by decide) ?_
  refine j_lv (lv' := [(0, vR t), (1, vL l1), (5, vL l5), (7, vL l7), (9, vI l9), (10, vI l10), (11, vI l11), (12, vI v82)]) ⟨rfl, rfl, rfl, rfl, rfl, rfl, rfl, rfl, trivial⟩ ?_
  exact k252 l1 l5 l7 l9 l10 l11 v82 W78
theorem wma_host_340 {x : jCx} {en : (fma_host_S ⊕ ((Nat × jW) ⊕ jW)) → Option (Outcome × jW)} {t : Nat} (h : hma_host x en t) (s0 : Int64) (s1 : Int32) (s2 : Nat) (W : jW) : jJ x 13 340 [(0, vR t)] [vL s0, vI s1, vR s2] W (fma_host_340 t s0 s1 s2 W) en := by
  have h0 := h
  obtain ⟨hx, hm, hr, he, ht, k252⟩ := h0
  unfold fma_host_340
  refine j_runA hx 1 (tb := [(340, .iconst 1)]) (jtb_ok (by decide +kernel)) (pc' := 341) (lv' := [(0, vR t)]) (st' := [vI (kI 1), vL s0, vI s1, vR s2]) rfl ?_
  refine j_gd (fun h84 => ?_)
  refine j_WV (j_callV (av := [vI s1, vL s0, vI (kI 1)]) (st := []) hx hr (Or.inl q2095) q2097 qs90 rfl md_fma_put np_fma_put (cma_put s2 s1 s0 (kI 1) W) (by decide) (Nat.le_of_ble_eq_true rfl) h84 (by decide) (by decide +kernel)) (fun q85 _ => ?_)
  exact j_vret hx hm (by decide +kernel) (he _)
theorem wma_host_252 {x : jCx} {en : (fma_host_S ⊕ ((Nat × jW) ⊕ jW)) → Option (Outcome × jW)} {t : Nat} (h : hma_host x en t) (l1 : Int64) (l5 : Int64) (l7 : Int64) (l9 : Int32) (l10 : Int32) (l11 : Int32) (l12 : Int32) (W : jW) : jJ x 13 252 [(0, vR t), (1, vL l1), (5, vL l5), (7, vL l7), (9, vI l9), (10, vI l10), (11, vI l11), (12, vI l12)] [] W (fma_host_252 t l1 l5 l7 l9 l10 l11 l12 W) en := by
  have h0 := h
  obtain ⟨hx, hm, hr, he, ht, k252⟩ := h0
  unfold fma_host_252
  refine j_runA hx 2 (tb := [(252, .iload 12), (254, .iload 10)]) (jtb_ok (by decide +kernel)) (pc' := 256) (lv' := [(0, vR t), (1, vL l1), (5, vL l5), (7, vL l7), (9, vI l9), (10, vI l10), (11, vI l11), (12, vI l12)]) (st' := [vI l10, vI l12]) rfl ?_
  refine j_icmp_ge hx (off := 53) (tgt := 309) (by decide +kernel) (by decide) (fun _ => ?_) (fun _ => ?_)
  · refine j_runA hx 1 (tb := [(309, .lload_n 1)]) (jtb_ok (by decide +kernel)) (pc' := 310) (lv' := [(0, vR t), (1, vL l1), (5, vL l5), (7, vL l7), (9, vI l9), (10, vI l10), (11, vI l11), (12, vI l12)]) (st' := [vL l1]) rfl ?_
    refine j_ldc2 hx (v := (kJ 93)) (jkd2 q2239 (by decide +kernel)) (by decide +kernel) ?_
    refine j_lcmp_ne hx (off := 11) (tgt := 325) (by decide +kernel) (by decide +kernel) (by decide) (fun _ => ?_) (fun _ => ?_)
    · refine j_runA hx 3 (tb := [(325, .aload_n 0), (326, .iconst 0), (327, .iload 9)]) (jtb_ok (by decide +kernel)) (pc' := 329) (lv' := [(0, vR t), (1, vL l1), (5, vL l5), (7, vL l7), (9, vI l9), (10, vI l10), (11, vI l11), (12, vI l12)]) (st' := [vI l9, vI (kI 0), vR t]) rfl ?_
      refine j_if_eq hx (off := 8) (tgt := 337) (by decide +kernel) (by decide) (fun _ => ?_) (fun _ => ?_)
      · refine j_ldc2 hx (v := (kJ (-38))) (jkd2 q2240 (by decide +kernel)) (by decide +kernel) ?_
        refine j_lv (lv' := [(0, vR t)]) ⟨rfl, trivial⟩ ?_
        exact wma_host_340 h (kJ (-38)) (kI 0) t W
      refine j_runA hx 1 (tb := [(332, .lload 7)]) (jtb_ok (by decide +kernel)) (pc' := 334) (lv' := [(0, vR t), (1, vL l1), (5, vL l5), (7, vL l7), (9, vI l9), (10, vI l10), (11, vI l11), (12, vI l12)]) (st' := [vL l7, vI (kI 0), vR t]) rfl ?_
      refine j_goto hx (off := 6) (by decide +kernel) (tgt := 340) (by decide) ?_
      refine j_lv (lv' := [(0, vR t)]) ⟨rfl, trivial⟩ ?_
      exact wma_host_340 h l7 (kI 0) t W
    refine j_runA hx 2 (tb := [(317, .aload_n 0), (318, .iconst 1)]) (jtb_ok (by decide +kernel)) (pc' := 319) (lv' := [(0, vR t), (1, vL l1), (5, vL l5), (7, vL l7), (9, vI l9), (10, vI l10), (11, vI l11), (12, vI l12)]) (st' := [vI (kI 1), vR t]) rfl ?_
    refine j_gd (fun h64 => ?_)
    refine j_putI hx fwX15_137 wf1019 kd1019 h64 (by decide) (by decide +kernel) (ni1019 _) (fi1019 _) ?_
    refine j_ltw rfl (fun W65 hc66 => ?_)
    have h67 : jC W65 t = 10 := (congrFun hc66 _).trans h64
    refine j_goto hx (off := 22) (by decide +kernel) (tgt := 344) (by decide) ?_
    exact j_vret hx hm (by decide +kernel) (he _)
  refine j_runA hx 1 (tb := [(259, .aload_n 0)]) (jtb_ok (by decide +kernel)) (pc' := 260) (lv' := [(0, vR t), (1, vL l1), (5, vL l5), (7, vL l7), (9, vI l9), (10, vI l10), (11, vI l11), (12, vI l12)]) (st' := [vR t]) rfl ?_
  refine j_gd (fun h69 => ?_)
  refine j_getI hx flX15_108 kd1018 h69 (by decide) (by decide +kernel) ?_
  refine j_runA hx 1 (tb := [(263, .sipush 16384)]) (jtb_ok (by decide +kernel)) (pc' := 266) (lv' := [(0, vR t), (1, vL l1), (5, vL l5), (7, vL l7), (9, vI l9), (10, vI l10), (11, vI l11), (12, vI l12)]) (st' := [vI (kI 16384), vI (jI W 1018 t)]) rfl ?_
  refine j_icmp_ge hx (off := 27) (tgt := 293) (by decide +kernel) (by decide) (fun _ => ?_) (fun _ => ?_)
  · exact wma_host_293 h l1 l5 l7 l9 l10 l11 l12 W
  refine j_runA hx 1 (tb := [(269, .aload_n 0)]) (jtb_ok (by decide +kernel)) (pc' := 270) (lv' := [(0, vR t), (1, vL l1), (5, vL l5), (7, vL l7), (9, vI l9), (10, vI l10), (11, vI l11), (12, vI l12)]) (st' := [vR t]) rfl ?_
  refine j_getR hx flX15_35 kl1022 h69 (by decide) (by decide +kernel) ?_
  refine j_runA hx 1 (tb := [(273, .aload_n 0)]) (jtb_ok (by decide +kernel)) (pc' := 274) (lv' := [(0, vR t), (1, vL l1), (5, vL l5), (7, vL l7), (9, vI l9), (10, vI l10), (11, vI l11), (12, vI l12)]) (st' := [vR t, vR (jR W 1022 t)]) rfl ?_
  refine j_getI hx flX15_108 kd1018 h69 (by decide) (by decide +kernel) ?_
  refine j_runA hx 7 (tb := [(277, .aload_n 0), (278, .iload 11), (280, .lload 5), (282, .iload 12), (284, .i2l), (285, .ladd), (286, .iconst 1)]) (jtb_ok (by decide +kernel)) (pc' := 287) (lv' := [(0, vR t), (1, vL l1), (5, vL l5), (7, vL l7), (9, vI l9), (10, vI l10), (11, vI l11), (12, vI l12)]) (st' := [vI (kI 1), vL (l5 + l12.toInt64), vI l11, vR t, vI (jI W 1018 t), vR (jR W 1022 t)]) rfl ?_
  refine j_OL (j_callV (av := [vI l11, vL (l5 + l12.toInt64), vI (kI 1)]) (st := [vI (jI W 1018 t), vR (jR W 1022 t)]) hx hr (Or.inl q2209) q2211 qs110 rfl md_fma_loaded np_fma_loaded (cma_loaded t l11 (l5 + l12.toInt64) (kI 1) W) (by decide) (Nat.le_of_ble_eq_true rfl) h69 (by decide) (by decide +kernel)) (fun q70 _ => ?_)
  refine j_runA hx 2 (tb := [(290, .l2i), (291, .i2b)]) (jtb_ok (by decide +kernel)) (pc' := 292) (lv' := [(0, vR t), (1, vL l1), (5, vL l5), (7, vL l7), (9, vI l9), (10, vI l10), (11, vI l11), (12, vI l12)]) (st' := [vI (i2b q70.toInt32), vI (jI W 1018 t), vR (jR W 1022 t)]) rfl ?_
  refine j_gd (fun h71 => ?_)
  refine j_bast hx (f := 1022) (o := t) kd1022 rfl (by decide +kernel) h71 ?_
  refine j_ltw rfl (fun W72 hc73 => ?_)
  have h74 : jC W72 t = 10 := (congrFun hc73 _).trans h69
  exact wma_host_293 h l1 l5 l7 l9 l10 l11 l12 W72
theorem wma_host_239 {x : jCx} {en : (fma_host_S ⊕ ((Nat × jW) ⊕ jW)) → Option (Outcome × jW)} {t : Nat} (h : hma_host x en t) (l1 : Int64) (l5 : Int64) (l7 : Int64) (l9 : Int32) (l10 : Int32) (l11 : Int32) (W : jW) : jJ x 13 239 [(0, vR t), (1, vL l1), (5, vL l5), (7, vL l7), (9, vI l9), (10, vI l10), (11, vI l11)] [] W (fma_host_239 t l1 l5 l7 l9 l10 l11 W) en := by
  have h0 := h
  obtain ⟨hx, hm, hr, he, ht, k252⟩ := h0
  unfold fma_host_239
  refine j_runA hx 2 (tb := [(239, .aload_n 0), (240, .dup)]) (jtb_ok (by decide +kernel)) (pc' := 241) (lv' := [(0, vR t), (1, vL l1), (5, vL l5), (7, vL l7), (9, vI l9), (10, vI l10), (11, vI l11)]) (st' := [vR t, vR t]) rfl ?_
  refine j_gd (fun h58 => ?_)
  refine j_getI hx flX15_105 kd1017 h58 (by decide) (by decide +kernel) ?_
  refine j_runA hx 2 (tb := [(244, .iconst 1), (245, .iadd)]) (jtb_ok (by decide +kernel)) (pc' := 246) (lv' := [(0, vR t), (1, vL l1), (5, vL l5), (7, vL l7), (9, vI l9), (10, vI l10), (11, vI l11)]) (st' := [vI ((jI W 1017 t) + (kI 1)), vR t]) rfl ?_
  refine j_putI hx fwX15_105 wf1017 kd1017 h58 (by decide) (by decide +kernel) (ni1017 _) (fi1017 _) ?_
  refine j_ltw rfl (fun W59 hc60 => ?_)
  have h61 : jC W59 t = 10 := (congrFun hc60 _).trans h58
  refine j_runA hx 2 (tb := [(249, .iconst 0), (250, .istore 12)]) (jtb_ok (by decide +kernel)) (pc' := 252) (lv' := [(12, vI (kI 0)), (0, vR t), (1, vL l1), (5, vL l5), (7, vL l7), (9, vI l9), (10, vI l10), (11, vI l11)]) (st' := []) rfl ?_
  refine j_lv (lv' := [(0, vR t), (1, vL l1), (5, vL l5), (7, vL l7), (9, vI l9), (10, vI l10), (11, vI l11), (12, vI (kI 0))]) ⟨rfl, rfl, rfl, rfl, rfl, rfl, rfl, rfl, trivial⟩ ?_
  exact k252 l1 l5 l7 l9 l10 l11 (kI 0) W59
theorem wma_host_173 {x : jCx} {en : (fma_host_S ⊕ ((Nat × jW) ⊕ jW)) → Option (Outcome × jW)} {t : Nat} (h : hma_host x en t) (l1 : Int64) (l3 : Int64) (l5 : Int64) (l7 : Int64) (l9 : Int32) (l10 : Int32) (l11 : Int32) (W : jW) : jJ x 13 173 [(0, vR t), (1, vL l1), (3, vL l3), (5, vL l5), (7, vL l7), (9, vI l9), (10, vI l10), (11, vI l11)] [] W (fma_host_173 t l1 l3 l5 l7 l9 l10 l11 W) en := by
  have h0 := h
  obtain ⟨hx, hm, hr, he, ht, k252⟩ := h0
  unfold fma_host_173
  refine j_runA hx 1 (tb := [(173, .aload_n 0)]) (jtb_ok (by decide +kernel)) (pc' := 174) (lv' := [(0, vR t), (1, vL l1), (3, vL l3), (5, vL l5), (7, vL l7), (9, vI l9), (10, vI l10), (11, vI l11)]) (st' := [vR t]) rfl ?_
  refine j_gd (fun h36 => ?_)
  refine j_getI hx flX15_105 kd1017 h36 (by decide) (by decide +kernel) ?_
  refine j_runA hx 1 (tb := [(177, .sipush 200)]) (jtb_ok (by decide +kernel)) (pc' := 180) (lv' := [(0, vR t), (1, vL l1), (3, vL l3), (5, vL l5), (7, vL l7), (9, vI l9), (10, vI l10), (11, vI l11)]) (st' := [vI (kI 200), vI (jI W 1017 t)]) rfl ?_
  refine j_icmp_ge hx (off := 59) (tgt := 239) (by decide +kernel) (by decide) (fun _ => ?_) (fun _ => ?_)
  · refine j_lv (lv' := [(0, vR t), (1, vL l1), (5, vL l5), (7, vL l7), (9, vI l9), (10, vI l10), (11, vI l11)]) ⟨rfl, rfl, rfl, rfl, rfl, rfl, rfl, trivial⟩ ?_
    exact wma_host_239 h l1 l5 l7 l9 l10 l11 W
  refine j_runA hx 1 (tb := [(183, .aload_n 0)]) (jtb_ok (by decide +kernel)) (pc' := 184) (lv' := [(0, vR t), (1, vL l1), (3, vL l3), (5, vL l5), (7, vL l7), (9, vI l9), (10, vI l10), (11, vI l11)]) (st' := [vR t]) rfl ?_
  refine j_getR hx flX15_32 kl1021 h36 (by decide) (by decide +kernel) ?_
  refine j_runA hx 2 (tb := [(187, .iconst 4), (188, .aload_n 0)]) (jtb_ok (by decide +kernel)) (pc' := 189) (lv' := [(0, vR t), (1, vL l1), (3, vL l3), (5, vL l5), (7, vL l7), (9, vI l9), (10, vI l10), (11, vI l11)]) (st' := [vR t, vI (kI 4), vR (jR W 1021 t)]) rfl ?_
  refine j_getI hx flX15_105 kd1017 h36 (by decide) (by decide +kernel) ?_
  refine j_runA hx 2 (tb := [(192, .imul), (193, .lload_n 1)]) (jtb_ok (by decide +kernel)) (pc' := 194) (lv' := [(0, vR t), (1, vL l1), (3, vL l3), (5, vL l5), (7, vL l7), (9, vI l9), (10, vI l10), (11, vI l11)]) (st' := [vL l1, vI ((kI 4) * (jI W 1017 t)), vR (jR W 1021 t)]) rfl ?_
  refine j_gd (fun h37 => ?_)
  refine j_last hx (f := 1021) (o := t) kd1021 rfl (by decide +kernel) h37 ?_
  refine j_ltw rfl (fun W38 hc39 => ?_)
  have h40 : jC W38 t = 10 := (congrFun hc39 _).trans h36
  refine j_runA hx 1 (tb := [(195, .aload_n 0)]) (jtb_ok (by decide +kernel)) (pc' := 196) (lv' := [(0, vR t), (1, vL l1), (3, vL l3), (5, vL l5), (7, vL l7), (9, vI l9), (10, vI l10), (11, vI l11)]) (st' := [vR t]) rfl ?_
  refine j_getR hx flX15_32 kl1021 h40 (by decide) (by decide +kernel) ?_
  refine j_runA hx 2 (tb := [(199, .iconst 4), (200, .aload_n 0)]) (jtb_ok (by decide +kernel)) (pc' := 201) (lv' := [(0, vR t), (1, vL l1), (3, vL l3), (5, vL l5), (7, vL l7), (9, vI l9), (10, vI l10), (11, vI l11)]) (st' := [vR t, vI (kI 4), vR (jR W38 1021 t)]) rfl ?_
  refine j_getI hx flX15_105 kd1017 h40 (by decide) (by decide +kernel) ?_
  refine j_runA hx 4 (tb := [(204, .imul), (205, .iconst 1), (206, .iadd), (207, .lload_n 3)]) (jtb_ok (by decide +kernel)) (pc' := 208) (lv' := [(0, vR t), (1, vL l1), (3, vL l3), (5, vL l5), (7, vL l7), (9, vI l9), (10, vI l10), (11, vI l11)]) (st' := [vL l3, vI (((kI 4) * (jI W38 1017 t)) + (kI 1)), vR (jR W38 1021 t)]) rfl ?_
  refine j_gd (fun h42 => ?_)
  refine j_last hx (f := 1021) (o := t) kd1021 rfl (by decide +kernel) h42 ?_
  refine j_ltw rfl (fun W43 hc44 => ?_)
  have h45 : jC W43 t = 10 := (congrFun hc44 _).trans h40
  refine j_runA hx 1 (tb := [(209, .aload_n 0)]) (jtb_ok (by decide +kernel)) (pc' := 210) (lv' := [(0, vR t), (1, vL l1), (3, vL l3), (5, vL l5), (7, vL l7), (9, vI l9), (10, vI l10), (11, vI l11)]) (st' := [vR t]) rfl ?_
  refine j_getR hx flX15_32 kl1021 h45 (by decide) (by decide +kernel) ?_
  refine j_runA hx 2 (tb := [(213, .iconst 4), (214, .aload_n 0)]) (jtb_ok (by decide +kernel)) (pc' := 215) (lv' := [(0, vR t), (1, vL l1), (3, vL l3), (5, vL l5), (7, vL l7), (9, vI l9), (10, vI l10), (11, vI l11)]) (st' := [vR t, vI (kI 4), vR (jR W43 1021 t)]) rfl ?_
  refine j_getI hx flX15_105 kd1017 h45 (by decide) (by decide +kernel) ?_
  refine j_runA hx 4 (tb := [(218, .imul), (219, .iconst 2), (220, .iadd), (221, .lload 5)]) (jtb_ok (by decide +kernel)) (pc' := 223) (lv' := [(0, vR t), (1, vL l1), (3, vL l3), (5, vL l5), (7, vL l7), (9, vI l9), (10, vI l10), (11, vI l11)]) (st' := [vL l5, vI (((kI 4) * (jI W43 1017 t)) + (kI 2)), vR (jR W43 1021 t)]) rfl ?_
  refine j_gd (fun h47 => ?_)
  refine j_last hx (f := 1021) (o := t) kd1021 rfl (by decide +kernel) h47 ?_
  refine j_ltw rfl (fun W48 hc49 => ?_)
  have h50 : jC W48 t = 10 := (congrFun hc49 _).trans h45
  refine j_runA hx 1 (tb := [(224, .aload_n 0)]) (jtb_ok (by decide +kernel)) (pc' := 225) (lv' := [(0, vR t), (1, vL l1), (3, vL l3), (5, vL l5), (7, vL l7), (9, vI l9), (10, vI l10), (11, vI l11)]) (st' := [vR t]) rfl ?_
  refine j_getR hx flX15_32 kl1021 h50 (by decide) (by decide +kernel) ?_
  refine j_runA hx 2 (tb := [(228, .iconst 4), (229, .aload_n 0)]) (jtb_ok (by decide +kernel)) (pc' := 230) (lv' := [(0, vR t), (1, vL l1), (3, vL l3), (5, vL l5), (7, vL l7), (9, vI l9), (10, vI l10), (11, vI l11)]) (st' := [vR t, vI (kI 4), vR (jR W48 1021 t)]) rfl ?_
  refine j_getI hx flX15_105 kd1017 h50 (by decide) (by decide +kernel) ?_
  refine j_runA hx 4 (tb := [(233, .imul), (234, .iconst 3), (235, .iadd), (236, .lload 7)]) (jtb_ok (by decide +kernel)) (pc' := 238) (lv' := [(0, vR t), (1, vL l1), (3, vL l3), (5, vL l5), (7, vL l7), (9, vI l9), (10, vI l10), (11, vI l11)]) (st' := [vL l7, vI (((kI 4) * (jI W48 1017 t)) + (kI 3)), vR (jR W48 1021 t)]) rfl ?_
  refine j_gd (fun h52 => ?_)
  refine j_last hx (f := 1021) (o := t) kd1021 rfl (by decide +kernel) h52 ?_
  refine j_ltw rfl (fun W53 hc54 => ?_)
  have h55 : jC W53 t = 10 := (congrFun hc54 _).trans h50
  refine j_lv (lv' := [(0, vR t), (1, vL l1), (5, vL l5), (7, vL l7), (9, vI l9), (10, vI l10), (11, vI l11)]) ⟨rfl, rfl, rfl, rfl, rfl, rfl, rfl, trivial⟩ ?_
  exact wma_host_239 h l1 l5 l7 l9 l10 l11 W53
theorem wma_host_111 {x : jCx} {en : (fma_host_S ⊕ ((Nat × jW) ⊕ jW)) → Option (Outcome × jW)} {t : Nat} (h : hma_host x en t) (l1 : Int64) (l3 : Int64) (l5 : Int64) (l7 : Int64) (l9 : Int32) (l10 : Int32) (s0 : Int32) (s1 : Nat) (W : jW) : jJ x 13 111 [(0, vR t), (1, vL l1), (3, vL l3), (5, vL l5), (7, vL l7), (9, vI l9), (10, vI l10)] [vI s0, vR s1] W (fma_host_111 t l1 l3 l5 l7 l9 l10 s0 s1 W) en := by
  have h0 := h
  obtain ⟨hx, hm, hr, he, ht, k252⟩ := h0
  unfold fma_host_111
  refine j_gd (fun h20 => ?_)
  refine j_EV (j_callV (av := [vI s0]) (st := []) hx hr (Or.inl q2074) q2076 qs86 rfl md_fma_must np_fma_must (cma_must s1 s0 W) (by decide) (Nat.le_of_ble_eq_true rfl) h20 (by decide) (by decide +kernel)) (fun z _ r h9 => j_upE hm hx (ht z) h9) (fun q21 _ => ?_)
  refine j_runA hx 1 (tb := [(114, .aload_n 0)]) (jtb_ok (by decide +kernel)) (pc' := 115) (lv' := [(0, vR t), (1, vL l1), (3, vL l3), (5, vL l5), (7, vL l7), (9, vI l9), (10, vI l10)]) (st' := [vR t]) rfl ?_
  refine j_gd (fun h23 => ?_)
  refine j_getR hx flX15_60 kl1005 h23 (by decide) (by decide +kernel) ?_
  refine j_runA hx 2 (tb := [(118, .lload 5), (120, .iload 10)]) (jtb_ok (by decide +kernel)) (pc' := 122) (lv' := [(0, vR t), (1, vL l1), (3, vL l3), (5, vL l5), (7, vL l7), (9, vI l9), (10, vI l10)]) (st' := [vI l10, vL l5, vR (jR q21 1005 t)]) rfl ?_
  refine j_gd (fun h24 => ?_)
  refine j_OI (j_callV (av := [vL l5, vI l10]) (st := []) hx hr (Or.inl q2012) q2013 q2014 rfl md_fme_regionOf np_fme_regionOf (cme_regionOf (jR q21 1005 t) l5 l10 q21) (by decide) (Nat.le_of_ble_eq_true rfl) h24 (by decide) (by decide +kernel)) (fun q25 _ => ?_)
  refine j_runA hx 3 (tb := [(125, .istore 11), (127, .lload 5), (129, .aload_n 0)]) (jtb_ok (by decide +kernel)) (pc' := 130) (lv' := [(11, vI q25), (0, vR t), (1, vL l1), (3, vL l3), (5, vL l5), (7, vL l7), (9, vI l9), (10, vI l10)]) (st' := [vR t, vL l5]) rfl ?_
  refine j_OL (j_callV (av := []) (st := [vL l5]) hx hr (Or.inl q2039) q2041 qs80 rfl md_fma_begin np_fma_begin (cma_begin t q21) (by decide) (Nat.le_of_ble_eq_true rfl) h23 (by decide) (by decide +kernel)) (fun q26 _ => ?_)
  refine j_runA hx 1 (tb := [(133, .aload_n 0)]) (jtb_ok (by decide +kernel)) (pc' := 134) (lv' := [(11, vI q25), (0, vR t), (1, vL l1), (3, vL l3), (5, vL l5), (7, vL l7), (9, vI l9), (10, vI l10)]) (st' := [vR t, vL q26, vL l5]) rfl ?_
  refine j_OL (j_callV (av := []) (st := [vL q26, vL l5]) hx hr (Or.inl q2039) q2041 qs80 rfl md_fma_begin np_fma_begin (cma_begin t q21) (by decide) (Nat.le_of_ble_eq_true rfl) h23 (by decide) (by decide +kernel)) (fun q27 _ => ?_)
  refine j_runA hx 1 (tb := [(137, .aload_n 0)]) (jtb_ok (by decide +kernel)) (pc' := 138) (lv' := [(11, vI q25), (0, vR t), (1, vL l1), (3, vL l3), (5, vL l5), (7, vL l7), (9, vI l9), (10, vI l10)]) (st' := [vR t, vL q27, vL q26, vL l5]) rfl ?_
  refine j_OI (j_callV (av := []) (st := [vL q27, vL q26, vL l5]) hx hr (Or.inl q2044) q2046 qs81 rfl md_fma_bytes np_fma_bytes (cma_bytes t q21) (by decide) (Nat.le_of_ble_eq_true rfl) h23 (by decide) (by decide +kernel)) (fun q28 _ => ?_)
  refine j_runA hx 7 (tb := [(141, .i2l), (142, .ladd), (143, .iload 10), (145, .i2l), (146, .lsub), (147, .lconst 1), (148, .ladd)]) (jtb_ok (by decide +kernel)) (pc' := 149) (lv' := [(11, vI q25), (0, vR t), (1, vL l1), (3, vL l3), (5, vL l5), (7, vL l7), (9, vI l9), (10, vI l10)]) (st' := [vL (((q27 + q28.toInt64) - l10.toInt64) + (kJ 1)), vL q26, vL l5]) rfl ?_
  refine j_TI (j_callS (av := [vL l5, vL q26, vL (((q27 + q28.toInt64) - l10.toInt64) + (kJ 1))]) (st := []) hx hr (Or.inr ⟨_, q2048⟩) q872 q226 md_fcl_isIn np_fcl_isIn (ccl_isIn l5 q26 (((q27 + q28.toInt64) - l10.toInt64) + (kJ 1)) q21) (by decide) (Nat.le_of_ble_eq_true rfl) (by decide +kernel)) ?_
  refine j_runA hx 1 (tb := [(152, .istore 12)]) (jtb_ok (by decide +kernel)) (pc' := 154) (lv' := [(12, vI (fcl_isIn l5 q26 (((q27 + q28.toInt64) - l10.toInt64) + (kJ 1)))), (11, vI q25), (0, vR t), (1, vL l1), (3, vL l3), (5, vL l5), (7, vL l7), (9, vI l9), (10, vI l10)]) (st' := []) rfl ?_
  refine j_let (v := (fcl_isIn l5 q26 (((q27 + q28.toInt64) - l10.toInt64) + (kJ 1)))) (lv := fun v29 => [(12, vI v29), (11, vI q25), (0, vR t), (1, vL l1), (3, vL l3), (5, vL l5), (7, vL l7), (9, vI l9), (10, vI l10)]) (st := fun _ => []) (fun v29 => ?_)
  refine j_runA hx 1 (tb := [(154, .iload 11)]) (jtb_ok (by decide +kernel)) (pc' := 156) (lv' := [(12, vI v29), (11, vI q25), (0, vR t), (1, vL l1), (3, vL l3), (5, vL l5), (7, vL l7), (9, vI l9), (10, vI l10)]) (st' := [vI q25]) rfl ?_
  refine j_if_ge hx (off := 17) (tgt := 173) (by decide +kernel) (by decide) (fun _ => ?_) (fun _ => ?_)
  · refine j_lv (lv' := [(0, vR t), (1, vL l1), (3, vL l3), (5, vL l5), (7, vL l7), (9, vI l9), (10, vI l10), (11, vI q25)]) ⟨rfl, rfl, rfl, rfl, rfl, rfl, rfl, rfl, trivial⟩ ?_
    exact wma_host_173 h l1 l3 l5 l7 l9 l10 q25 q21
  refine j_runA hx 1 (tb := [(159, .iload 12)]) (jtb_ok (by decide +kernel)) (pc' := 161) (lv' := [(12, vI v29), (11, vI q25), (0, vR t), (1, vL l1), (3, vL l3), (5, vL l5), (7, vL l7), (9, vI l9), (10, vI l10)]) (st' := [vI v29]) rfl ?_
  refine j_if_ne hx (off := 12) (tgt := 173) (by decide +kernel) (by decide) (fun _ => ?_) (fun _ => ?_)
  · refine j_lv (lv' := [(0, vR t), (1, vL l1), (3, vL l3), (5, vL l5), (7, vL l7), (9, vI l9), (10, vI l10), (11, vI q25)]) ⟨rfl, rfl, rfl, rfl, rfl, rfl, rfl, rfl, trivial⟩ ?_
    exact wma_host_173 h l1 l3 l5 l7 l9 l10 q25 q21
  refine j_runA hx 1 (tb := [(164, .aload_n 0)]) (jtb_ok (by decide +kernel)) (pc' := 165) (lv' := [(12, vI v29), (11, vI q25), (0, vR t), (1, vL l1), (3, vL l3), (5, vL l5), (7, vL l7), (9, vI l9), (10, vI l10)]) (st' := [vR t]) rfl ?_
  refine j_getR hx flX15_12 kl1004 h23 (by decide) (by decide +kernel) ?_
  refine j_runA hx 1 (tb := [(168, .iconst 2)]) (jtb_ok (by decide +kernel)) (pc' := 169) (lv' := [(12, vI v29), (11, vI q25), (0, vR t), (1, vL l1), (3, vL l3), (5, vL l5), (7, vL l7), (9, vI l9), (10, vI l10)]) (st' := [vI (kI 2), vR (jR q21 1004 t)]) rfl ?_
  refine j_gd (fun h30 => ?_)
  refine j_WR (j_callV (av := [vI (kI 2)]) (st := []) hx hr (Or.inl q2063) q2064 q2065 rfl md_fha_by np_fha_by (cha_by (jR q21 1004 t) (kI 2) q21) (by decide) (Nat.le_of_ble_eq_true rfl) h30 (by decide) (by decide +kernel)) (fun q31 _ => ?_)
  refine j_gd (fun h33 => ?_)
  exact j_athrow hx hm (by decide +kernel) h33 (ht _)
theorem wma_host_110 {x : jCx} {en : (fma_host_S ⊕ ((Nat × jW) ⊕ jW)) → Option (Outcome × jW)} {t : Nat} (h : hma_host x en t) (l1 : Int64) (l3 : Int64) (l5 : Int64) (l7 : Int64) (l9 : Int32) (l10 : Int32) (s0 : Nat) (W : jW) : jJ x 13 110 [(0, vR t), (1, vL l1), (3, vL l3), (5, vL l5), (7, vL l7), (9, vI l9), (10, vI l10)] [vR s0] W (fma_host_110 t l1 l3 l5 l7 l9 l10 s0 W) en := by
  have h0 := h
  obtain ⟨hx, hm, hr, he, ht, k252⟩ := h0
  unfold fma_host_110
  refine j_runA hx 1 (tb := [(110, .iconst 0)]) (jtb_ok (by decide +kernel)) (pc' := 111) (lv' := [(0, vR t), (1, vL l1), (3, vL l3), (5, vL l5), (7, vL l7), (9, vI l9), (10, vI l10)]) (st' := [vI (kI 0), vR s0]) rfl ?_
  exact wma_host_111 h l1 l3 l5 l7 l9 l10 (kI 0) s0 W
theorem wma_host_70 {x : jCx} {en : (fma_host_S ⊕ ((Nat × jW) ⊕ jW)) → Option (Outcome × jW)} {t : Nat} (h : hma_host x en t) (l1 : Int64) (l3 : Int64) (l5 : Int64) (l7 : Int64) (l9 : Int32) (s0 : Int32) (W : jW) : jJ x 13 70 [(0, vR t), (1, vL l1), (3, vL l3), (5, vL l5), (7, vL l7), (9, vI l9)] [vI s0] W (fma_host_70 t l1 l3 l5 l7 l9 s0 W) en := by
  have h0 := h
  obtain ⟨hx, hm, hr, he, ht, k252⟩ := h0
  unfold fma_host_70
  refine j_runA hx 4 (tb := [(70, .istore 10), (72, .iconst (-1)), (73, .istore 11), (75, .iload 10)]) (jtb_ok (by decide +kernel)) (pc' := 77) (lv' := [(11, vI (kI (-1))), (10, vI s0), (0, vR t), (1, vL l1), (3, vL l3), (5, vL l5), (7, vL l7), (9, vI l9)]) (st' := [vI s0]) rfl ?_
  refine j_if_le hx (off := 96) (tgt := 173) (by decide +kernel) (by decide) (fun _ => ?_) (fun _ => ?_)
  · refine j_lv (lv' := [(0, vR t), (1, vL l1), (3, vL l3), (5, vL l5), (7, vL l7), (9, vI l9), (10, vI s0), (11, vI (kI (-1)))]) ⟨rfl, rfl, rfl, rfl, rfl, rfl, rfl, rfl, trivial⟩ ?_
    exact wma_host_173 h l1 l3 l5 l7 l9 s0 (kI (-1)) W
  refine j_runA hx 4 (tb := [(80, .aload_n 0), (81, .aload_n 0), (82, .lload 5), (84, .iload 10)]) (jtb_ok (by decide +kernel)) (pc' := 86) (lv' := [(11, vI (kI (-1))), (10, vI s0), (0, vR t), (1, vL l1), (3, vL l3), (5, vL l5), (7, vL l7), (9, vI l9)]) (st' := [vI s0, vL l5, vR t, vR t]) rfl ?_
  refine j_gd (fun h15 => ?_)
  refine j_OI (j_callV (av := [vL l5, vI s0]) (st := [vR t]) hx hr (Or.inl q2174) q2176 qs106 rfl md_fma_isInTexts np_fma_isInTexts (cma_isInTexts t l5 s0 W) (by decide) (Nat.le_of_ble_eq_true rfl) h15 (by decide) (by decide +kernel)) (fun q16 _ => ?_)
  refine j_if_ne hx (off := 21) (tgt := 110) (by decide +kernel) (by decide) (fun _ => ?_) (fun _ => ?_)
  · refine j_lv (lv' := [(0, vR t), (1, vL l1), (3, vL l3), (5, vL l5), (7, vL l7), (9, vI l9), (10, vI s0)]) ⟨rfl, rfl, rfl, rfl, rfl, rfl, rfl, trivial⟩ ?_
    exact wma_host_110 h l1 l3 l5 l7 l9 s0 t W
  refine j_runA hx 1 (tb := [(92, .aload_n 0)]) (jtb_ok (by decide +kernel)) (pc' := 93) (lv' := [(11, vI (kI (-1))), (10, vI s0), (0, vR t), (1, vL l1), (3, vL l3), (5, vL l5), (7, vL l7), (9, vI l9)]) (st' := [vR t, vR t]) rfl ?_
  refine j_getR hx flX15_60 kl1005 h15 (by decide) (by decide +kernel) ?_
  refine j_runA hx 2 (tb := [(96, .lload 5), (98, .iload 10)]) (jtb_ok (by decide +kernel)) (pc' := 100) (lv' := [(11, vI (kI (-1))), (10, vI s0), (0, vR t), (1, vL l1), (3, vL l3), (5, vL l5), (7, vL l7), (9, vI l9)]) (st' := [vI s0, vL l5, vR (jR W 1005 t), vR t]) rfl ?_
  refine j_gd (fun h17 => ?_)
  refine j_OI (j_callV (av := [vL l5, vI s0]) (st := [vR t]) hx hr (Or.inl q2179) q2180 q2181 rfl md_fme_hasCode np_fme_hasCode (cme_hasCode (jR W 1005 t) l5 s0 W) (by decide) (Nat.le_of_ble_eq_true rfl) h17 (by decide) (by decide +kernel)) (fun q18 _ => ?_)
  refine j_if_ne hx (off := 7) (tgt := 110) (by decide +kernel) (by decide) (fun _ => ?_) (fun _ => ?_)
  · refine j_lv (lv' := [(0, vR t), (1, vL l1), (3, vL l3), (5, vL l5), (7, vL l7), (9, vI l9), (10, vI s0)]) ⟨rfl, rfl, rfl, rfl, rfl, rfl, rfl, trivial⟩ ?_
    exact wma_host_110 h l1 l3 l5 l7 l9 s0 t W
  refine j_runA hx 1 (tb := [(106, .iconst 1)]) (jtb_ok (by decide +kernel)) (pc' := 107) (lv' := [(11, vI (kI (-1))), (10, vI s0), (0, vR t), (1, vL l1), (3, vL l3), (5, vL l5), (7, vL l7), (9, vI l9)]) (st' := [vI (kI 1), vR t]) rfl ?_
  refine j_goto hx (off := 4) (by decide +kernel) (tgt := 111) (by decide) ?_
  refine j_lv (lv' := [(0, vR t), (1, vL l1), (3, vL l3), (5, vL l5), (7, vL l7), (9, vI l9), (10, vI s0)]) ⟨rfl, rfl, rfl, rfl, rfl, rfl, rfl, trivial⟩ ?_
  exact wma_host_111 h l1 l3 l5 l7 l9 s0 (kI 1) t W
theorem wma_host_56 {x : jCx} {en : (fma_host_S ⊕ ((Nat × jW) ⊕ jW)) → Option (Outcome × jW)} {t : Nat} (h : hma_host x en t) (l1 : Int64) (l3 : Int64) (l5 : Int64) (l7 : Int64) (s0 : Int32) (W : jW) : jJ x 13 56 [(0, vR t), (1, vL l1), (3, vL l3), (5, vL l5), (7, vL l7)] [vI s0] W (fma_host_56 t l1 l3 l5 l7 s0 W) en := by
  have h0 := h
  obtain ⟨hx, hm, hr, he, ht, k252⟩ := h0
  unfold fma_host_56
  refine j_runA hx 2 (tb := [(56, .istore 9), (58, .iload 9)]) (jtb_ok (by decide +kernel)) (pc' := 60) (lv' := [(9, vI s0), (0, vR t), (1, vL l1), (3, vL l3), (5, vL l5), (7, vL l7)]) (st' := [vI s0]) rfl ?_
  refine j_if_eq hx (off := 9) (tgt := 69) (by decide +kernel) (by decide) (fun _ => ?_) (fun _ => ?_)
  · refine j_runA hx 1 (tb := [(69, .iconst 0)]) (jtb_ok (by decide +kernel)) (pc' := 70) (lv' := [(9, vI s0), (0, vR t), (1, vL l1), (3, vL l3), (5, vL l5), (7, vL l7)]) (st' := [vI (kI 0)]) rfl ?_
    refine j_lv (lv' := [(0, vR t), (1, vL l1), (3, vL l3), (5, vL l5), (7, vL l7), (9, vI s0)]) ⟨rfl, rfl, rfl, rfl, rfl, rfl, trivial⟩ ?_
    exact wma_host_70 h l1 l3 l5 l7 s0 (kI 0) W
  refine j_runA hx 2 (tb := [(63, .lload 7), (65, .l2i)]) (jtb_ok (by decide +kernel)) (pc' := 66) (lv' := [(9, vI s0), (0, vR t), (1, vL l1), (3, vL l3), (5, vL l5), (7, vL l7)]) (st' := [vI l7.toInt32]) rfl ?_
  refine j_goto hx (off := 4) (by decide +kernel) (tgt := 70) (by decide) ?_
  refine j_lv (lv' := [(0, vR t), (1, vL l1), (3, vL l3), (5, vL l5), (7, vL l7), (9, vI s0)]) ⟨rfl, rfl, rfl, rfl, rfl, rfl, trivial⟩ ?_
  exact wma_host_70 h l1 l3 l5 l7 s0 l7.toInt32 W
theorem wma_host_55 {x : jCx} {en : (fma_host_S ⊕ ((Nat × jW) ⊕ jW)) → Option (Outcome × jW)} {t : Nat} (h : hma_host x en t) (l1 : Int64) (l3 : Int64) (l5 : Int64) (l7 : Int64) (W : jW) : jJ x 13 55 [(0, vR t), (1, vL l1), (3, vL l3), (5, vL l5), (7, vL l7)] [] W (fma_host_55 t l1 l3 l5 l7 W) en := by
  have h0 := h
  obtain ⟨hx, hm, hr, he, ht, k252⟩ := h0
  unfold fma_host_55
  refine j_runA hx 1 (tb := [(55, .iconst 0)]) (jtb_ok (by decide +kernel)) (pc' := 56) (lv' := [(0, vR t), (1, vL l1), (3, vL l3), (5, vL l5), (7, vL l7)]) (st' := [vI (kI 0)]) rfl ?_
  exact wma_host_56 h l1 l3 l5 l7 (kI 0) W
theorem wma_host {x : jCx} {en : (fma_host_S ⊕ ((Nat × jW) ⊕ jW)) → Option (Outcome × jW)} {t : Nat} (h : hma_host x en t) (W : jW) : jJ x 13 0 [(0, vR t)] [] W (fma_host_0 t W) en := by
  have h0 := h
  obtain ⟨hx, hm, hr, he, ht, k252⟩ := h0
  unfold fma_host_0
  refine j_runA hx 2 (tb := [(0, .aload_n 0), (1, .bipush 8)]) (jtb_ok (by decide +kernel)) (pc' := 3) (lv' := [(0, vR t)]) (st' := [vI (kI 8), vR t]) rfl ?_
  refine j_gd (fun h1 => ?_)
  refine j_EL (j_callV (av := [vI (kI 8)]) (st := []) hx hr (Or.inl q2114) q2116 qs94 rfl md_fma_number np_fma_number (cma_number t (kI 8) W) (by decide) (Nat.le_of_ble_eq_true rfl) h1 (by decide) (by decide +kernel)) (fun z _ r h9 => j_upE hm hx (ht z) h9) (fun q2 _ => ?_)
  refine j_runA hx 3 (tb := [(6, .lstore_n 1), (7, .aload_n 0), (8, .iconst 0)]) (jtb_ok (by decide +kernel)) (pc' := 9) (lv' := [(1, vL q2.1), (0, vR t)]) (st' := [vI (kI 0), vR t]) rfl ?_
  refine j_gd (fun h4 => ?_)
  refine j_EL (j_callV (av := [vI (kI 0)]) (st := []) hx hr (Or.inl q2114) q2116 qs94 rfl md_fma_number np_fma_number (cma_number t (kI 0) q2.2) (by decide) (Nat.le_of_ble_eq_true rfl) h4 (by decide) (by decide +kernel)) (fun z _ r h9 => j_upE hm hx (ht z) h9) (fun q5 _ => ?_)
  refine j_runA hx 3 (tb := [(12, .lstore_n 3), (13, .aload_n 0), (14, .iconst 1)]) (jtb_ok (by decide +kernel)) (pc' := 15) (lv' := [(3, vL q5.1), (1, vL q2.1), (0, vR t)]) (st' := [vI (kI 1), vR t]) rfl ?_
  refine j_gd (fun h7 => ?_)
  refine j_EL (j_callV (av := [vI (kI 1)]) (st := []) hx hr (Or.inl q2114) q2116 qs94 rfl md_fma_number np_fma_number (cma_number t (kI 1) q5.2) (by decide) (Nat.le_of_ble_eq_true rfl) h7 (by decide) (by decide +kernel)) (fun z _ r h9 => j_upE hm hx (ht z) h9) (fun q8 _ => ?_)
  refine j_runA hx 3 (tb := [(18, .lstore 5), (20, .aload_n 0), (21, .iconst 2)]) (jtb_ok (by decide +kernel)) (pc' := 22) (lv' := [(5, vL q8.1), (3, vL q5.1), (1, vL q2.1), (0, vR t)]) (st' := [vI (kI 2), vR t]) rfl ?_
  refine j_gd (fun h10 => ?_)
  refine j_EL (j_callV (av := [vI (kI 2)]) (st := []) hx hr (Or.inl q2114) q2116 qs94 rfl md_fma_number np_fma_number (cma_number t (kI 2) q8.2) (by decide) (Nat.le_of_ble_eq_true rfl) h10 (by decide) (by decide +kernel)) (fun z _ r h9 => j_upE hm hx (ht z) h9) (fun q11 _ => ?_)
  refine j_runA hx 2 (tb := [(25, .lstore 7), (27, .lload_n 1)]) (jtb_ok (by decide +kernel)) (pc' := 28) (lv' := [(7, vL q11.1), (5, vL q8.1), (3, vL q5.1), (1, vL q2.1), (0, vR t)]) (st' := [vL q2.1]) rfl ?_
  refine j_ldc2 hx (v := (kJ 64)) (jkd2 q2237 (by decide +kernel)) (by decide +kernel) ?_
  refine j_lcmp_ne hx (off := 23) (tgt := 55) (by decide +kernel) (by decide +kernel) (by decide) (fun _ => ?_) (fun _ => ?_)
  · refine j_lv (lv' := [(0, vR t), (1, vL q2.1), (3, vL q5.1), (5, vL q8.1), (7, vL q11.1)]) ⟨rfl, rfl, rfl, rfl, rfl, trivial⟩ ?_
    exact wma_host_55 h q2.1 q5.1 q8.1 q11.1 q11.2
  refine j_runA hx 2 (tb := [(35, .lload 7), (37, .lconst 0)]) (jtb_ok (by decide +kernel)) (pc' := 38) (lv' := [(7, vL q11.1), (5, vL q8.1), (3, vL q5.1), (1, vL q2.1), (0, vR t)]) (st' := [vL (kJ 0), vL q11.1]) rfl ?_
  refine j_lcmp_lt hx (off := 16) (tgt := 55) (by decide +kernel) (by decide +kernel) (by decide) (fun _ => ?_) (fun _ => ?_)
  · refine j_lv (lv' := [(0, vR t), (1, vL q2.1), (3, vL q5.1), (5, vL q8.1), (7, vL q11.1)]) ⟨rfl, rfl, rfl, rfl, rfl, trivial⟩ ?_
    exact wma_host_55 h q2.1 q5.1 q8.1 q11.1 q11.2
  refine j_runA hx 1 (tb := [(42, .lload 7)]) (jtb_ok (by decide +kernel)) (pc' := 44) (lv' := [(7, vL q11.1), (5, vL q8.1), (3, vL q5.1), (1, vL q2.1), (0, vR t)]) (st' := [vL q11.1]) rfl ?_
  refine j_ldc2 hx (v := (kJ 4096)) (jkd2 q2238 (by decide +kernel)) (by decide +kernel) ?_
  refine j_lcmp_gt hx (off := 7) (tgt := 55) (by decide +kernel) (by decide +kernel) (by decide) (fun _ => ?_) (fun _ => ?_)
  · refine j_lv (lv' := [(0, vR t), (1, vL q2.1), (3, vL q5.1), (5, vL q8.1), (7, vL q11.1)]) ⟨rfl, rfl, rfl, rfl, rfl, trivial⟩ ?_
    exact wma_host_55 h q2.1 q5.1 q8.1 q11.1 q11.2
  refine j_runA hx 1 (tb := [(51, .iconst 1)]) (jtb_ok (by decide +kernel)) (pc' := 52) (lv' := [(7, vL q11.1), (5, vL q8.1), (3, vL q5.1), (1, vL q2.1), (0, vR t)]) (st' := [vI (kI 1)]) rfl ?_
  refine j_goto hx (off := 4) (by decide +kernel) (tgt := 56) (by decide) ?_
  refine j_lv (lv' := [(0, vR t), (1, vL q2.1), (3, vL q5.1), (5, vL q8.1), (7, vL q11.1)]) ⟨rfl, rfl, rfl, rfl, rfl, trivial⟩ ?_
  exact wma_host_56 h q2.1 q5.1 q8.1 q11.1 (kI 1) q11.2
theorem cma_host (t : Nat) (W : jW) : jM yX15_host cX15_host 13 (Option.none : Option Jvm.ClassFile.FieldType) [] 6 99 [vR t] W ((fma_host t W).bind (fun q => some (Sum.elim (fun z => (.threw (z.1 - 1), z.2)) (fun q => (.returned none, q)) q))) := by
  refine jM.of (Nat.le_of_ble_eq_true rfl) (fun x hx hm hr => ?_)
  refine j_begin (P := (fun s => (252, [(0, vR t), (1, vL s.1), (5, vL s.2.1), (7, vL s.2.2.1), (9, vI s.2.2.2.1), (10, vI s.2.2.2.2.1), (11, vI s.2.2.2.2.2.1), (12, vI s.2.2.2.2.2.2.1)], s.2.2.2.2.2.2.2))) (fun en he hk => ?_)
  have h : hma_host x en t := ⟨hx, hm, hr, fun q => he _, fun z => he _, fun l1 l5 l7 l9 l10 l11 l12 W => hk (l1, l5, l7, l9, l10, l11, l12, W)⟩
  exact ⟨fun s => wma_host_252 h s.1 s.2.1 s.2.2.1 s.2.2.2.1 s.2.2.2.2.1 s.2.2.2.2.2.1 s.2.2.2.2.2.2.1 s.2.2.2.2.2.2.2, wma_host h W⟩
def hma_link (x : jCx) (en : (jW) → Option (Outcome × jW)) (t : Nat) (a1 : Int32) : Prop :=
  jOK x RX15 cX15_link 2 ∧
  jMt x "link" (Option.none : Option Jvm.ClassFile.FieldType) [] ∧
  jRm x 1 17 ∧
  (∀ q : jW, en q = some (.returned none, q))
theorem wma_link_32 {x : jCx} {en : (jW) → Option (Outcome × jW)} {t : Nat} {a1 : Int32} (h : hma_link x en t a1) (s0 : Int32) (s1 : Int32) (s2 : Int64) (s3 : Int32) (s4 : Nat) (W : jW) : jJ x 2 32 [(0, vR t), (1, vI a1)] [vI s0, vI s1, vL s2, vI s3, vR s4] W (fma_link_32 t a1 s0 s1 s2 s3 s4 W) en := by
  have h0 := h
  obtain ⟨hx, hm, hr, he⟩ := h0
  unfold fma_link_32
  refine j_gd (fun h6 => ?_)
  refine j_WV (j_callV (av := [vI s3, vL s2, vI s1, vI s0]) (st := []) hx hr (Or.inl q2079) q2081 qs87 rfl md_fma_code np_fma_code (cma_code s4 s3 s2 s1 s0 W) (by decide) (Nat.le_of_ble_eq_true rfl) h6 (by decide) (by decide +kernel)) (fun q7 _ => ?_)
  exact j_vret hx hm (by decide +kernel) (he _)
theorem wma_link {x : jCx} {en : (jW) → Option (Outcome × jW)} {t : Nat} {a1 : Int32} (h : hma_link x en t a1) (W : jW) : jJ x 2 0 [(0, vR t), (1, vI a1)] [] W (fma_link t a1 W) en := by
  have h0 := h
  obtain ⟨hx, hm, hr, he⟩ := h0
  unfold fma_link
  refine j_runA hx 3 (tb := [(0, .aload_n 0), (1, .bipush 30), (3, .aload_n 0)]) (jtb_ok (by decide +kernel)) (pc' := 4) (lv' := [(0, vR t), (1, vI a1)]) (st' := [vR t, vI (kI 30), vR t]) rfl ?_
  refine j_gd (fun h1 => ?_)
  refine j_getL hx flX15_134 kd1014 h1 (by decide) (by decide +kernel) ?_
  refine j_ldc2 hx (v := (kJ 4)) (jkd2 q2049 (by decide +kernel)) (by decide +kernel) ?_
  refine j_runA hx 3 (tb := [(10, .ladd), (11, .iconst 2), (12, .aload_n 0)]) (jtb_ok (by decide +kernel)) (pc' := 13) (lv' := [(0, vR t), (1, vI a1)]) (st' := [vR t, vI (kI 2), vL ((jL W 1014 t) + (kJ 4)), vI (kI 30), vR t]) rfl ?_
  refine j_OI (j_callV (av := []) (st := [vI (kI 2), vL ((jL W 1014 t) + (kJ 4)), vI (kI 30), vR t]) hx hr (Or.inl q1978) q1980 qs72 rfl md_fma_isNew np_fma_isNew (cma_isNew t W) (by decide) (Nat.le_of_ble_eq_true rfl) h1 (by decide) (by decide +kernel)) (fun q2 _ => ?_)
  refine j_if_eq hx (off := 7) (tgt := 23) (by decide +kernel) (by decide) (fun _ => ?_) (fun _ => ?_)
  · refine j_runA hx 1 (tb := [(23, .aload_n 0)]) (jtb_ok (by decide +kernel)) (pc' := 24) (lv' := [(0, vR t), (1, vI a1)]) (st' := [vR t, vI (kI 2), vL ((jL W 1014 t) + (kJ 4)), vI (kI 30), vR t]) rfl ?_
    refine j_getR hx flX15_43 kl1001 h1 (by decide) (by decide +kernel) ?_
    refine j_gd (fun h3 => ?_)
    refine j_getR hx flX15_187 kl206 h3 (by decide) (by decide +kernel) ?_
    refine j_runA hx 1 (tb := [(30, .iload_n 1)]) (jtb_ok (by decide +kernel)) (pc' := 31) (lv' := [(0, vR t), (1, vI a1)]) (st' := [vI a1, vR (jR W 206 (jR W 1001 t)), vI (kI 2), vL ((jL W 1014 t) + (kJ 4)), vI (kI 30), vR t]) rfl ?_
    refine j_gd (fun h4 => ?_)
    refine j_iald hx (f := 206) (o := (jR W 1001 t)) kd206 rfl (by decide +kernel) h4 ?_
    exact wma_link_32 h (jA W 206 (jR W 1001 t) (ix a1)) (kI 2) ((jL W 1014 t) + (kJ 4)) (kI 30) t W
  refine j_runA hx 1 (tb := [(19, .iconst 0)]) (jtb_ok (by decide +kernel)) (pc' := 20) (lv' := [(0, vR t), (1, vI a1)]) (st' := [vI (kI 0), vI (kI 2), vL ((jL W 1014 t) + (kJ 4)), vI (kI 30), vR t]) rfl ?_
  refine j_goto hx (off := 12) (by decide +kernel) (tgt := 32) (by decide) ?_
  exact wma_link_32 h (kI 0) (kI 2) ((jL W 1014 t) + (kJ 4)) (kI 30) t W
theorem cma_link (t : Nat) (a1 : Int32) (W : jW) : jM yX15_link cX15_link 2 (Option.none : Option Jvm.ClassFile.FieldType) [] 1 17 [vR t, vI a1] W ((fma_link t a1 W).bind (fun q => some (.returned none, q))) := 
  jM.of (Nat.le_of_ble_eq_true rfl) (fun x hx hm hr => wma_link ⟨hx, hm, hr, fun _ => rfl⟩ W)
def hwr_behindEnd (x : jCx) (en : (Int64) → Option (Outcome × jW)) (t : Nat) (a1 : Int32) (W : jW) : Prop :=
  jOK x RX14 cX14_behindEnd 2 ∧
  jMt x "behindEnd" (Option.some Jvm.ClassFile.FieldType.long) [] ∧
  jRm x 3 39 ∧
  (∀ q : Int64, en q = some (.returned (some (.long q)), W))
theorem wwr_behindEnd {x : jCx} {en : (Int64) → Option (Outcome × jW)} {W : jW} {t : Nat} {a1 : Int32} (h : hwr_behindEnd x en t a1 W) : jJ x 2 0 [(0, vR t), (1, vI a1)] [] W (fwr_behindEnd t a1 W) en := by
  have h0 := h
  obtain ⟨hx, hm, hr, he⟩ := h0
  unfold fwr_behindEnd
  refine j_runA hx 2 (tb := [(0, .aload_n 0), (1, .iload_n 1)]) (jtb_ok (by decide +kernel)) (pc' := 2) (lv' := [(0, vR t), (1, vI a1)]) (st' := [vI a1, vR t]) rfl ?_
  refine j_gd (fun h1 => ?_)
  refine j_OL (j_callV (av := [vI a1]) (st := []) hx hr (Or.inl q1842) q1843 q1844 rfl md_fwr_addressOf np_fwr_addressOf (cwr_addressOf t a1 W) (by decide) (Nat.le_of_ble_eq_true rfl) h1 (by decide) (by decide +kernel)) (fun q2 _ => ?_)
  refine j_ldc2 hx (v := (kJ 4)) (jkd2 q1846 (by decide +kernel)) (by decide +kernel) ?_
  refine j_runA hx 1 (tb := [(8, .aload_n 0)]) (jtb_ok (by decide +kernel)) (pc' := 9) (lv' := [(0, vR t), (1, vI a1)]) (st' := [vR t, vL (kJ 4), vL q2]) rfl ?_
  refine j_getR hx flX14_30 kl900 h1 (by decide) (by decide +kernel) ?_
  refine j_runA hx 1 (tb := [(12, .iload_n 1)]) (jtb_ok (by decide +kernel)) (pc' := 13) (lv' := [(0, vR t), (1, vI a1)]) (st' := [vI a1, vR (jR W 900 t), vL (kJ 4), vL q2]) rfl ?_
  refine j_gd (fun h3 => ?_)
  refine j_OI (j_callV (av := [vI a1]) (st := [vL (kJ 4), vL q2]) hx hr (Or.inl q1793) q1133 q1134 rfl md_fpg_wordsOf np_fpg_wordsOf (cpg_wordsOf (jR W 900 t) a1 W) (by decide) (Nat.le_of_ble_eq_true rfl) h3 (by decide) (by decide +kernel)) (fun q4 _ => ?_)
  refine j_runA hx 3 (tb := [(16, .i2l), (17, .lmul), (18, .ladd)]) (jtb_ok (by decide +kernel)) (pc' := 19) (lv' := [(0, vR t), (1, vI a1)]) (st' := [vL (q2 + ((kJ 4) * q4.toInt64))]) rfl ?_
  exact j_lret hx hm (by decide +kernel) (he _)
theorem cwr_behindEnd (t : Nat) (a1 : Int32) (W : jW) : jM yX14_behindEnd cX14_behindEnd 2 (Option.some Jvm.ClassFile.FieldType.long) [] 3 39 [vR t, vI a1] W ((fwr_behindEnd t a1 W).bind (fun q => some (.returned (some (.long q)), W))) := 
  jM.of (Nat.le_of_ble_eq_true rfl) (fun x hx hm hr => wwr_behindEnd ⟨hx, hm, hr, fun _ => rfl⟩)
