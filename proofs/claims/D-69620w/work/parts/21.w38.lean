/-! ===== walks: fmo_weightOf fmo_rowWeight fmo_orderOne fmo_orderAll fmo_store fmo_isInHot fmo_newSize ===== -/
set_option maxRecDepth 100000
def hmo_weightOf (x : jCx) (en : (Int64) → Option (Outcome × jW)) (t : Nat) (a1 : Int32) (a2 : Int32) (W : jW) : Prop :=
  jOK x RX8 cX8_weightOf 3 ∧
  jMt x "weightOf" (Option.some Jvm.ClassFile.FieldType.long) [] ∧
  jRm x 2 27 ∧
  (∀ q : Int64, en q = some (.returned (some (.long q)), W))
theorem wmo_weightOf_36 {x : jCx} {en : (Int64) → Option (Outcome × jW)} {W : jW} {t : Nat} {a1 : Int32} {a2 : Int32} (h : hmo_weightOf x en t a1 a2 W) : jJ x 3 36 [(0, vR t), (1, vI a1), (2, vI a2)] [] W (fmo_weightOf_36 t a1 a2 W) en := by
  have h0 := h
  obtain ⟨hx, hm, hr, he⟩ := h0
  unfold fmo_weightOf_36
  refine j_runA hx 1 (tb := [(36, .lconst 0)]) (jtb_ok (by decide +kernel)) (pc' := 37) (lv' := [(0, vR t), (1, vI a1), (2, vI a2)]) (st' := [vL (kJ 0)]) rfl ?_
  exact j_lret hx hm (by decide +kernel) (he _)
theorem wmo_weightOf {x : jCx} {en : (Int64) → Option (Outcome × jW)} {W : jW} {t : Nat} {a1 : Int32} {a2 : Int32} (h : hmo_weightOf x en t a1 a2 W) : jJ x 3 0 [(0, vR t), (1, vI a1), (2, vI a2)] [] W (fmo_weightOf t a1 a2 W) en := by
  have h0 := h
  obtain ⟨hx, hm, hr, he⟩ := h0
  unfold fmo_weightOf
  refine j_runA hx 1 (tb := [(0, .aload_n 0)]) (jtb_ok (by decide +kernel)) (pc' := 1) (lv' := [(0, vR t), (1, vI a1), (2, vI a2)]) (st' := [vR t]) rfl ?_
  refine j_gd (fun h1 => ?_)
  refine j_getR hx flX8_90 kl1334 h1 (by decide) (by decide +kernel) ?_
  refine j_runA hx 1 (tb := [(4, .iload_n 1)]) (jtb_ok (by decide +kernel)) (pc' := 5) (lv' := [(0, vR t), (1, vI a1), (2, vI a2)]) (st' := [vI a1, vR (jR W 1334 t)]) rfl ?_
  refine j_gd (fun h2 => ?_)
  refine j_zald hx (f := 1334) (o := t) kd1334 rfl (by decide +kernel) h2 ?_
  refine j_if_eq hx (off := 30) (tgt := 36) (by decide +kernel) (by decide) (fun _ => ?_) (fun _ => ?_)
  · exact wmo_weightOf_36 h
  refine j_runA hx 1 (tb := [(9, .aload_n 0)]) (jtb_ok (by decide +kernel)) (pc' := 10) (lv' := [(0, vR t), (1, vI a1), (2, vI a2)]) (st' := [vR t]) rfl ?_
  refine j_getR hx flX8_90 kl1334 h1 (by decide) (by decide +kernel) ?_
  refine j_runA hx 1 (tb := [(13, .iload_n 2)]) (jtb_ok (by decide +kernel)) (pc' := 14) (lv' := [(0, vR t), (1, vI a1), (2, vI a2)]) (st' := [vI a2, vR (jR W 1334 t)]) rfl ?_
  refine j_gd (fun h3 => ?_)
  refine j_zald hx (f := 1334) (o := t) kd1334 rfl (by decide +kernel) h3 ?_
  refine j_if_eq hx (off := 21) (tgt := 36) (by decide +kernel) (by decide) (fun _ => ?_) (fun _ => ?_)
  · exact wmo_weightOf_36 h
  refine j_runA hx 3 (tb := [(18, .aload_n 0), (19, .iload_n 1), (20, .iload_n 2)]) (jtb_ok (by decide +kernel)) (pc' := 21) (lv' := [(0, vR t), (1, vI a1), (2, vI a2)]) (st' := [vI a2, vI a1, vR t]) rfl ?_
  refine j_OI (j_callV (av := [vI a1, vI a2]) (st := []) hx hr (Or.inl q3235) q3237 qs166 rfl md_fmo_falls np_fmo_falls (cmo_falls t a1 a2 W) (by decide) (Nat.le_of_ble_eq_true rfl) h1 (by decide) (by decide +kernel)) (fun q4 _ => ?_)
  refine j_if_eq hx (off := 12) (tgt := 36) (by decide +kernel) (by decide) (fun _ => ?_) (fun _ => ?_)
  · exact wmo_weightOf_36 h
  refine j_runA hx 3 (tb := [(27, .aload_n 0), (28, .iload_n 1), (29, .iload_n 2)]) (jtb_ok (by decide +kernel)) (pc' := 30) (lv' := [(0, vR t), (1, vI a1), (2, vI a2)]) (st' := [vI a2, vI a1, vR t]) rfl ?_
  refine j_OL (j_callV (av := [vI a1, vI a2]) (st := []) hx hr (Or.inl q3263) q3127 q3128 rfl md_fmo_way np_fmo_way (cmo_way t a1 a2 W) (by decide) (Nat.le_of_ble_eq_true rfl) h1 (by decide) (by decide +kernel)) (fun q5 _ => ?_)
  refine j_goto hx (off := 4) (by decide +kernel) (tgt := 37) (by decide) ?_
  exact j_lret hx hm (by decide +kernel) (he _)
theorem cmo_weightOf (t : Nat) (a1 : Int32) (a2 : Int32) (W : jW) : jM yX8_weightOf cX8_weightOf 3 (Option.some Jvm.ClassFile.FieldType.long) [] 2 27 [vR t, vI a1, vI a2] W ((fmo_weightOf t a1 a2 W).bind (fun q => some (.returned (some (.long q)), W))) := 
  jM.of (Nat.le_of_ble_eq_true rfl) (fun x hx hm hr => wmo_weightOf ⟨hx, hm, hr, fun _ => rfl⟩)
def hmo_rowWeight (x : jCx) (en : (fmo_rowWeight_S ⊕ (Int64)) → Option (Outcome × jW)) (t : Nat) (a1 : Nat) (a2 : Int32) (W : jW) : Prop :=
  jOK x RX8 cX8_rowWeight 6 ∧
  jMt x "rowWeight" (Option.some Jvm.ClassFile.FieldType.long) [] ∧
  jRm x 3 43 ∧
  (∀ q : Int64, en (.inr q) = some (.returned (some (.long q)), W)) ∧
  (∀ (l3 : Int64) (l5 : Int32), jJ x 6 5 [(0, vR t), (1, vR a1), (2, vI a2), (3, vL l3), (5, vI l5)] [] W (some (.inl (l3, l5))) en)
theorem wmo_rowWeight_5 {x : jCx} {en : (fmo_rowWeight_S ⊕ (Int64)) → Option (Outcome × jW)} {W : jW} {t : Nat} {a1 : Nat} {a2 : Int32} (h : hmo_rowWeight x en t a1 a2 W) (l3 : Int64) (l5 : Int32) : jJ x 6 5 [(0, vR t), (1, vR a1), (2, vI a2), (3, vL l3), (5, vI l5)] [] W (fmo_rowWeight_5 t a1 a2 l3 l5 W) en := by
  have h0 := h
  obtain ⟨hx, hm, hr, he, k5⟩ := h0
  unfold fmo_rowWeight_5
  refine j_runA hx 4 (tb := [(5, .iload 5), (7, .iconst 1), (8, .iadd), (9, .iload_n 2)]) (jtb_ok (by decide +kernel)) (pc' := 10) (lv' := [(0, vR t), (1, vR a1), (2, vI a2), (3, vL l3), (5, vI l5)]) (st' := [vI a2, vI (l5 + (kI 1))]) rfl ?_
  refine j_icmp_ge hx (off := 26) (tgt := 36) (by decide +kernel) (by decide) (fun _ => ?_) (fun _ => ?_)
  · refine j_runA hx 1 (tb := [(36, .lload_n 3)]) (jtb_ok (by decide +kernel)) (pc' := 37) (lv' := [(0, vR t), (1, vR a1), (2, vI a2), (3, vL l3), (5, vI l5)]) (st' := [vL l3]) rfl ?_
    exact j_lret hx hm (by decide +kernel) (he _)
  refine j_runA hx 4 (tb := [(13, .lload_n 3), (14, .aload_n 0), (15, .aload_n 1), (16, .iload 5)]) (jtb_ok (by decide +kernel)) (pc' := 18) (lv' := [(0, vR t), (1, vR a1), (2, vI a2), (3, vL l3), (5, vI l5)]) (st' := [vI l5, vR a1, vR t, vL l3]) rfl ?_
  refine j_gd (fun h2 => ?_)
  refine j_gd (fun h3 => ?_)
  refine j_iald hx (f := 9003) (o := a1) kd9003 h2 (by decide +kernel) h3 ?_
  refine j_runA hx 4 (tb := [(19, .aload_n 1), (20, .iload 5), (22, .iconst 1), (23, .iadd)]) (jtb_ok (by decide +kernel)) (pc' := 24) (lv' := [(0, vR t), (1, vR a1), (2, vI a2), (3, vL l3), (5, vI l5)]) (st' := [vI (l5 + (kI 1)), vR a1, vI (jA W 9003 a1 (ix l5)), vR t, vL l3]) rfl ?_
  refine j_gd (fun h4 => ?_)
  refine j_gd (fun h5 => ?_)
  refine j_iald hx (f := 9003) (o := a1) kd9003 h4 (by decide +kernel) h5 ?_
  refine j_gd (fun h6 => ?_)
  refine j_OL (j_callV (av := [vI (jA W 9003 a1 (ix l5)), vI (jA W 9003 a1 (ix (l5 + (kI 1))))]) (st := [vL l3]) hx hr (Or.inl q3259) q3261 qs172 rfl md_fmo_weightOf np_fmo_weightOf (cmo_weightOf t (jA W 9003 a1 (ix l5)) (jA W 9003 a1 (ix (l5 + (kI 1)))) W) (by decide) (Nat.le_of_ble_eq_true rfl) h6 (by decide) (by decide +kernel)) (fun q7 _ => ?_)
  refine j_runA hx 2 (tb := [(28, .ladd), (29, .lstore_n 3)]) (jtb_ok (by decide +kernel)) (pc' := 30) (lv' := [(3, vL (l3 + q7)), (0, vR t), (1, vR a1), (2, vI a2), (5, vI l5)]) (st' := []) rfl ?_
  refine j_let (v := (l3 + q7)) (lv := fun v8 => [(3, vL v8), (0, vR t), (1, vR a1), (2, vI a2), (5, vI l5)]) (st := fun _ => []) (fun v8 => ?_)
  refine j_runA hx 1 (tb := [(30, .iinc 5 1)]) (jtb_ok (by decide +kernel)) (pc' := 33) (lv' := [(5, vI (l5 + (kI 1))), (3, vL v8), (0, vR t), (1, vR a1), (2, vI a2)]) (st' := []) rfl ?_
  refine j_let (v := (l5 + (kI 1))) (lv := fun v9 => [(5, vI v9), (3, vL v8), (0, vR t), (1, vR a1), (2, vI a2)]) (st := fun _ => []) (fun v9 => ?_)
  refine j_goto hx (off := -28) (by decide +kernel) (tgt := 5) (by decide) ?_
  refine j_lv (lv' := [(0, vR t), (1, vR a1), (2, vI a2), (3, vL v8), (5, vI v9)]) ⟨rfl, rfl, rfl, rfl, rfl, trivial⟩ ?_
  exact k5 v8 v9
theorem wmo_rowWeight {x : jCx} {en : (fmo_rowWeight_S ⊕ (Int64)) → Option (Outcome × jW)} {W : jW} {t : Nat} {a1 : Nat} {a2 : Int32} (h : hmo_rowWeight x en t a1 a2 W) : jJ x 6 0 [(0, vR t), (1, vR a1), (2, vI a2)] [] W (fmo_rowWeight_0 t a1 a2 W) en := by
  have h0 := h
  obtain ⟨hx, hm, hr, he, k5⟩ := h0
  unfold fmo_rowWeight_0
  refine j_runA hx 4 (tb := [(0, .lconst 0), (1, .lstore_n 3), (2, .iconst 0), (3, .istore 5)]) (jtb_ok (by decide +kernel)) (pc' := 5) (lv' := [(5, vI (kI 0)), (3, vL (kJ 0)), (0, vR t), (1, vR a1), (2, vI a2)]) (st' := []) rfl ?_
  refine j_lv (lv' := [(0, vR t), (1, vR a1), (2, vI a2), (3, vL (kJ 0)), (5, vI (kI 0))]) ⟨rfl, rfl, rfl, rfl, rfl, trivial⟩ ?_
  exact k5 (kJ 0) (kI 0)
theorem cmo_rowWeight (t : Nat) (a1 : Nat) (a2 : Int32) (W : jW) : jM yX8_rowWeight cX8_rowWeight 6 (Option.some Jvm.ClassFile.FieldType.long) [] 3 43 [vR t, vR a1, vI a2] W ((fmo_rowWeight t a1 a2 W).bind (fun q => some (.returned (some (.long q)), W))) := by
  refine jM.of (Nat.le_of_ble_eq_true rfl) (fun x hx hm hr => ?_)
  refine j_begin (P := (fun s => (5, [(0, vR t), (1, vR a1), (2, vI a2), (3, vL s.1), (5, vI s.2)], W))) (fun en he hk => ?_)
  have h : hmo_rowWeight x en t a1 a2 W := ⟨hx, hm, hr, fun q => he _, fun l3 l5 => hk (l3, l5)⟩
  exact ⟨fun s => wmo_rowWeight_5 h s.1 s.2, wmo_rowWeight h⟩
def hmo_orderOne (x : jCx) (en : (fmo_orderOne_S ⊕ (Int32 × jW)) → Option (Outcome × jW)) (t : Nat) (a1 : Int32) (a2 : Int32) : Prop :=
  jOK x RX8 cX8_orderOne 15 ∧
  jMt x "orderOne" (Option.some Jvm.ClassFile.FieldType.int) [] ∧
  jRm x 4 60 ∧
  (∀ q : Int32 × jW, en (.inr q) = some (.returned (some (.int q.1)), q.2)) ∧
  (∀ (l3 : Int32) (l4 : Int32) (l5 : Int32) (l6 : Int32) (W : jW), jJ x 15 40 [(0, vR t), (1, vI a1), (2, vI a2), (3, vI l3), (4, vI l4), (5, vI l5), (6, vI l6)] [] W (some (.inl (.inl (l3, l4, l5, l6, W)))) en) ∧
  (∀ (l3 : Int32) (l4 : Int32) (l5 : Int32) (l6 : Int32) (W : jW), jJ x 15 142 [(0, vR t), (1, vI a1), (2, vI a2), (3, vI l3), (4, vI l4), (5, vI l5), (6, vI l6)] [] W (some (.inl (.inr (.inl (l3, l4, l5, l6, W))))) en) ∧
  (∀ (l3 : Int32) (l4 : Int32) (l5 : Int32) (l7 : Int64) (l9 : Int64) (l11 : Int32) (l12 : Int32) (W : jW), jJ x 15 212 [(0, vR t), (1, vI a1), (2, vI a2), (3, vI l3), (4, vI l4), (5, vI l5), (7, vL l7), (9, vL l9), (11, vI l11), (12, vI l12)] [] W (some (.inl (.inr (.inr (.inl (l3, l4, l5, l7, l9, l11, l12, W)))))) en) ∧
  (∀ (l4 : Int32) (l5 : Int32) (l12 : Int64) (l14 : Int32) (W : jW), jJ x 15 280 [(0, vR t), (1, vI a1), (2, vI a2), (4, vI l4), (5, vI l5), (12, vL l12), (14, vI l14)] [] W (some (.inl (.inr (.inr (.inr (l4, l5, l12, l14, W)))))) en)
theorem wmo_orderOne_94 {x : jCx} {en : (fmo_orderOne_S ⊕ (Int32 × jW)) → Option (Outcome × jW)} {t : Nat} {a1 : Int32} {a2 : Int32} (h : hmo_orderOne x en t a1 a2) (l3 : Int32) (l4 : Int32) (l5 : Int32) (l6 : Int32) (W : jW) : jJ x 15 94 [(0, vR t), (1, vI a1), (2, vI a2), (3, vI l3), (4, vI l4), (5, vI l5), (6, vI l6)] [] W (fmo_orderOne_94 t a1 a2 l3 l4 l5 l6 W) en := by
  have h0 := h
  obtain ⟨hx, hm, hr, he, k40, k142, k212, k280⟩ := h0
  unfold fmo_orderOne_94
  refine j_runA hx 1 (tb := [(94, .iinc 6 1)]) (jtb_ok (by decide +kernel)) (pc' := 97) (lv' := [(6, vI (l6 + (kI 1))), (0, vR t), (1, vI a1), (2, vI a2), (3, vI l3), (4, vI l4), (5, vI l5)]) (st' := []) rfl ?_
  refine j_let (v := (l6 + (kI 1))) (lv := fun v35 => [(6, vI v35), (0, vR t), (1, vI a1), (2, vI a2), (3, vI l3), (4, vI l4), (5, vI l5)]) (st := fun _ => []) (fun v35 => ?_)
  refine j_goto hx (off := -57) (by decide +kernel) (tgt := 40) (by decide) ?_
  refine j_lv (lv' := [(0, vR t), (1, vI a1), (2, vI a2), (3, vI l3), (4, vI l4), (5, vI l5), (6, vI v35)]) ⟨rfl, rfl, rfl, rfl, rfl, rfl, rfl, trivial⟩ ?_
  exact k40 l3 l4 l5 v35 W
theorem wmo_orderOne_249 {x : jCx} {en : (fmo_orderOne_S ⊕ (Int32 × jW)) → Option (Outcome × jW)} {t : Nat} {a1 : Int32} {a2 : Int32} (h : hmo_orderOne x en t a1 a2) (l3 : Int32) (l4 : Int32) (l5 : Int32) (l7 : Int64) (l9 : Int64) (l11 : Int32) (l12 : Int32) (s0 : Int32) (s1 : Int32) (s2 : Nat) (W : jW) : jJ x 15 249 [(0, vR t), (1, vI a1), (2, vI a2), (3, vI l3), (4, vI l4), (5, vI l5), (7, vL l7), (9, vL l9), (11, vI l11), (12, vI l12)] [vI s0, vI s1, vR s2] W (fmo_orderOne_249 t a1 a2 l3 l4 l5 l7 l9 l11 l12 s0 s1 s2 W) en := by
  have h0 := h
  obtain ⟨hx, hm, hr, he, k40, k142, k212, k280⟩ := h0
  unfold fmo_orderOne_249
  refine j_gd (fun h63 => ?_)
  refine j_gd (fun h64 => ?_)
  refine j_iast hx (f := 1338) (o := t) kd1338 h63 (by decide +kernel) h64 ?_
  refine j_ltw rfl (fun W65 hc66 => ?_)
  refine j_runA hx 1 (tb := [(250, .iinc 12 1)]) (jtb_ok (by decide +kernel)) (pc' := 253) (lv' := [(12, vI (l12 + (kI 1))), (0, vR t), (1, vI a1), (2, vI a2), (3, vI l3), (4, vI l4), (5, vI l5), (7, vL l7), (9, vL l9), (11, vI l11)]) (st' := []) rfl ?_
  refine j_let (v := (l12 + (kI 1))) (lv := fun v68 => [(12, vI v68), (0, vR t), (1, vI a1), (2, vI a2), (3, vI l3), (4, vI l4), (5, vI l5), (7, vL l7), (9, vL l9), (11, vI l11)]) (st := fun _ => []) (fun v68 => ?_)
  refine j_goto hx (off := -41) (by decide +kernel) (tgt := 212) (by decide) ?_
  refine j_lv (lv' := [(0, vR t), (1, vI a1), (2, vI a2), (3, vI l3), (4, vI l4), (5, vI l5), (7, vL l7), (9, vL l9), (11, vI l11), (12, vI v68)]) ⟨rfl, rfl, rfl, rfl, rfl, rfl, rfl, rfl, rfl, rfl, trivial⟩ ?_
  exact k212 l3 l4 l5 l7 l9 l11 v68 W65
theorem wmo_orderOne_280 {x : jCx} {en : (fmo_orderOne_S ⊕ (Int32 × jW)) → Option (Outcome × jW)} {t : Nat} {a1 : Int32} {a2 : Int32} (h : hmo_orderOne x en t a1 a2) (l4 : Int32) (l5 : Int32) (l12 : Int64) (l14 : Int32) (W : jW) : jJ x 15 280 [(0, vR t), (1, vI a1), (2, vI a2), (4, vI l4), (5, vI l5), (12, vL l12), (14, vI l14)] [] W (fmo_orderOne_280 t a1 a2 l4 l5 l12 l14 W) en := by
  have h0 := h
  obtain ⟨hx, hm, hr, he, k40, k142, k212, k280⟩ := h0
  unfold fmo_orderOne_280
  refine j_runA hx 4 (tb := [(280, .iload 14), (282, .iconst 1), (283, .iadd), (284, .iload 4)]) (jtb_ok (by decide +kernel)) (pc' := 286) (lv' := [(0, vR t), (1, vI a1), (2, vI a2), (4, vI l4), (5, vI l5), (12, vL l12), (14, vI l14)]) (st' := [vI l4, vI (l14 + (kI 1))]) rfl ?_
  refine j_icmp_ge hx (off := 24) (tgt := 310) (by decide +kernel) (by decide) (fun _ => ?_) (fun _ => ?_)
  · refine j_runA hx 1 (tb := [(310, .aload_n 0)]) (jtb_ok (by decide +kernel)) (pc' := 311) (lv' := [(0, vR t), (1, vI a1), (2, vI a2), (4, vI l4), (5, vI l5), (12, vL l12), (14, vI l14)]) (st' := [vR t]) rfl ?_
    refine j_gd (fun h76 => ?_)
    refine j_getR hx flX8_111 kl1341 h76 (by decide) (by decide +kernel) ?_
    refine j_runA hx 2 (tb := [(314, .iload_n 1), (315, .lload 12)]) (jtb_ok (by decide +kernel)) (pc' := 317) (lv' := [(0, vR t), (1, vI a1), (2, vI a2), (4, vI l4), (5, vI l5), (12, vL l12), (14, vI l14)]) (st' := [vL l12, vI a1, vR (jR W 1341 t)]) rfl ?_
    refine j_gd (fun h77 => ?_)
    refine j_last hx (f := 1341) (o := t) kd1341 rfl (by decide +kernel) h77 ?_
    refine j_ltw rfl (fun W78 hc79 => ?_)
    have h80 : jC W78 t = 13 := (congrFun hc79 _).trans h76
    refine j_runA hx 1 (tb := [(318, .iload 5)]) (jtb_ok (by decide +kernel)) (pc' := 320) (lv' := [(0, vR t), (1, vI a1), (2, vI a2), (4, vI l4), (5, vI l5), (12, vL l12), (14, vI l14)]) (st' := [vI l5]) rfl ?_
    exact j_iret hx hm (by decide +kernel) rfl (he _)
  refine j_runA hx 6 (tb := [(289, .lload 12), (291, .aload_n 0), (292, .iload 14), (294, .iload 14), (296, .iconst 1), (297, .iadd)]) (jtb_ok (by decide +kernel)) (pc' := 298) (lv' := [(0, vR t), (1, vI a1), (2, vI a2), (4, vI l4), (5, vI l5), (12, vL l12), (14, vI l14)]) (st' := [vI (l14 + (kI 1)), vI l14, vR t, vL l12]) rfl ?_
  refine j_gd (fun h82 => ?_)
  refine j_OL (j_callV (av := [vI l14, vI (l14 + (kI 1))]) (st := [vL l12]) hx hr (Or.inl q3259) q3261 qs172 rfl md_fmo_weightOf np_fmo_weightOf (cmo_weightOf t l14 (l14 + (kI 1)) W) (by decide) (Nat.le_of_ble_eq_true rfl) h82 (by decide) (by decide +kernel)) (fun q83 _ => ?_)
  refine j_runA hx 2 (tb := [(301, .ladd), (302, .lstore 12)]) (jtb_ok (by decide +kernel)) (pc' := 304) (lv' := [(12, vL (l12 + q83)), (0, vR t), (1, vI a1), (2, vI a2), (4, vI l4), (5, vI l5), (14, vI l14)]) (st' := []) rfl ?_
  refine j_let (v := (l12 + q83)) (lv := fun v84 => [(12, vL v84), (0, vR t), (1, vI a1), (2, vI a2), (4, vI l4), (5, vI l5), (14, vI l14)]) (st := fun _ => []) (fun v84 => ?_)
  refine j_runA hx 1 (tb := [(304, .iinc 14 1)]) (jtb_ok (by decide +kernel)) (pc' := 307) (lv' := [(14, vI (l14 + (kI 1))), (12, vL v84), (0, vR t), (1, vI a1), (2, vI a2), (4, vI l4), (5, vI l5)]) (st' := []) rfl ?_
  refine j_let (v := (l14 + (kI 1))) (lv := fun v85 => [(14, vI v85), (12, vL v84), (0, vR t), (1, vI a1), (2, vI a2), (4, vI l4), (5, vI l5)]) (st := fun _ => []) (fun v85 => ?_)
  refine j_goto hx (off := -27) (by decide +kernel) (tgt := 280) (by decide) ?_
  refine j_lv (lv' := [(0, vR t), (1, vI a1), (2, vI a2), (4, vI l4), (5, vI l5), (12, vL v84), (14, vI v85)]) ⟨rfl, rfl, rfl, rfl, rfl, rfl, rfl, trivial⟩ ?_
  exact k280 l4 l5 v84 v85 W
theorem wmo_orderOne_273 {x : jCx} {en : (fmo_orderOne_S ⊕ (Int32 × jW)) → Option (Outcome × jW)} {t : Nat} {a1 : Int32} {a2 : Int32} (h : hmo_orderOne x en t a1 a2) (l3 : Int32) (l4 : Int32) (l5 : Int32) (s0 : Int64) (s1 : Int32) (s2 : Nat) (W : jW) : jJ x 15 273 [(0, vR t), (1, vI a1), (2, vI a2), (3, vI l3), (4, vI l4), (5, vI l5)] [vL s0, vI s1, vR s2] W (fmo_orderOne_273 t a1 a2 l3 l4 l5 s0 s1 s2 W) en := by
  have h0 := h
  obtain ⟨hx, hm, hr, he, k40, k142, k212, k280⟩ := h0
  unfold fmo_orderOne_273
  refine j_gd (fun h70 => ?_)
  refine j_gd (fun h71 => ?_)
  refine j_last hx (f := 1340) (o := t) kd1340 h70 (by decide +kernel) h71 ?_
  refine j_ltw rfl (fun W72 hc73 => ?_)
  refine j_runA hx 4 (tb := [(274, .lconst 0), (275, .lstore 12), (277, .iload_n 3), (278, .istore 14)]) (jtb_ok (by decide +kernel)) (pc' := 280) (lv' := [(14, vI l3), (12, vL (kJ 0)), (0, vR t), (1, vI a1), (2, vI a2), (3, vI l3), (4, vI l4), (5, vI l5)]) (st' := []) rfl ?_
  refine j_lv (lv' := [(0, vR t), (1, vI a1), (2, vI a2), (4, vI l4), (5, vI l5), (12, vL (kJ 0)), (14, vI l3)]) ⟨rfl, rfl, rfl, rfl, rfl, rfl, rfl, trivial⟩ ?_
  exact k280 l4 l5 (kJ 0) l3 W72
theorem wmo_orderOne_212 {x : jCx} {en : (fmo_orderOne_S ⊕ (Int32 × jW)) → Option (Outcome × jW)} {t : Nat} {a1 : Int32} {a2 : Int32} (h : hmo_orderOne x en t a1 a2) (l3 : Int32) (l4 : Int32) (l5 : Int32) (l7 : Int64) (l9 : Int64) (l11 : Int32) (l12 : Int32) (W : jW) : jJ x 15 212 [(0, vR t), (1, vI a1), (2, vI a2), (3, vI l3), (4, vI l4), (5, vI l5), (7, vL l7), (9, vL l9), (11, vI l11), (12, vI l12)] [] W (fmo_orderOne_212 t a1 a2 l3 l4 l5 l7 l9 l11 l12 W) en := by
  have h0 := h
  obtain ⟨hx, hm, hr, he, k40, k142, k212, k280⟩ := h0
  unfold fmo_orderOne_212
  refine j_runA hx 2 (tb := [(212, .iload 12), (214, .iload 5)]) (jtb_ok (by decide +kernel)) (pc' := 216) (lv' := [(0, vR t), (1, vI a1), (2, vI a2), (3, vI l3), (4, vI l4), (5, vI l5), (7, vL l7), (9, vL l9), (11, vI l11), (12, vI l12)]) (st' := [vI l5, vI l12]) rfl ?_
  refine j_icmp_ge hx (off := 40) (tgt := 256) (by decide +kernel) (by decide) (fun _ => ?_) (fun _ => ?_)
  · refine j_runA hx 1 (tb := [(256, .aload_n 0)]) (jtb_ok (by decide +kernel)) (pc' := 257) (lv' := [(0, vR t), (1, vI a1), (2, vI a2), (3, vI l3), (4, vI l4), (5, vI l5), (7, vL l7), (9, vL l9), (11, vI l11), (12, vI l12)]) (st' := [vR t]) rfl ?_
    refine j_gd (fun h56 => ?_)
    refine j_getR hx flX8_108 kl1340 h56 (by decide) (by decide +kernel) ?_
    refine j_runA hx 2 (tb := [(260, .iload_n 1), (261, .iload 11)]) (jtb_ok (by decide +kernel)) (pc' := 263) (lv' := [(0, vR t), (1, vI a1), (2, vI a2), (3, vI l3), (4, vI l4), (5, vI l5), (7, vL l7), (9, vL l9), (11, vI l11), (12, vI l12)]) (st' := [vI l11, vI a1, vR (jR W 1340 t)]) rfl ?_
    refine j_if_eq hx (off := 8) (tgt := 271) (by decide +kernel) (by decide) (fun _ => ?_) (fun _ => ?_)
    · refine j_runA hx 1 (tb := [(271, .lload 7)]) (jtb_ok (by decide +kernel)) (pc' := 273) (lv' := [(0, vR t), (1, vI a1), (2, vI a2), (3, vI l3), (4, vI l4), (5, vI l5), (7, vL l7), (9, vL l9), (11, vI l11), (12, vI l12)]) (st' := [vL l7, vI a1, vR (jR W 1340 t)]) rfl ?_
      refine j_lv (lv' := [(0, vR t), (1, vI a1), (2, vI a2), (3, vI l3), (4, vI l4), (5, vI l5)]) ⟨rfl, rfl, rfl, rfl, rfl, rfl, trivial⟩ ?_
      exact wmo_orderOne_273 h l3 l4 l5 l7 a1 (jR W 1340 t) W
    refine j_runA hx 1 (tb := [(266, .lload 9)]) (jtb_ok (by decide +kernel)) (pc' := 268) (lv' := [(0, vR t), (1, vI a1), (2, vI a2), (3, vI l3), (4, vI l4), (5, vI l5), (7, vL l7), (9, vL l9), (11, vI l11), (12, vI l12)]) (st' := [vL l9, vI a1, vR (jR W 1340 t)]) rfl ?_
    refine j_goto hx (off := 5) (by decide +kernel) (tgt := 273) (by decide) ?_
    refine j_lv (lv' := [(0, vR t), (1, vI a1), (2, vI a2), (3, vI l3), (4, vI l4), (5, vI l5)]) ⟨rfl, rfl, rfl, rfl, rfl, rfl, trivial⟩ ?_
    exact wmo_orderOne_273 h l3 l4 l5 l9 a1 (jR W 1340 t) W
  refine j_runA hx 1 (tb := [(219, .aload_n 0)]) (jtb_ok (by decide +kernel)) (pc' := 220) (lv' := [(0, vR t), (1, vI a1), (2, vI a2), (3, vI l3), (4, vI l4), (5, vI l5), (7, vL l7), (9, vL l9), (11, vI l11), (12, vI l12)]) (st' := [vR t]) rfl ?_
  refine j_gd (fun h57 => ?_)
  refine j_getR hx flX8_102 kl1338 h57 (by decide) (by decide +kernel) ?_
  refine j_runA hx 4 (tb := [(223, .iload_n 2), (224, .iload 12), (226, .iadd), (227, .iload 11)]) (jtb_ok (by decide +kernel)) (pc' := 229) (lv' := [(0, vR t), (1, vI a1), (2, vI a2), (3, vI l3), (4, vI l4), (5, vI l5), (7, vL l7), (9, vL l9), (11, vI l11), (12, vI l12)]) (st' := [vI l11, vI (a2 + l12), vR (jR W 1338 t)]) rfl ?_
  refine j_if_eq hx (off := 13) (tgt := 242) (by decide +kernel) (by decide) (fun _ => ?_) (fun _ => ?_)
  · refine j_runA hx 1 (tb := [(242, .aload_n 0)]) (jtb_ok (by decide +kernel)) (pc' := 243) (lv' := [(0, vR t), (1, vI a1), (2, vI a2), (3, vI l3), (4, vI l4), (5, vI l5), (7, vL l7), (9, vL l9), (11, vI l11), (12, vI l12)]) (st' := [vR t, vI (a2 + l12), vR (jR W 1338 t)]) rfl ?_
    refine j_getR hx flX8_105 kl1339 h57 (by decide) (by decide +kernel) ?_
    refine j_runA hx 1 (tb := [(246, .iload 12)]) (jtb_ok (by decide +kernel)) (pc' := 248) (lv' := [(0, vR t), (1, vI a1), (2, vI a2), (3, vI l3), (4, vI l4), (5, vI l5), (7, vL l7), (9, vL l9), (11, vI l11), (12, vI l12)]) (st' := [vI l12, vR (jR W 1339 t), vI (a2 + l12), vR (jR W 1338 t)]) rfl ?_
    refine j_gd (fun h58 => ?_)
    refine j_gd (fun h59 => ?_)
    refine j_iald hx (f := 9003) (o := (jR W 1339 t)) kd9003 h58 (by decide +kernel) h59 ?_
    exact wmo_orderOne_249 h l3 l4 l5 l7 l9 l11 l12 (jA W 9003 (jR W 1339 t) (ix l12)) (a2 + l12) (jR W 1338 t) W
  refine j_runA hx 1 (tb := [(232, .aload_n 0)]) (jtb_ok (by decide +kernel)) (pc' := 233) (lv' := [(0, vR t), (1, vI a1), (2, vI a2), (3, vI l3), (4, vI l4), (5, vI l5), (7, vL l7), (9, vL l9), (11, vI l11), (12, vI l12)]) (st' := [vR t, vI (a2 + l12), vR (jR W 1338 t)]) rfl ?_
  refine j_getR hx flX8_132 kl1348 h57 (by decide) (by decide +kernel) ?_
  refine j_runA hx 1 (tb := [(236, .iload 12)]) (jtb_ok (by decide +kernel)) (pc' := 238) (lv' := [(0, vR t), (1, vI a1), (2, vI a2), (3, vI l3), (4, vI l4), (5, vI l5), (7, vL l7), (9, vL l9), (11, vI l11), (12, vI l12)]) (st' := [vI l12, vR (jR W 1348 t), vI (a2 + l12), vR (jR W 1338 t)]) rfl ?_
  refine j_gd (fun h60 => ?_)
  refine j_gd (fun h61 => ?_)
  refine j_iald hx (f := 9003) (o := (jR W 1348 t)) kd9003 h60 (by decide +kernel) h61 ?_
  refine j_goto hx (off := 10) (by decide +kernel) (tgt := 249) (by decide) ?_
  exact wmo_orderOne_249 h l3 l4 l5 l7 l9 l11 l12 (jA W 9003 (jR W 1348 t) (ix l12)) (a2 + l12) (jR W 1338 t) W
theorem wmo_orderOne_207 {x : jCx} {en : (fmo_orderOne_S ⊕ (Int32 × jW)) → Option (Outcome × jW)} {t : Nat} {a1 : Int32} {a2 : Int32} (h : hmo_orderOne x en t a1 a2) (l3 : Int32) (l4 : Int32) (l5 : Int32) (l7 : Int64) (l9 : Int64) (s0 : Int32) (W : jW) : jJ x 15 207 [(0, vR t), (1, vI a1), (2, vI a2), (3, vI l3), (4, vI l4), (5, vI l5), (7, vL l7), (9, vL l9)] [vI s0] W (fmo_orderOne_207 t a1 a2 l3 l4 l5 l7 l9 s0 W) en := by
  have h0 := h
  obtain ⟨hx, hm, hr, he, k40, k142, k212, k280⟩ := h0
  unfold fmo_orderOne_207
  refine j_runA hx 3 (tb := [(207, .istore 11), (209, .iconst 0), (210, .istore 12)]) (jtb_ok (by decide +kernel)) (pc' := 212) (lv' := [(12, vI (kI 0)), (11, vI s0), (0, vR t), (1, vI a1), (2, vI a2), (3, vI l3), (4, vI l4), (5, vI l5), (7, vL l7), (9, vL l9)]) (st' := []) rfl ?_
  refine j_lv (lv' := [(0, vR t), (1, vI a1), (2, vI a2), (3, vI l3), (4, vI l4), (5, vI l5), (7, vL l7), (9, vL l9), (11, vI s0), (12, vI (kI 0))]) ⟨rfl, rfl, rfl, rfl, rfl, rfl, rfl, rfl, rfl, rfl, trivial⟩ ?_
  exact k212 l3 l4 l5 l7 l9 s0 (kI 0) W
theorem wmo_orderOne_142 {x : jCx} {en : (fmo_orderOne_S ⊕ (Int32 × jW)) → Option (Outcome × jW)} {t : Nat} {a1 : Int32} {a2 : Int32} (h : hmo_orderOne x en t a1 a2) (l3 : Int32) (l4 : Int32) (l5 : Int32) (l6 : Int32) (W : jW) : jJ x 15 142 [(0, vR t), (1, vI a1), (2, vI a2), (3, vI l3), (4, vI l4), (5, vI l5), (6, vI l6)] [] W (fmo_orderOne_142 t a1 a2 l3 l4 l5 l6 W) en := by
  have h0 := h
  obtain ⟨hx, hm, hr, he, k40, k142, k212, k280⟩ := h0
  unfold fmo_orderOne_142
  refine j_runA hx 2 (tb := [(142, .iload 6), (144, .iload 5)]) (jtb_ok (by decide +kernel)) (pc' := 146) (lv' := [(0, vR t), (1, vI a1), (2, vI a2), (3, vI l3), (4, vI l4), (5, vI l5), (6, vI l6)]) (st' := [vI l5, vI l6]) rfl ?_
  refine j_icmp_ge hx (off := 24) (tgt := 170) (by decide +kernel) (by decide) (fun _ => ?_) (fun _ => ?_)
  · refine j_runA hx 2 (tb := [(170, .aload_n 0), (171, .aload_n 0)]) (jtb_ok (by decide +kernel)) (pc' := 172) (lv' := [(0, vR t), (1, vI a1), (2, vI a2), (3, vI l3), (4, vI l4), (5, vI l5), (6, vI l6)]) (st' := [vR t, vR t]) rfl ?_
    refine j_gd (fun h45 => ?_)
    refine j_getR hx flX8_105 kl1339 h45 (by decide) (by decide +kernel) ?_
    refine j_runA hx 1 (tb := [(175, .iload 5)]) (jtb_ok (by decide +kernel)) (pc' := 177) (lv' := [(0, vR t), (1, vI a1), (2, vI a2), (3, vI l3), (4, vI l4), (5, vI l5), (6, vI l6)]) (st' := [vI l5, vR (jR W 1339 t), vR t]) rfl ?_
    refine j_OL (j_callV (av := [vR (jR W 1339 t), vI l5]) (st := []) hx hr (Or.inl q3255) q3257 qs171 rfl md_fmo_rowWeight np_fmo_rowWeight (cmo_rowWeight t (jR W 1339 t) l5 W) (by decide) (Nat.le_of_ble_eq_true rfl) h45 (by decide) (by decide +kernel)) (fun q46 _ => ?_)
    refine j_runA hx 3 (tb := [(180, .lstore 7), (182, .aload_n 0), (183, .aload_n 0)]) (jtb_ok (by decide +kernel)) (pc' := 184) (lv' := [(7, vL q46), (0, vR t), (1, vI a1), (2, vI a2), (3, vI l3), (4, vI l4), (5, vI l5), (6, vI l6)]) (st' := [vR t, vR t]) rfl ?_
    refine j_getR hx flX8_132 kl1348 h45 (by decide) (by decide +kernel) ?_
    refine j_runA hx 1 (tb := [(187, .iload 5)]) (jtb_ok (by decide +kernel)) (pc' := 189) (lv' := [(7, vL q46), (0, vR t), (1, vI a1), (2, vI a2), (3, vI l3), (4, vI l4), (5, vI l5), (6, vI l6)]) (st' := [vI l5, vR (jR W 1348 t), vR t]) rfl ?_
    refine j_OL (j_callV (av := [vR (jR W 1348 t), vI l5]) (st := []) hx hr (Or.inl q3255) q3257 qs171 rfl md_fmo_rowWeight np_fmo_rowWeight (cmo_rowWeight t (jR W 1348 t) l5 W) (by decide) (Nat.le_of_ble_eq_true rfl) h45 (by decide) (by decide +kernel)) (fun q47 _ => ?_)
    refine j_runA hx 3 (tb := [(192, .lstore 9), (194, .lload 9), (196, .lload 7)]) (jtb_ok (by decide +kernel)) (pc' := 198) (lv' := [(9, vL q47), (7, vL q46), (0, vR t), (1, vI a1), (2, vI a2), (3, vI l3), (4, vI l4), (5, vI l5), (6, vI l6)]) (st' := [vL q46, vL q47]) rfl ?_
    refine j_lcmp_le hx (off := 7) (tgt := 206) (by decide +kernel) (by decide +kernel) (by decide) (fun _ => ?_) (fun _ => ?_)
    · refine j_runA hx 1 (tb := [(206, .iconst 0)]) (jtb_ok (by decide +kernel)) (pc' := 207) (lv' := [(9, vL q47), (7, vL q46), (0, vR t), (1, vI a1), (2, vI a2), (3, vI l3), (4, vI l4), (5, vI l5), (6, vI l6)]) (st' := [vI (kI 0)]) rfl ?_
      refine j_lv (lv' := [(0, vR t), (1, vI a1), (2, vI a2), (3, vI l3), (4, vI l4), (5, vI l5), (7, vL q46), (9, vL q47)]) ⟨rfl, rfl, rfl, rfl, rfl, rfl, rfl, rfl, trivial⟩ ?_
      exact wmo_orderOne_207 h l3 l4 l5 q46 q47 (kI 0) W
    refine j_runA hx 1 (tb := [(202, .iconst 1)]) (jtb_ok (by decide +kernel)) (pc' := 203) (lv' := [(9, vL q47), (7, vL q46), (0, vR t), (1, vI a1), (2, vI a2), (3, vI l3), (4, vI l4), (5, vI l5), (6, vI l6)]) (st' := [vI (kI 1)]) rfl ?_
    refine j_goto hx (off := 4) (by decide +kernel) (tgt := 207) (by decide) ?_
    refine j_lv (lv' := [(0, vR t), (1, vI a1), (2, vI a2), (3, vI l3), (4, vI l4), (5, vI l5), (7, vL q46), (9, vL q47)]) ⟨rfl, rfl, rfl, rfl, rfl, rfl, rfl, rfl, trivial⟩ ?_
    exact wmo_orderOne_207 h l3 l4 l5 q46 q47 (kI 1) W
  refine j_runA hx 4 (tb := [(149, .aload_n 0), (150, .aload_n 0), (151, .iload_n 3), (152, .iload 4)]) (jtb_ok (by decide +kernel)) (pc' := 154) (lv' := [(0, vR t), (1, vI a1), (2, vI a2), (3, vI l3), (4, vI l4), (5, vI l5), (6, vI l6)]) (st' := [vI l4, vI l3, vR t, vR t]) rfl ?_
  refine j_gd (fun h48 => ?_)
  refine j_WI (j_callV (av := [vI l3, vI l4]) (st := [vR t]) hx hr (Or.inl q3251) q3253 qs170 rfl md_fmo_bestChain np_fmo_bestChain (cmo_bestChain t l3 l4 W) (by decide) (Nat.le_of_ble_eq_true rfl) h48 (by decide) (by decide +kernel)) (fun q49 _ => ?_)
  refine j_runA hx 3 (tb := [(157, .iload 6), (159, .iload_n 3), (160, .iload 4)]) (jtb_ok (by decide +kernel)) (pc' := 162) (lv' := [(0, vR t), (1, vI a1), (2, vI a2), (3, vI l3), (4, vI l4), (5, vI l5), (6, vI l6)]) (st' := [vI l4, vI l3, vI l6, vI q49.1, vR t]) rfl ?_
  refine j_gd (fun h51 => ?_)
  refine j_WI (j_callV (av := [vI q49.1, vI l6, vI l3, vI l4]) (st := []) hx hr (Or.inl q3247) q3249 qs169 rfl md_fmo_placeChain np_fmo_placeChain (cmo_placeChain t q49.1 l6 l3 l4 q49.2) (by decide) (Nat.le_of_ble_eq_true rfl) h51 (by decide) (by decide +kernel)) (fun q52 _ => ?_)
  refine j_runA hx 1 (tb := [(165, .istore 6)]) (jtb_ok (by decide +kernel)) (pc' := 167) (lv' := [(6, vI q52.1), (0, vR t), (1, vI a1), (2, vI a2), (3, vI l3), (4, vI l4), (5, vI l5)]) (st' := []) rfl ?_
  refine j_goto hx (off := -25) (by decide +kernel) (tgt := 142) (by decide) ?_
  refine j_lv (lv' := [(0, vR t), (1, vI a1), (2, vI a2), (3, vI l3), (4, vI l4), (5, vI l5), (6, vI q52.1)]) ⟨rfl, rfl, rfl, rfl, rfl, rfl, rfl, trivial⟩ ?_
  exact k142 l3 l4 l5 q52.1 q52.2
theorem wmo_orderOne_133 {x : jCx} {en : (fmo_orderOne_S ⊕ (Int32 × jW)) → Option (Outcome × jW)} {t : Nat} {a1 : Int32} {a2 : Int32} (h : hmo_orderOne x en t a1 a2) (l3 : Int32) (l4 : Int32) (l5 : Int32) (s0 : Int32) (s1 : Nat) (W : jW) : jJ x 15 133 [(0, vR t), (1, vI a1), (2, vI a2), (3, vI l3), (4, vI l4), (5, vI l5)] [vI s0, vR s1] W (fmo_orderOne_133 t a1 a2 l3 l4 l5 s0 s1 W) en := by
  have h0 := h
  obtain ⟨hx, hm, hr, he, k40, k142, k212, k280⟩ := h0
  unfold fmo_orderOne_133
  refine j_runA hx 3 (tb := [(133, .iconst 0), (134, .iload_n 3), (135, .iload 4)]) (jtb_ok (by decide +kernel)) (pc' := 137) (lv' := [(0, vR t), (1, vI a1), (2, vI a2), (3, vI l3), (4, vI l4), (5, vI l5)]) (st' := [vI l4, vI l3, vI (kI 0), vI s0, vR s1]) rfl ?_
  refine j_gd (fun h41 => ?_)
  refine j_WI (j_callV (av := [vI s0, vI (kI 0), vI l3, vI l4]) (st := []) hx hr (Or.inl q3247) q3249 qs169 rfl md_fmo_placeChain np_fmo_placeChain (cmo_placeChain s1 s0 (kI 0) l3 l4 W) (by decide) (Nat.le_of_ble_eq_true rfl) h41 (by decide) (by decide +kernel)) (fun q42 _ => ?_)
  refine j_runA hx 1 (tb := [(140, .istore 6)]) (jtb_ok (by decide +kernel)) (pc' := 142) (lv' := [(6, vI q42.1), (0, vR t), (1, vI a1), (2, vI a2), (3, vI l3), (4, vI l4), (5, vI l5)]) (st' := []) rfl ?_
  refine j_lv (lv' := [(0, vR t), (1, vI a1), (2, vI a2), (3, vI l3), (4, vI l4), (5, vI l5), (6, vI q42.1)]) ⟨rfl, rfl, rfl, rfl, rfl, rfl, rfl, trivial⟩ ?_
  exact k142 l3 l4 l5 q42.1 q42.2
theorem wmo_orderOne_112 {x : jCx} {en : (fmo_orderOne_S ⊕ (Int32 × jW)) → Option (Outcome × jW)} {t : Nat} {a1 : Int32} {a2 : Int32} (h : hmo_orderOne x en t a1 a2) (l3 : Int32) (l4 : Int32) (l5 : Int32) (W : jW) : jJ x 15 112 [(0, vR t), (1, vI a1), (2, vI a2), (3, vI l3), (4, vI l4), (5, vI l5)] [] W (fmo_orderOne_112 t a1 a2 l3 l4 l5 W) en := by
  have h0 := h
  obtain ⟨hx, hm, hr, he, k40, k142, k212, k280⟩ := h0
  unfold fmo_orderOne_112
  refine j_runA hx 2 (tb := [(112, .aload_n 0), (113, .aload_n 0)]) (jtb_ok (by decide +kernel)) (pc' := 114) (lv' := [(0, vR t), (1, vI a1), (2, vI a2), (3, vI l3), (4, vI l4), (5, vI l5)]) (st' := [vR t, vR t]) rfl ?_
  refine j_gd (fun h37 => ?_)
  refine j_getR hx flX8_90 kl1334 h37 (by decide) (by decide +kernel) ?_
  refine j_runA hx 1 (tb := [(117, .iload_n 3)]) (jtb_ok (by decide +kernel)) (pc' := 118) (lv' := [(0, vR t), (1, vI a1), (2, vI a2), (3, vI l3), (4, vI l4), (5, vI l5)]) (st' := [vI l3, vR (jR W 1334 t), vR t]) rfl ?_
  refine j_gd (fun h38 => ?_)
  refine j_zald hx (f := 1334) (o := t) kd1334 rfl (by decide +kernel) h38 ?_
  refine j_if_eq hx (off := 7) (tgt := 126) (by decide +kernel) (by decide) (fun _ => ?_) (fun _ => ?_)
  · refine j_runA hx 3 (tb := [(126, .aload_n 0), (127, .iload_n 3), (128, .iload 4)]) (jtb_ok (by decide +kernel)) (pc' := 130) (lv' := [(0, vR t), (1, vI a1), (2, vI a2), (3, vI l3), (4, vI l4), (5, vI l5)]) (st' := [vI l4, vI l3, vR t, vR t]) rfl ?_
    refine j_OI (j_callV (av := [vI l3, vI l4]) (st := [vR t]) hx hr (Or.inl q3243) q3245 qs168 rfl md_fmo_leastChain np_fmo_leastChain (cmo_leastChain t l3 l4 W) (by decide) (Nat.le_of_ble_eq_true rfl) h37 (by decide) (by decide +kernel)) (fun q39 _ => ?_)
    exact wmo_orderOne_133 h l3 l4 l5 q39 t W
  refine j_runA hx 1 (tb := [(122, .iload_n 3)]) (jtb_ok (by decide +kernel)) (pc' := 123) (lv' := [(0, vR t), (1, vI a1), (2, vI a2), (3, vI l3), (4, vI l4), (5, vI l5)]) (st' := [vI l3, vR t]) rfl ?_
  refine j_goto hx (off := 10) (by decide +kernel) (tgt := 133) (by decide) ?_
  exact wmo_orderOne_133 h l3 l4 l5 l3 t W
theorem wmo_orderOne_40 {x : jCx} {en : (fmo_orderOne_S ⊕ (Int32 × jW)) → Option (Outcome × jW)} {t : Nat} {a1 : Int32} {a2 : Int32} (h : hmo_orderOne x en t a1 a2) (l3 : Int32) (l4 : Int32) (l5 : Int32) (l6 : Int32) (W : jW) : jJ x 15 40 [(0, vR t), (1, vI a1), (2, vI a2), (3, vI l3), (4, vI l4), (5, vI l5), (6, vI l6)] [] W (fmo_orderOne_40 t a1 a2 l3 l4 l5 l6 W) en := by
  have h0 := h
  obtain ⟨hx, hm, hr, he, k40, k142, k212, k280⟩ := h0
  unfold fmo_orderOne_40
  refine j_runA hx 2 (tb := [(40, .iload 6), (42, .iload 4)]) (jtb_ok (by decide +kernel)) (pc' := 44) (lv' := [(0, vR t), (1, vI a1), (2, vI a2), (3, vI l3), (4, vI l4), (5, vI l5), (6, vI l6)]) (st' := [vI l4, vI l6]) rfl ?_
  refine j_icmp_ge hx (off := 56) (tgt := 100) (by decide +kernel) (by decide) (fun _ => ?_) (fun _ => ?_)
  · refine j_runA hx 1 (tb := [(100, .iload 5)]) (jtb_ok (by decide +kernel)) (pc' := 102) (lv' := [(0, vR t), (1, vI a1), (2, vI a2), (3, vI l3), (4, vI l4), (5, vI l5), (6, vI l6)]) (st' := [vI l5]) rfl ?_
    refine j_if_le hx (off := 10) (tgt := 112) (by decide +kernel) (by decide) (fun _ => ?_) (fun _ => ?_)
    · refine j_lv (lv' := [(0, vR t), (1, vI a1), (2, vI a2), (3, vI l3), (4, vI l4), (5, vI l5)]) ⟨rfl, rfl, rfl, rfl, rfl, rfl, trivial⟩ ?_
      exact wmo_orderOne_112 h l3 l4 l5 W
    refine j_runA hx 3 (tb := [(105, .aload_n 0), (106, .iload_n 3), (107, .iload 4)]) (jtb_ok (by decide +kernel)) (pc' := 109) (lv' := [(0, vR t), (1, vI a1), (2, vI a2), (3, vI l3), (4, vI l4), (5, vI l5), (6, vI l6)]) (st' := [vI l4, vI l3, vR t]) rfl ?_
    refine j_gd (fun h7 => ?_)
    refine j_WV (j_callV (av := [vI l3, vI l4]) (st := []) hx hr (Or.inl q3231) q3233 qs165 rfl md_fmo_join np_fmo_join (cmo_join t l3 l4 W) (by decide) (Nat.le_of_ble_eq_true rfl) h7 (by decide) (by decide +kernel)) (fun q8 _ => ?_)
    refine j_lv (lv' := [(0, vR t), (1, vI a1), (2, vI a2), (3, vI l3), (4, vI l4), (5, vI l5)]) ⟨rfl, rfl, rfl, rfl, rfl, rfl, trivial⟩ ?_
    exact wmo_orderOne_112 h l3 l4 l5 q8
  refine j_runA hx 1 (tb := [(47, .aload_n 0)]) (jtb_ok (by decide +kernel)) (pc' := 48) (lv' := [(0, vR t), (1, vI a1), (2, vI a2), (3, vI l3), (4, vI l4), (5, vI l5), (6, vI l6)]) (st' := [vR t]) rfl ?_
  refine j_gd (fun h10 => ?_)
  refine j_getR hx flX8_93 kl1335 h10 (by decide) (by decide +kernel) ?_
  refine j_runA hx 2 (tb := [(51, .iload 6), (53, .iload 6)]) (jtb_ok (by decide +kernel)) (pc' := 55) (lv' := [(0, vR t), (1, vI a1), (2, vI a2), (3, vI l3), (4, vI l4), (5, vI l5), (6, vI l6)]) (st' := [vI l6, vI l6, vR (jR W 1335 t)]) rfl ?_
  refine j_gd (fun h11 => ?_)
  refine j_iast hx (f := 1335) (o := t) kd1335 rfl (by decide +kernel) h11 ?_
  refine j_ltw rfl (fun W12 hc13 => ?_)
  have h14 : jC W12 t = 13 := (congrFun hc13 _).trans h10
  refine j_runA hx 1 (tb := [(56, .aload_n 0)]) (jtb_ok (by decide +kernel)) (pc' := 57) (lv' := [(0, vR t), (1, vI a1), (2, vI a2), (3, vI l3), (4, vI l4), (5, vI l5), (6, vI l6)]) (st' := [vR t]) rfl ?_
  refine j_getR hx flX8_96 kl1336 h14 (by decide) (by decide +kernel) ?_
  refine j_runA hx 2 (tb := [(60, .iload 6), (62, .iconst (-1))]) (jtb_ok (by decide +kernel)) (pc' := 63) (lv' := [(0, vR t), (1, vI a1), (2, vI a2), (3, vI l3), (4, vI l4), (5, vI l5), (6, vI l6)]) (st' := [vI (kI (-1)), vI l6, vR (jR W12 1336 t)]) rfl ?_
  refine j_gd (fun h16 => ?_)
  refine j_iast hx (f := 1336) (o := t) kd1336 rfl (by decide +kernel) h16 ?_
  refine j_ltw rfl (fun W17 hc18 => ?_)
  have h19 : jC W17 t = 13 := (congrFun hc18 _).trans h14
  refine j_runA hx 1 (tb := [(64, .aload_n 0)]) (jtb_ok (by decide +kernel)) (pc' := 65) (lv' := [(0, vR t), (1, vI a1), (2, vI a2), (3, vI l3), (4, vI l4), (5, vI l5), (6, vI l6)]) (st' := [vR t]) rfl ?_
  refine j_getR hx flX8_99 kl1337 h19 (by decide) (by decide +kernel) ?_
  refine j_runA hx 2 (tb := [(68, .iload 6), (70, .iconst 0)]) (jtb_ok (by decide +kernel)) (pc' := 71) (lv' := [(0, vR t), (1, vI a1), (2, vI a2), (3, vI l3), (4, vI l4), (5, vI l5), (6, vI l6)]) (st' := [vI (kI 0), vI l6, vR (jR W17 1337 t)]) rfl ?_
  refine j_gd (fun h21 => ?_)
  refine j_zast hx (f := 1337) (o := t) kd1337 rfl (by decide +kernel) h21 ?_
  refine j_ltw rfl (fun W22 hc23 => ?_)
  have h24 : jC W22 t = 13 := (congrFun hc23 _).trans h19
  refine j_runA hx 1 (tb := [(72, .aload_n 0)]) (jtb_ok (by decide +kernel)) (pc' := 73) (lv' := [(0, vR t), (1, vI a1), (2, vI a2), (3, vI l3), (4, vI l4), (5, vI l5), (6, vI l6)]) (st' := [vR t]) rfl ?_
  refine j_getR hx flX8_90 kl1334 h24 (by decide) (by decide +kernel) ?_
  refine j_runA hx 1 (tb := [(76, .iload 6)]) (jtb_ok (by decide +kernel)) (pc' := 78) (lv' := [(0, vR t), (1, vI a1), (2, vI a2), (3, vI l3), (4, vI l4), (5, vI l5), (6, vI l6)]) (st' := [vI l6, vR (jR W22 1334 t)]) rfl ?_
  refine j_gd (fun h26 => ?_)
  refine j_zald hx (f := 1334) (o := t) kd1334 rfl (by decide +kernel) h26 ?_
  refine j_if_eq hx (off := 15) (tgt := 94) (by decide +kernel) (by decide) (fun _ => ?_) (fun _ => ?_)
  · exact wmo_orderOne_94 h l3 l4 l5 l6 W22
  refine j_runA hx 1 (tb := [(82, .aload_n 0)]) (jtb_ok (by decide +kernel)) (pc' := 83) (lv' := [(0, vR t), (1, vI a1), (2, vI a2), (3, vI l3), (4, vI l4), (5, vI l5), (6, vI l6)]) (st' := [vR t]) rfl ?_
  refine j_getR hx flX8_105 kl1339 h24 (by decide) (by decide +kernel) ?_
  refine j_runA hx 2 (tb := [(86, .iload 5), (88, .iload 6)]) (jtb_ok (by decide +kernel)) (pc' := 90) (lv' := [(0, vR t), (1, vI a1), (2, vI a2), (3, vI l3), (4, vI l4), (5, vI l5), (6, vI l6)]) (st' := [vI l6, vI l5, vR (jR W22 1339 t)]) rfl ?_
  refine j_gd (fun h27 => ?_)
  refine j_gd (fun h28 => ?_)
  refine j_iast hx (f := 9003) (o := (jR W22 1339 t)) kd9003 h27 (by decide +kernel) h28 ?_
  refine j_ltw rfl (fun W29 hc30 => ?_)
  have h31 : jC W29 t = 13 := (congrFun hc30 _).trans h24
  refine j_runA hx 1 (tb := [(91, .iinc 5 1)]) (jtb_ok (by decide +kernel)) (pc' := 94) (lv' := [(5, vI (l5 + (kI 1))), (0, vR t), (1, vI a1), (2, vI a2), (3, vI l3), (4, vI l4), (6, vI l6)]) (st' := []) rfl ?_
  refine j_let (v := (l5 + (kI 1))) (lv := fun v33 => [(5, vI v33), (0, vR t), (1, vI a1), (2, vI a2), (3, vI l3), (4, vI l4), (6, vI l6)]) (st := fun _ => []) (fun v33 => ?_)
  refine j_lv (lv' := [(0, vR t), (1, vI a1), (2, vI a2), (3, vI l3), (4, vI l4), (5, vI v33), (6, vI l6)]) ⟨rfl, rfl, rfl, rfl, rfl, rfl, rfl, trivial⟩ ?_
  exact wmo_orderOne_94 h l3 l4 v33 l6 W29
theorem wmo_orderOne_32 {x : jCx} {en : (fmo_orderOne_S ⊕ (Int32 × jW)) → Option (Outcome × jW)} {t : Nat} {a1 : Int32} {a2 : Int32} (h : hmo_orderOne x en t a1 a2) (l3 : Int32) (s0 : Int32) (W : jW) : jJ x 15 32 [(0, vR t), (1, vI a1), (2, vI a2), (3, vI l3)] [vI s0] W (fmo_orderOne_32 t a1 a2 l3 s0 W) en := by
  have h0 := h
  obtain ⟨hx, hm, hr, he, k40, k142, k212, k280⟩ := h0
  unfold fmo_orderOne_32
  refine j_runA hx 5 (tb := [(32, .istore 4), (34, .iconst 0), (35, .istore 5), (37, .iload_n 3), (38, .istore 6)]) (jtb_ok (by decide +kernel)) (pc' := 40) (lv' := [(6, vI l3), (5, vI (kI 0)), (4, vI s0), (0, vR t), (1, vI a1), (2, vI a2), (3, vI l3)]) (st' := []) rfl ?_
  refine j_lv (lv' := [(0, vR t), (1, vI a1), (2, vI a2), (3, vI l3), (4, vI s0), (5, vI (kI 0)), (6, vI l3)]) ⟨rfl, rfl, rfl, rfl, rfl, rfl, rfl, trivial⟩ ?_
  exact k40 l3 s0 (kI 0) l3 W
theorem wmo_orderOne {x : jCx} {en : (fmo_orderOne_S ⊕ (Int32 × jW)) → Option (Outcome × jW)} {t : Nat} {a1 : Int32} {a2 : Int32} (h : hmo_orderOne x en t a1 a2) (W : jW) : jJ x 15 0 [(0, vR t), (1, vI a1), (2, vI a2)] [] W (fmo_orderOne_0 t a1 a2 W) en := by
  have h0 := h
  obtain ⟨hx, hm, hr, he, k40, k142, k212, k280⟩ := h0
  unfold fmo_orderOne_0
  refine j_runA hx 1 (tb := [(0, .aload_n 0)]) (jtb_ok (by decide +kernel)) (pc' := 1) (lv' := [(0, vR t), (1, vI a1), (2, vI a2)]) (st' := [vR t]) rfl ?_
  refine j_gd (fun h1 => ?_)
  refine j_getR hx flX8_56 kl1321 h1 (by decide) (by decide +kernel) ?_
  refine j_runA hx 1 (tb := [(4, .iload_n 1)]) (jtb_ok (by decide +kernel)) (pc' := 5) (lv' := [(0, vR t), (1, vI a1), (2, vI a2)]) (st' := [vI a1, vR (jR W 1321 t)]) rfl ?_
  refine j_gd (fun h2 => ?_)
  refine j_iald hx (f := 1321) (o := t) kd1321 rfl (by decide +kernel) h2 ?_
  refine j_runA hx 1 (tb := [(6, .istore_n 3)]) (jtb_ok (by decide +kernel)) (pc' := 7) (lv' := [(3, vI (jA W 1321 t (ix a1))), (0, vR t), (1, vI a1), (2, vI a2)]) (st' := []) rfl ?_
  refine j_let (v := (jA W 1321 t (ix a1))) (lv := fun v3 => [(3, vI v3), (0, vR t), (1, vI a1), (2, vI a2)]) (st := fun _ => []) (fun v3 => ?_)
  refine j_runA hx 4 (tb := [(7, .iload_n 1), (8, .iconst 1), (9, .iadd), (10, .aload_n 0)]) (jtb_ok (by decide +kernel)) (pc' := 11) (lv' := [(3, vI v3), (0, vR t), (1, vI a1), (2, vI a2)]) (st' := [vR t, vI (a1 + (kI 1))]) rfl ?_
  refine j_getI hx flX8_281 kd1311 h1 (by decide) (by decide +kernel) ?_
  refine j_icmp_ge hx (off := 14) (tgt := 28) (by decide +kernel) (by decide) (fun _ => ?_) (fun _ => ?_)
  · refine j_runA hx 1 (tb := [(28, .aload_n 0)]) (jtb_ok (by decide +kernel)) (pc' := 29) (lv' := [(3, vI v3), (0, vR t), (1, vI a1), (2, vI a2)]) (st' := [vR t]) rfl ?_
    refine j_getI hx flX8_399 kd1312 h1 (by decide) (by decide +kernel) ?_
    refine j_lv (lv' := [(0, vR t), (1, vI a1), (2, vI a2), (3, vI v3)]) ⟨rfl, rfl, rfl, rfl, trivial⟩ ?_
    exact wmo_orderOne_32 h v3 (jI W 1312 t) W
  refine j_runA hx 1 (tb := [(17, .aload_n 0)]) (jtb_ok (by decide +kernel)) (pc' := 18) (lv' := [(3, vI v3), (0, vR t), (1, vI a1), (2, vI a2)]) (st' := [vR t]) rfl ?_
  refine j_getR hx flX8_56 kl1321 h1 (by decide) (by decide +kernel) ?_
  refine j_runA hx 3 (tb := [(21, .iload_n 1), (22, .iconst 1), (23, .iadd)]) (jtb_ok (by decide +kernel)) (pc' := 24) (lv' := [(3, vI v3), (0, vR t), (1, vI a1), (2, vI a2)]) (st' := [vI (a1 + (kI 1)), vR (jR W 1321 t)]) rfl ?_
  refine j_gd (fun h4 => ?_)
  refine j_iald hx (f := 1321) (o := t) kd1321 rfl (by decide +kernel) h4 ?_
  refine j_goto hx (off := 7) (by decide +kernel) (tgt := 32) (by decide) ?_
  refine j_lv (lv' := [(0, vR t), (1, vI a1), (2, vI a2), (3, vI v3)]) ⟨rfl, rfl, rfl, rfl, trivial⟩ ?_
  exact wmo_orderOne_32 h v3 (jA W 1321 t (ix (a1 + (kI 1)))) W
theorem cmo_orderOne (t : Nat) (a1 : Int32) (a2 : Int32) (W : jW) : jM yX8_orderOne cX8_orderOne 15 (Option.some Jvm.ClassFile.FieldType.int) [] 4 60 [vR t, vI a1, vI a2] W ((fmo_orderOne t a1 a2 W).bind (fun q => some (.returned (some (.int q.1)), q.2))) := by
  refine jM.of (Nat.le_of_ble_eq_true rfl) (fun x hx hm hr => ?_)
  refine j_begin (P := (Sum.elim (fun s => (40, [(0, vR t), (1, vI a1), (2, vI a2), (3, vI s.1), (4, vI s.2.1), (5, vI s.2.2.1), (6, vI s.2.2.2.1)], s.2.2.2.2)) (Sum.elim (fun s => (142, [(0, vR t), (1, vI a1), (2, vI a2), (3, vI s.1), (4, vI s.2.1), (5, vI s.2.2.1), (6, vI s.2.2.2.1)], s.2.2.2.2)) (Sum.elim (fun s => (212, [(0, vR t), (1, vI a1), (2, vI a2), (3, vI s.1), (4, vI s.2.1), (5, vI s.2.2.1), (7, vL s.2.2.2.1), (9, vL s.2.2.2.2.1), (11, vI s.2.2.2.2.2.1), (12, vI s.2.2.2.2.2.2.1)], s.2.2.2.2.2.2.2)) (fun s => (280, [(0, vR t), (1, vI a1), (2, vI a2), (4, vI s.1), (5, vI s.2.1), (12, vL s.2.2.1), (14, vI s.2.2.2.1)], s.2.2.2.2)))))) (fun en he hk => ?_)
  have h : hmo_orderOne x en t a1 a2 := ⟨hx, hm, hr, fun q => he _, fun l3 l4 l5 l6 W => hk (.inl (l3, l4, l5, l6, W)), fun l3 l4 l5 l6 W => hk (.inr (.inl (l3, l4, l5, l6, W))), fun l3 l4 l5 l7 l9 l11 l12 W => hk (.inr (.inr (.inl (l3, l4, l5, l7, l9, l11, l12, W)))), fun l4 l5 l12 l14 W => hk (.inr (.inr (.inr (l4, l5, l12, l14, W))))⟩
  refine ⟨fun s => ?_, wmo_orderOne h W⟩
  rcases s with s | s | s | s
  · exact wmo_orderOne_40 h s.1 s.2.1 s.2.2.1 s.2.2.2.1 s.2.2.2.2
  · exact wmo_orderOne_142 h s.1 s.2.1 s.2.2.1 s.2.2.2.1 s.2.2.2.2
  · exact wmo_orderOne_212 h s.1 s.2.1 s.2.2.1 s.2.2.2.1 s.2.2.2.2.1 s.2.2.2.2.2.1 s.2.2.2.2.2.2.1 s.2.2.2.2.2.2.2
  · exact wmo_orderOne_280 h s.1 s.2.1 s.2.2.1 s.2.2.2.1 s.2.2.2.2
def hmo_orderAll (x : jCx) (en : (fmo_orderAll_S ⊕ (Int32 × jW)) → Option (Outcome × jW)) (t : Nat) : Prop :=
  jOK x RX8 cX8_orderAll 9 ∧
  jMt x "orderAll" (Option.some Jvm.ClassFile.FieldType.int) [] ∧
  jRm x 5 86 ∧
  (∀ q : Int32 × jW, en (.inr q) = some (.returned (some (.int q.1)), q.2)) ∧
  (∀ (l1 : Int32) (W : jW), jJ x 9 2 [(0, vR t), (1, vI l1)] [] W (some (.inl (.inl (l1, W)))) en) ∧
  (∀ (l1 : Int32) (l2 : Int32) (l3 : Int32) (W : jW), jJ x 9 29 [(0, vR t), (1, vI l1), (2, vI l2), (3, vI l3)] [] W (some (.inl (.inr (.inl (l1, l2, l3, W))))) en) ∧
  (∀ (l1 : Int32) (l2 : Int32) (l3 : Nat) (l4 : Int32) (W : jW), jJ x 9 63 [(0, vR t), (1, vI l1), (2, vI l2), (3, vR l3), (4, vI l4)] [] W (some (.inl (.inr (.inr (.inl (l1, l2, l3, l4, W)))))) en) ∧
  (∀ (l1 : Int32) (l2 : Int32) (l3 : Nat) (W : jW), jJ x 9 83 [(0, vR t), (1, vI l1), (2, vI l2), (3, vR l3)] [] W (some (.inl (.inr (.inr (.inr (.inl (l1, l2, l3, W))))))) en) ∧
  (∀ (l1 : Int32) (l2 : Int32) (l3 : Nat) (l4 : Int32) (l5 : Int32) (W : jW), jJ x 9 93 [(0, vR t), (1, vI l1), (2, vI l2), (3, vR l3), (4, vI l4), (5, vI l5)] [] W (some (.inl (.inr (.inr (.inr (.inr (.inl (l1, l2, l3, l4, l5, W)))))))) en) ∧
  (∀ (l1 : Int32) (l2 : Int32) (l3 : Nat) (l4 : Int32) (l5 : Int32) (W : jW), jJ x 9 188 [(0, vR t), (1, vI l1), (2, vI l2), (3, vR l3), (4, vI l4), (5, vI l5)] [] W (some (.inl (.inr (.inr (.inr (.inr (.inr (.inl (l1, l2, l3, l4, l5, W))))))))) en) ∧
  (∀ (l1 : Int32) (l2 : Int32) (l3 : Nat) (l4 : Int32) (l5 : Int32) (l6 : Int32) (W : jW), jJ x 9 203 [(0, vR t), (1, vI l1), (2, vI l2), (3, vR l3), (4, vI l4), (5, vI l5), (6, vI l6)] [] W (some (.inl (.inr (.inr (.inr (.inr (.inr (.inr (.inl (l1, l2, l3, l4, l5, l6, W)))))))))) en) ∧
  (∀ (l1 : Int32) (l2 : Int32) (l3 : Nat) (l4 : Int32) (l5 : Int32) (l6 : Int32) (l7 : Int32) (l8 : Int32) (W : jW), jJ x 9 260 [(0, vR t), (1, vI l1), (2, vI l2), (3, vR l3), (4, vI l4), (5, vI l5), (6, vI l6), (7, vI l7), (8, vI l8)] [] W (some (.inl (.inr (.inr (.inr (.inr (.inr (.inr (.inr (.inl (l1, l2, l3, l4, l5, l6, l7, l8, W))))))))))) en) ∧
  (∀ (l1 : Int32) (l4 : Int32) (W : jW), jJ x 9 318 [(0, vR t), (1, vI l1), (4, vI l4)] [] W (some (.inl (.inr (.inr (.inr (.inr (.inr (.inr (.inr (.inr (l1, l4, W))))))))))) en)
theorem wmo_orderAll_49 {x : jCx} {en : (fmo_orderAll_S ⊕ (Int32 × jW)) → Option (Outcome × jW)} {t : Nat} (h : hmo_orderAll x en t) (l1 : Int32) (l2 : Int32) (l3 : Int32) (W : jW) : jJ x 9 49 [(0, vR t), (1, vI l1), (2, vI l2), (3, vI l3)] [] W (fmo_orderAll_49 t l1 l2 l3 W) en := by
  have h0 := h
  obtain ⟨hx, hm, hr, he, k2, k29, k63, k83, k93, k188, k203, k260, k318⟩ := h0
  unfold fmo_orderAll_49
  refine j_runA hx 1 (tb := [(49, .iinc 3 1)]) (jtb_ok (by decide +kernel)) (pc' := 52) (lv' := [(3, vI (l3 + (kI 1))), (0, vR t), (1, vI l1), (2, vI l2)]) (st' := []) rfl ?_
  refine j_let (v := (l3 + (kI 1))) (lv := fun v15 => [(3, vI v15), (0, vR t), (1, vI l1), (2, vI l2)]) (st := fun _ => []) (fun v15 => ?_)
  refine j_goto hx (off := -23) (by decide +kernel) (tgt := 29) (by decide) ?_
  refine j_lv (lv' := [(0, vR t), (1, vI l1), (2, vI l2), (3, vI v15)]) ⟨rfl, rfl, rfl, rfl, trivial⟩ ?_
  exact k29 l1 l2 v15 W
theorem wmo_orderAll_174 {x : jCx} {en : (fmo_orderAll_S ⊕ (Int32 × jW)) → Option (Outcome × jW)} {t : Nat} (h : hmo_orderAll x en t) (l1 : Int32) (l2 : Int32) (l3 : Nat) (l4 : Int32) (l5 : Int32) (W : jW) : jJ x 9 174 [(0, vR t), (1, vI l1), (2, vI l2), (3, vR l3), (4, vI l4), (5, vI l5)] [] W (fmo_orderAll_174 t l1 l2 l3 l4 l5 W) en := by
  have h0 := h
  obtain ⟨hx, hm, hr, he, k2, k29, k63, k83, k93, k188, k203, k260, k318⟩ := h0
  unfold fmo_orderAll_174
  refine j_runA hx 1 (tb := [(174, .iinc 5 1)]) (jtb_ok (by decide +kernel)) (pc' := 177) (lv' := [(5, vI (l5 + (kI 1))), (0, vR t), (1, vI l1), (2, vI l2), (3, vR l3), (4, vI l4)]) (st' := []) rfl ?_
  refine j_let (v := (l5 + (kI 1))) (lv := fun v45 => [(5, vI v45), (0, vR t), (1, vI l1), (2, vI l2), (3, vR l3), (4, vI l4)]) (st := fun _ => []) (fun v45 => ?_)
  refine j_goto hx (off := -84) (by decide +kernel) (tgt := 93) (by decide) ?_
  refine j_lv (lv' := [(0, vR t), (1, vI l1), (2, vI l2), (3, vR l3), (4, vI l4), (5, vI v45)]) ⟨rfl, rfl, rfl, rfl, rfl, rfl, trivial⟩ ?_
  exact k93 l1 l2 l3 l4 v45 W
theorem wmo_orderAll_170 {x : jCx} {en : (fmo_orderAll_S ⊕ (Int32 × jW)) → Option (Outcome × jW)} {t : Nat} (h : hmo_orderAll x en t) (l1 : Int32) (l2 : Int32) (l3 : Nat) (l5 : Int32) (l6 : Int32) (W : jW) : jJ x 9 170 [(0, vR t), (1, vI l1), (2, vI l2), (3, vR l3), (5, vI l5), (6, vI l6)] [] W (fmo_orderAll_170 t l1 l2 l3 l5 l6 W) en := by
  have h0 := h
  obtain ⟨hx, hm, hr, he, k2, k29, k63, k83, k93, k188, k203, k260, k318⟩ := h0
  unfold fmo_orderAll_170
  refine j_runA hx 2 (tb := [(170, .iload 6), (172, .istore 4)]) (jtb_ok (by decide +kernel)) (pc' := 174) (lv' := [(4, vI l6), (0, vR t), (1, vI l1), (2, vI l2), (3, vR l3), (5, vI l5), (6, vI l6)]) (st' := []) rfl ?_
  refine j_lv (lv' := [(0, vR t), (1, vI l1), (2, vI l2), (3, vR l3), (4, vI l6), (5, vI l5)]) ⟨rfl, rfl, rfl, rfl, rfl, rfl, trivial⟩ ?_
  exact wmo_orderAll_174 h l1 l2 l3 l6 l5 W
theorem wmo_orderAll_297 {x : jCx} {en : (fmo_orderAll_S ⊕ (Int32 × jW)) → Option (Outcome × jW)} {t : Nat} (h : hmo_orderAll x en t) (l1 : Int32) (l2 : Int32) (l3 : Nat) (l4 : Int32) (l5 : Int32) (l6 : Int32) (W : jW) : jJ x 9 297 [(0, vR t), (1, vI l1), (2, vI l2), (3, vR l3), (4, vI l4), (5, vI l5), (6, vI l6)] [] W (fmo_orderAll_297 t l1 l2 l3 l4 l5 l6 W) en := by
  have h0 := h
  obtain ⟨hx, hm, hr, he, k2, k29, k63, k83, k93, k188, k203, k260, k318⟩ := h0
  unfold fmo_orderAll_297
  refine j_runA hx 1 (tb := [(297, .iinc 6 1)]) (jtb_ok (by decide +kernel)) (pc' := 300) (lv' := [(6, vI (l6 + (kI 1))), (0, vR t), (1, vI l1), (2, vI l2), (3, vR l3), (4, vI l4), (5, vI l5)]) (st' := []) rfl ?_
  refine j_let (v := (l6 + (kI 1))) (lv := fun v71 => [(6, vI v71), (0, vR t), (1, vI l1), (2, vI l2), (3, vR l3), (4, vI l4), (5, vI l5)]) (st := fun _ => []) (fun v71 => ?_)
  refine j_goto hx (off := -97) (by decide +kernel) (tgt := 203) (by decide) ?_
  refine j_lv (lv' := [(0, vR t), (1, vI l1), (2, vI l2), (3, vR l3), (4, vI l4), (5, vI l5), (6, vI v71)]) ⟨rfl, rfl, rfl, rfl, rfl, rfl, rfl, trivial⟩ ?_
  exact k203 l1 l2 l3 l4 l5 v71 W
theorem wmo_orderAll_260 {x : jCx} {en : (fmo_orderAll_S ⊕ (Int32 × jW)) → Option (Outcome × jW)} {t : Nat} (h : hmo_orderAll x en t) (l1 : Int32) (l2 : Int32) (l3 : Nat) (l4 : Int32) (l5 : Int32) (l6 : Int32) (l7 : Int32) (l8 : Int32) (W : jW) : jJ x 9 260 [(0, vR t), (1, vI l1), (2, vI l2), (3, vR l3), (4, vI l4), (5, vI l5), (6, vI l6), (7, vI l7), (8, vI l8)] [] W (fmo_orderAll_260 t l1 l2 l3 l4 l5 l6 l7 l8 W) en := by
  have h0 := h
  obtain ⟨hx, hm, hr, he, k2, k29, k63, k83, k93, k188, k203, k260, k318⟩ := h0
  unfold fmo_orderAll_260
  refine j_runA hx 2 (tb := [(260, .iload 8), (262, .iload 7)]) (jtb_ok (by decide +kernel)) (pc' := 264) (lv' := [(0, vR t), (1, vI l1), (2, vI l2), (3, vR l3), (4, vI l4), (5, vI l5), (6, vI l6), (7, vI l7), (8, vI l8)]) (st' := [vI l7, vI l8]) rfl ?_
  refine j_icmp_ge hx (off := 28) (tgt := 292) (by decide +kernel) (by decide) (fun _ => ?_) (fun _ => ?_)
  · refine j_runA hx 4 (tb := [(292, .iload_n 1), (293, .iload 7), (295, .iadd), (296, .istore_n 1)]) (jtb_ok (by decide +kernel)) (pc' := 297) (lv' := [(1, vI (l1 + l7)), (0, vR t), (2, vI l2), (3, vR l3), (4, vI l4), (5, vI l5), (6, vI l6), (7, vI l7), (8, vI l8)]) (st' := []) rfl ?_
    refine j_let (v := (l1 + l7)) (lv := fun v59 => [(1, vI v59), (0, vR t), (2, vI l2), (3, vR l3), (4, vI l4), (5, vI l5), (6, vI l6), (7, vI l7), (8, vI l8)]) (st := fun _ => []) (fun v59 => ?_)
    refine j_lv (lv' := [(0, vR t), (1, vI v59), (2, vI l2), (3, vR l3), (4, vI l4), (5, vI l5), (6, vI l6)]) ⟨rfl, rfl, rfl, rfl, rfl, rfl, rfl, trivial⟩ ?_
    exact wmo_orderAll_297 h v59 l2 l3 l4 l5 l6 W
  refine j_runA hx 1 (tb := [(267, .aload_n 0)]) (jtb_ok (by decide +kernel)) (pc' := 268) (lv' := [(0, vR t), (1, vI l1), (2, vI l2), (3, vR l3), (4, vI l4), (5, vI l5), (6, vI l6), (7, vI l7), (8, vI l8)]) (st' := [vR t]) rfl ?_
  refine j_gd (fun h60 => ?_)
  refine j_getR hx flX8_143 kl1350 h60 (by decide) (by decide +kernel) ?_
  refine j_gd (fun h61 => ?_)
  refine j_getR hx flX8_478 kl1501 h61 (by decide) (by decide +kernel) ?_
  refine j_runA hx 4 (tb := [(274, .iload_n 1), (275, .iload 8), (277, .iadd), (278, .aload_n 0)]) (jtb_ok (by decide +kernel)) (pc' := 279) (lv' := [(0, vR t), (1, vI l1), (2, vI l2), (3, vR l3), (4, vI l4), (5, vI l5), (6, vI l6), (7, vI l7), (8, vI l8)]) (st' := [vR t, vI (l1 + l8), vR (jR W 1501 (jR W 1350 t))]) rfl ?_
  refine j_getR hx flX8_102 kl1338 h60 (by decide) (by decide +kernel) ?_
  refine j_runA hx 1 (tb := [(282, .iload 8)]) (jtb_ok (by decide +kernel)) (pc' := 284) (lv' := [(0, vR t), (1, vI l1), (2, vI l2), (3, vR l3), (4, vI l4), (5, vI l5), (6, vI l6), (7, vI l7), (8, vI l8)]) (st' := [vI l8, vR (jR W 1338 t), vI (l1 + l8), vR (jR W 1501 (jR W 1350 t))]) rfl ?_
  refine j_gd (fun h62 => ?_)
  refine j_iald hx (f := 1338) (o := t) kd1338 rfl (by decide +kernel) h62 ?_
  refine j_gd (fun h63 => ?_)
  refine j_iast hx (f := 1501) (o := (jR W 1350 t)) kd1501 rfl (by decide +kernel) h63 ?_
  refine j_ltw rfl (fun W64 hc65 => ?_)
  have h66 : jC W64 t = 13 := (congrFun hc65 _).trans h60
  have h67 : jC W64 (jR W 1350 t) = 15 := (congrFun hc65 _).trans h61
  refine j_runA hx 1 (tb := [(286, .iinc 8 1)]) (jtb_ok (by decide +kernel)) (pc' := 289) (lv' := [(8, vI (l8 + (kI 1))), (0, vR t), (1, vI l1), (2, vI l2), (3, vR l3), (4, vI l4), (5, vI l5), (6, vI l6), (7, vI l7)]) (st' := []) rfl ?_
  refine j_let (v := (l8 + (kI 1))) (lv := fun v69 => [(8, vI v69), (0, vR t), (1, vI l1), (2, vI l2), (3, vR l3), (4, vI l4), (5, vI l5), (6, vI l6), (7, vI l7)]) (st := fun _ => []) (fun v69 => ?_)
  refine j_goto hx (off := -29) (by decide +kernel) (tgt := 260) (by decide) ?_
  refine j_lv (lv' := [(0, vR t), (1, vI l1), (2, vI l2), (3, vR l3), (4, vI l4), (5, vI l5), (6, vI l6), (7, vI l7), (8, vI v69)]) ⟨rfl, rfl, rfl, rfl, rfl, rfl, rfl, rfl, rfl, trivial⟩ ?_
  exact k260 l1 l2 l3 l4 l5 l6 l7 v69 W64
theorem wmo_orderAll_203 {x : jCx} {en : (fmo_orderAll_S ⊕ (Int32 × jW)) → Option (Outcome × jW)} {t : Nat} (h : hmo_orderAll x en t) (l1 : Int32) (l2 : Int32) (l3 : Nat) (l4 : Int32) (l5 : Int32) (l6 : Int32) (W : jW) : jJ x 9 203 [(0, vR t), (1, vI l1), (2, vI l2), (3, vR l3), (4, vI l4), (5, vI l5), (6, vI l6)] [] W (fmo_orderAll_203 t l1 l2 l3 l4 l5 l6 W) en := by
  have h0 := h
  obtain ⟨hx, hm, hr, he, k2, k29, k63, k83, k93, k188, k203, k260, k318⟩ := h0
  unfold fmo_orderAll_203
  refine j_runA hx 2 (tb := [(203, .iload 6), (205, .aload_n 0)]) (jtb_ok (by decide +kernel)) (pc' := 206) (lv' := [(0, vR t), (1, vI l1), (2, vI l2), (3, vR l3), (4, vI l4), (5, vI l5), (6, vI l6)]) (st' := [vR t, vI l6]) rfl ?_
  refine j_gd (fun h51 => ?_)
  refine j_getI hx flX8_281 kd1311 h51 (by decide) (by decide +kernel) ?_
  refine j_icmp_ge hx (off := 94) (tgt := 303) (by decide +kernel) (by decide) (fun _ => ?_) (fun _ => ?_)
  · refine j_runA hx 1 (tb := [(303, .iinc 5 1)]) (jtb_ok (by decide +kernel)) (pc' := 306) (lv' := [(5, vI (l5 + (kI 1))), (0, vR t), (1, vI l1), (2, vI l2), (3, vR l3), (4, vI l4), (6, vI l6)]) (st' := []) rfl ?_
    refine j_let (v := (l5 + (kI 1))) (lv := fun v52 => [(5, vI v52), (0, vR t), (1, vI l1), (2, vI l2), (3, vR l3), (4, vI l4), (6, vI l6)]) (st := fun _ => []) (fun v52 => ?_)
    refine j_goto hx (off := -118) (by decide +kernel) (tgt := 188) (by decide) ?_
    refine j_lv (lv' := [(0, vR t), (1, vI l1), (2, vI l2), (3, vR l3), (4, vI l4), (5, vI v52)]) ⟨rfl, rfl, rfl, rfl, rfl, rfl, trivial⟩ ?_
    exact k188 l1 l2 l3 l4 v52 W
  refine j_runA hx 1 (tb := [(212, .aload_n 0)]) (jtb_ok (by decide +kernel)) (pc' := 213) (lv' := [(0, vR t), (1, vI l1), (2, vI l2), (3, vR l3), (4, vI l4), (5, vI l5), (6, vI l6)]) (st' := [vR t]) rfl ?_
  refine j_getR hx flX8_114 kl1342 h51 (by decide) (by decide +kernel) ?_
  refine j_runA hx 1 (tb := [(216, .iload 6)]) (jtb_ok (by decide +kernel)) (pc' := 218) (lv' := [(0, vR t), (1, vI l1), (2, vI l2), (3, vR l3), (4, vI l4), (5, vI l5), (6, vI l6)]) (st' := [vI l6, vR (jR W 1342 t)]) rfl ?_
  refine j_gd (fun h53 => ?_)
  refine j_iald hx (f := 1342) (o := t) kd1342 rfl (by decide +kernel) h53 ?_
  refine j_runA hx 1 (tb := [(219, .iload 4)]) (jtb_ok (by decide +kernel)) (pc' := 221) (lv' := [(0, vR t), (1, vI l1), (2, vI l2), (3, vR l3), (4, vI l4), (5, vI l5), (6, vI l6)]) (st' := [vI l4, vI (jA W 1342 t (ix l6))]) rfl ?_
  refine j_icmp_ne hx (off := 76) (tgt := 297) (by decide +kernel) (by decide) (fun _ => ?_) (fun _ => ?_)
  · exact wmo_orderAll_297 h l1 l2 l3 l4 l5 l6 W
  refine j_runA hx 1 (tb := [(224, .aload_n 0)]) (jtb_ok (by decide +kernel)) (pc' := 225) (lv' := [(0, vR t), (1, vI l1), (2, vI l2), (3, vR l3), (4, vI l4), (5, vI l5), (6, vI l6)]) (st' := [vR t]) rfl ?_
  refine j_getR hx flX8_117 kl1343 h51 (by decide) (by decide +kernel) ?_
  refine j_runA hx 1 (tb := [(228, .iload 6)]) (jtb_ok (by decide +kernel)) (pc' := 230) (lv' := [(0, vR t), (1, vI l1), (2, vI l2), (3, vR l3), (4, vI l4), (5, vI l5), (6, vI l6)]) (st' := [vI l6, vR (jR W 1343 t)]) rfl ?_
  refine j_gd (fun h54 => ?_)
  refine j_iald hx (f := 1343) (o := t) kd1343 rfl (by decide +kernel) h54 ?_
  refine j_runA hx 1 (tb := [(231, .iload 5)]) (jtb_ok (by decide +kernel)) (pc' := 233) (lv' := [(0, vR t), (1, vI l1), (2, vI l2), (3, vR l3), (4, vI l4), (5, vI l5), (6, vI l6)]) (st' := [vI l5, vI (jA W 1343 t (ix l6))]) rfl ?_
  refine j_icmp_ne hx (off := 64) (tgt := 297) (by decide +kernel) (by decide) (fun _ => ?_) (fun _ => ?_)
  · exact wmo_orderAll_297 h l1 l2 l3 l4 l5 l6 W
  refine j_runA hx 2 (tb := [(236, .aload_n 0), (237, .iload 6)]) (jtb_ok (by decide +kernel)) (pc' := 239) (lv' := [(0, vR t), (1, vI l1), (2, vI l2), (3, vR l3), (4, vI l4), (5, vI l5), (6, vI l6)]) (st' := [vI l6, vR t]) rfl ?_
  refine j_OI (j_callV (av := [vI l6]) (st := []) hx hr (Or.inl q3215) q3217 qs161 rfl md_fmo_hotWords np_fmo_hotWords (cmo_hotWords t l6 W) (by decide) (Nat.le_of_ble_eq_true rfl) h51 (by decide) (by decide +kernel)) (fun q55 _ => ?_)
  refine j_if_ne hx (off := 6) (tgt := 248) (by decide +kernel) (by decide) (fun _ => ?_) (fun _ => ?_)
  · refine j_runA hx 3 (tb := [(248, .aload_n 0), (249, .iload 6), (251, .iconst 0)]) (jtb_ok (by decide +kernel)) (pc' := 252) (lv' := [(0, vR t), (1, vI l1), (2, vI l2), (3, vR l3), (4, vI l4), (5, vI l5), (6, vI l6)]) (st' := [vI (kI 0), vI l6, vR t]) rfl ?_
    refine j_WI (j_callV (av := [vI l6, vI (kI 0)]) (st := []) hx hr (Or.inl q3227) q3229 qs164 rfl md_fmo_orderOne np_fmo_orderOne (cmo_orderOne t l6 (kI 0) W) (by decide) (Nat.le_of_ble_eq_true rfl) h51 (by decide) (by decide +kernel)) (fun q56 _ => ?_)
    refine j_runA hx 3 (tb := [(255, .istore 7), (257, .iconst 0), (258, .istore 8)]) (jtb_ok (by decide +kernel)) (pc' := 260) (lv' := [(8, vI (kI 0)), (7, vI q56.1), (0, vR t), (1, vI l1), (2, vI l2), (3, vR l3), (4, vI l4), (5, vI l5), (6, vI l6)]) (st' := []) rfl ?_
    refine j_lv (lv' := [(0, vR t), (1, vI l1), (2, vI l2), (3, vR l3), (4, vI l4), (5, vI l5), (6, vI l6), (7, vI q56.1), (8, vI (kI 0))]) ⟨rfl, rfl, rfl, rfl, rfl, rfl, rfl, rfl, rfl, trivial⟩ ?_
    exact k260 l1 l2 l3 l4 l5 l6 q56.1 (kI 0) q56.2
  refine j_goto hx (off := 52) (by decide +kernel) (tgt := 297) (by decide) ?_
  exact wmo_orderAll_297 h l1 l2 l3 l4 l5 l6 W
theorem wmo_orderAll_188 {x : jCx} {en : (fmo_orderAll_S ⊕ (Int32 × jW)) → Option (Outcome × jW)} {t : Nat} (h : hmo_orderAll x en t) (l1 : Int32) (l2 : Int32) (l3 : Nat) (l4 : Int32) (l5 : Int32) (W : jW) : jJ x 9 188 [(0, vR t), (1, vI l1), (2, vI l2), (3, vR l3), (4, vI l4), (5, vI l5)] [] W (fmo_orderAll_188 t l1 l2 l3 l4 l5 W) en := by
  have h0 := h
  obtain ⟨hx, hm, hr, he, k2, k29, k63, k83, k93, k188, k203, k260, k318⟩ := h0
  unfold fmo_orderAll_188
  refine j_runA hx 2 (tb := [(188, .iload 5), (190, .aload_n 0)]) (jtb_ok (by decide +kernel)) (pc' := 191) (lv' := [(0, vR t), (1, vI l1), (2, vI l2), (3, vR l3), (4, vI l4), (5, vI l5)]) (st' := [vR t, vI l5]) rfl ?_
  refine j_gd (fun h47 => ?_)
  refine j_getR hx flX8_120 kl1344 h47 (by decide) (by decide +kernel) ?_
  refine j_runA hx 1 (tb := [(194, .iload 4)]) (jtb_ok (by decide +kernel)) (pc' := 196) (lv' := [(0, vR t), (1, vI l1), (2, vI l2), (3, vR l3), (4, vI l4), (5, vI l5)]) (st' := [vI l4, vR (jR W 1344 t), vI l5]) rfl ?_
  refine j_gd (fun h48 => ?_)
  refine j_iald hx (f := 1344) (o := t) kd1344 rfl (by decide +kernel) h48 ?_
  refine j_icmp_ge hx (off := 112) (tgt := 309) (by decide +kernel) (by decide) (fun _ => ?_) (fun _ => ?_)
  · refine j_runA hx 1 (tb := [(309, .iinc 2 (-1))]) (jtb_ok (by decide +kernel)) (pc' := 312) (lv' := [(2, vI (l2 + (kI (-1)))), (0, vR t), (1, vI l1), (3, vR l3), (4, vI l4), (5, vI l5)]) (st' := []) rfl ?_
    refine j_let (v := (l2 + (kI (-1)))) (lv := fun v49 => [(2, vI v49), (0, vR t), (1, vI l1), (3, vR l3), (4, vI l4), (5, vI l5)]) (st := fun _ => []) (fun v49 => ?_)
    refine j_goto hx (off := -229) (by decide +kernel) (tgt := 83) (by decide) ?_
    refine j_lv (lv' := [(0, vR t), (1, vI l1), (2, vI v49), (3, vR l3)]) ⟨rfl, rfl, rfl, rfl, trivial⟩ ?_
    exact k83 l1 v49 l3 W
  refine j_runA hx 2 (tb := [(200, .iconst 0), (201, .istore 6)]) (jtb_ok (by decide +kernel)) (pc' := 203) (lv' := [(6, vI (kI 0)), (0, vR t), (1, vI l1), (2, vI l2), (3, vR l3), (4, vI l4), (5, vI l5)]) (st' := []) rfl ?_
  refine j_lv (lv' := [(0, vR t), (1, vI l1), (2, vI l2), (3, vR l3), (4, vI l4), (5, vI l5), (6, vI (kI 0))]) ⟨rfl, rfl, rfl, rfl, rfl, rfl, rfl, trivial⟩ ?_
  exact k203 l1 l2 l3 l4 l5 (kI 0) W
theorem wmo_orderAll_93 {x : jCx} {en : (fmo_orderAll_S ⊕ (Int32 × jW)) → Option (Outcome × jW)} {t : Nat} (h : hmo_orderAll x en t) (l1 : Int32) (l2 : Int32) (l3 : Nat) (l4 : Int32) (l5 : Int32) (W : jW) : jJ x 9 93 [(0, vR t), (1, vI l1), (2, vI l2), (3, vR l3), (4, vI l4), (5, vI l5)] [] W (fmo_orderAll_93 t l1 l2 l3 l4 l5 W) en := by
  have h0 := h
  obtain ⟨hx, hm, hr, he, k2, k29, k63, k83, k93, k188, k203, k260, k318⟩ := h0
  unfold fmo_orderAll_93
  refine j_runA hx 2 (tb := [(93, .iload 5), (95, .aload_n 0)]) (jtb_ok (by decide +kernel)) (pc' := 96) (lv' := [(0, vR t), (1, vI l1), (2, vI l2), (3, vR l3), (4, vI l4), (5, vI l5)]) (st' := [vR t, vI l5]) rfl ?_
  refine j_gd (fun h27 => ?_)
  refine j_getI hx flX8_281 kd1311 h27 (by decide) (by decide +kernel) ?_
  refine j_icmp_ge hx (off := 81) (tgt := 180) (by decide +kernel) (by decide) (fun _ => ?_) (fun _ => ?_)
  · refine j_runA hx 3 (tb := [(180, .aload_n 3), (181, .iload 4), (183, .iconst 1)]) (jtb_ok (by decide +kernel)) (pc' := 184) (lv' := [(0, vR t), (1, vI l1), (2, vI l2), (3, vR l3), (4, vI l4), (5, vI l5)]) (st' := [vI (kI 1), vI l4, vR l3]) rfl ?_
    refine j_gd (fun h28 => ?_)
    refine j_gd (fun h29 => ?_)
    refine j_zast hx (f := 1358) (o := t) kd1358 h28 (by decide +kernel) h29 ?_
    refine j_ltw rfl (fun W30 hc31 => ?_)
    have h32 : jC W30 t = 13 := (congrFun hc31 _).trans h27
    refine j_runA hx 2 (tb := [(185, .iconst 0), (186, .istore 5)]) (jtb_ok (by decide +kernel)) (pc' := 188) (lv' := [(5, vI (kI 0)), (0, vR t), (1, vI l1), (2, vI l2), (3, vR l3), (4, vI l4)]) (st' := []) rfl ?_
    refine j_lv (lv' := [(0, vR t), (1, vI l1), (2, vI l2), (3, vR l3), (4, vI l4), (5, vI (kI 0))]) ⟨rfl, rfl, rfl, rfl, rfl, rfl, trivial⟩ ?_
    exact k188 l1 l2 l3 l4 (kI 0) W30
  refine j_runA hx 1 (tb := [(102, .aload_n 0)]) (jtb_ok (by decide +kernel)) (pc' := 103) (lv' := [(0, vR t), (1, vI l1), (2, vI l2), (3, vR l3), (4, vI l4), (5, vI l5)]) (st' := [vR t]) rfl ?_
  refine j_getR hx flX8_114 kl1342 h27 (by decide) (by decide +kernel) ?_
  refine j_runA hx 1 (tb := [(106, .iload 5)]) (jtb_ok (by decide +kernel)) (pc' := 108) (lv' := [(0, vR t), (1, vI l1), (2, vI l2), (3, vR l3), (4, vI l4), (5, vI l5)]) (st' := [vI l5, vR (jR W 1342 t)]) rfl ?_
  refine j_gd (fun h34 => ?_)
  refine j_iald hx (f := 1342) (o := t) kd1342 rfl (by decide +kernel) h34 ?_
  refine j_runA hx 1 (tb := [(109, .istore 6)]) (jtb_ok (by decide +kernel)) (pc' := 111) (lv' := [(6, vI (jA W 1342 t (ix l5))), (0, vR t), (1, vI l1), (2, vI l2), (3, vR l3), (4, vI l4), (5, vI l5)]) (st' := []) rfl ?_
  refine j_let (v := (jA W 1342 t (ix l5))) (lv := fun v35 => [(6, vI v35), (0, vR t), (1, vI l1), (2, vI l2), (3, vR l3), (4, vI l4), (5, vI l5)]) (st := fun _ => []) (fun v35 => ?_)
  refine j_runA hx 1 (tb := [(111, .aload_n 0)]) (jtb_ok (by decide +kernel)) (pc' := 112) (lv' := [(6, vI v35), (0, vR t), (1, vI l1), (2, vI l2), (3, vR l3), (4, vI l4), (5, vI l5)]) (st' := [vR t]) rfl ?_
  refine j_getR hx flX8_120 kl1344 h27 (by decide) (by decide +kernel) ?_
  refine j_runA hx 1 (tb := [(115, .iload 6)]) (jtb_ok (by decide +kernel)) (pc' := 117) (lv' := [(6, vI v35), (0, vR t), (1, vI l1), (2, vI l2), (3, vR l3), (4, vI l4), (5, vI l5)]) (st' := [vI v35, vR (jR W 1344 t)]) rfl ?_
  refine j_gd (fun h36 => ?_)
  refine j_iald hx (f := 1344) (o := t) kd1344 rfl (by decide +kernel) h36 ?_
  refine j_if_eq hx (off := 56) (tgt := 174) (by decide +kernel) (by decide) (fun _ => ?_) (fun _ => ?_)
  · refine j_lv (lv' := [(0, vR t), (1, vI l1), (2, vI l2), (3, vR l3), (4, vI l4), (5, vI l5)]) ⟨rfl, rfl, rfl, rfl, rfl, rfl, trivial⟩ ?_
    exact wmo_orderAll_174 h l1 l2 l3 l4 l5 W
  refine j_runA hx 2 (tb := [(121, .aload_n 3), (122, .iload 6)]) (jtb_ok (by decide +kernel)) (pc' := 124) (lv' := [(6, vI v35), (0, vR t), (1, vI l1), (2, vI l2), (3, vR l3), (4, vI l4), (5, vI l5)]) (st' := [vI v35, vR l3]) rfl ?_
  refine j_gd (fun h37 => ?_)
  refine j_gd (fun h38 => ?_)
  refine j_zald hx (f := 1358) (o := t) kd1358 h37 (by decide +kernel) h38 ?_
  refine j_if_eq hx (off := 6) (tgt := 131) (by decide +kernel) (by decide) (fun _ => ?_) (fun _ => ?_)
  · refine j_runA hx 1 (tb := [(131, .iload 4)]) (jtb_ok (by decide +kernel)) (pc' := 133) (lv' := [(6, vI v35), (0, vR t), (1, vI l1), (2, vI l2), (3, vR l3), (4, vI l4), (5, vI l5)]) (st' := [vI l4]) rfl ?_
    refine j_if_lt hx (off := 37) (tgt := 170) (by decide +kernel) (by decide) (fun _ => ?_) (fun _ => ?_)
    · refine j_lv (lv' := [(0, vR t), (1, vI l1), (2, vI l2), (3, vR l3), (5, vI l5), (6, vI v35)]) ⟨rfl, rfl, rfl, rfl, rfl, rfl, trivial⟩ ?_
      exact wmo_orderAll_170 h l1 l2 l3 l5 v35 W
    refine j_runA hx 1 (tb := [(136, .aload_n 0)]) (jtb_ok (by decide +kernel)) (pc' := 137) (lv' := [(6, vI v35), (0, vR t), (1, vI l1), (2, vI l2), (3, vR l3), (4, vI l4), (5, vI l5)]) (st' := [vR t]) rfl ?_
    refine j_getR hx flX8_123 kl1345 h27 (by decide) (by decide +kernel) ?_
    refine j_runA hx 1 (tb := [(140, .iload 6)]) (jtb_ok (by decide +kernel)) (pc' := 142) (lv' := [(6, vI v35), (0, vR t), (1, vI l1), (2, vI l2), (3, vR l3), (4, vI l4), (5, vI l5)]) (st' := [vI v35, vR (jR W 1345 t)]) rfl ?_
    refine j_gd (fun h39 => ?_)
    refine j_lald hx (f := 1345) (o := t) kd1345 rfl (by decide +kernel) h39 ?_
    refine j_runA hx 1 (tb := [(143, .aload_n 0)]) (jtb_ok (by decide +kernel)) (pc' := 144) (lv' := [(6, vI v35), (0, vR t), (1, vI l1), (2, vI l2), (3, vR l3), (4, vI l4), (5, vI l5)]) (st' := [vR t, vL (jB W 1345 t (ix v35))]) rfl ?_
    refine j_getR hx flX8_126 kl1346 h27 (by decide) (by decide +kernel) ?_
    refine j_runA hx 1 (tb := [(147, .iload 4)]) (jtb_ok (by decide +kernel)) (pc' := 149) (lv' := [(6, vI v35), (0, vR t), (1, vI l1), (2, vI l2), (3, vR l3), (4, vI l4), (5, vI l5)]) (st' := [vI l4, vR (jR W 1346 t), vL (jB W 1345 t (ix v35))]) rfl ?_
    refine j_gd (fun h40 => ?_)
    refine j_lald hx (f := 1346) (o := t) kd1346 rfl (by decide +kernel) h40 ?_
    refine j_runA hx 2 (tb := [(150, .lmul), (151, .aload_n 0)]) (jtb_ok (by decide +kernel)) (pc' := 152) (lv' := [(6, vI v35), (0, vR t), (1, vI l1), (2, vI l2), (3, vR l3), (4, vI l4), (5, vI l5)]) (st' := [vR t, vL ((jB W 1345 t (ix v35)) * (jB W 1346 t (ix l4)))]) rfl ?_
    refine j_getR hx flX8_123 kl1345 h27 (by decide) (by decide +kernel) ?_
    refine j_runA hx 1 (tb := [(155, .iload 4)]) (jtb_ok (by decide +kernel)) (pc' := 157) (lv' := [(6, vI v35), (0, vR t), (1, vI l1), (2, vI l2), (3, vR l3), (4, vI l4), (5, vI l5)]) (st' := [vI l4, vR (jR W 1345 t), vL ((jB W 1345 t (ix v35)) * (jB W 1346 t (ix l4)))]) rfl ?_
    refine j_gd (fun h41 => ?_)
    refine j_lald hx (f := 1345) (o := t) kd1345 rfl (by decide +kernel) h41 ?_
    refine j_runA hx 1 (tb := [(158, .aload_n 0)]) (jtb_ok (by decide +kernel)) (pc' := 159) (lv' := [(6, vI v35), (0, vR t), (1, vI l1), (2, vI l2), (3, vR l3), (4, vI l4), (5, vI l5)]) (st' := [vR t, vL (jB W 1345 t (ix l4)), vL ((jB W 1345 t (ix v35)) * (jB W 1346 t (ix l4)))]) rfl ?_
    refine j_getR hx flX8_126 kl1346 h27 (by decide) (by decide +kernel) ?_
    refine j_runA hx 1 (tb := [(162, .iload 6)]) (jtb_ok (by decide +kernel)) (pc' := 164) (lv' := [(6, vI v35), (0, vR t), (1, vI l1), (2, vI l2), (3, vR l3), (4, vI l4), (5, vI l5)]) (st' := [vI v35, vR (jR W 1346 t), vL (jB W 1345 t (ix l4)), vL ((jB W 1345 t (ix v35)) * (jB W 1346 t (ix l4)))]) rfl ?_
    refine j_gd (fun h42 => ?_)
    refine j_lald hx (f := 1346) (o := t) kd1346 rfl (by decide +kernel) h42 ?_
    refine j_runA hx 1 (tb := [(165, .lmul)]) (jtb_ok (by decide +kernel)) (pc' := 166) (lv' := [(6, vI v35), (0, vR t), (1, vI l1), (2, vI l2), (3, vR l3), (4, vI l4), (5, vI l5)]) (st' := [vL ((jB W 1345 t (ix l4)) * (jB W 1346 t (ix v35))), vL ((jB W 1345 t (ix v35)) * (jB W 1346 t (ix l4)))]) rfl ?_
    refine j_lcmp_le hx (off := 7) (tgt := 174) (by decide +kernel) (by decide +kernel) (by decide) (fun _ => ?_) (fun _ => ?_)
    · refine j_lv (lv' := [(0, vR t), (1, vI l1), (2, vI l2), (3, vR l3), (4, vI l4), (5, vI l5)]) ⟨rfl, rfl, rfl, rfl, rfl, rfl, trivial⟩ ?_
      exact wmo_orderAll_174 h l1 l2 l3 l4 l5 W
    refine j_lv (lv' := [(0, vR t), (1, vI l1), (2, vI l2), (3, vR l3), (5, vI l5), (6, vI v35)]) ⟨rfl, rfl, rfl, rfl, rfl, rfl, trivial⟩ ?_
    exact wmo_orderAll_170 h l1 l2 l3 l5 v35 W
  refine j_goto hx (off := 46) (by decide +kernel) (tgt := 174) (by decide) ?_
  refine j_lv (lv' := [(0, vR t), (1, vI l1), (2, vI l2), (3, vR l3), (4, vI l4), (5, vI l5)]) ⟨rfl, rfl, rfl, rfl, rfl, rfl, trivial⟩ ?_
  exact wmo_orderAll_174 h l1 l2 l3 l4 l5 W
theorem wmo_orderAll_355 {x : jCx} {en : (fmo_orderAll_S ⊕ (Int32 × jW)) → Option (Outcome × jW)} {t : Nat} (h : hmo_orderAll x en t) (l1 : Int32) (l4 : Int32) (W : jW) : jJ x 9 355 [(0, vR t), (1, vI l1), (4, vI l4)] [] W (fmo_orderAll_355 t l1 l4 W) en := by
  have h0 := h
  obtain ⟨hx, hm, hr, he, k2, k29, k63, k83, k93, k188, k203, k260, k318⟩ := h0
  unfold fmo_orderAll_355
  refine j_runA hx 1 (tb := [(355, .iinc 4 1)]) (jtb_ok (by decide +kernel)) (pc' := 358) (lv' := [(4, vI (l4 + (kI 1))), (0, vR t), (1, vI l1)]) (st' := []) rfl ?_
  refine j_let (v := (l4 + (kI 1))) (lv := fun v86 => [(4, vI v86), (0, vR t), (1, vI l1)]) (st := fun _ => []) (fun v86 => ?_)
  refine j_goto hx (off := -40) (by decide +kernel) (tgt := 318) (by decide) ?_
  refine j_lv (lv' := [(0, vR t), (1, vI l1), (4, vI v86)]) ⟨rfl, rfl, rfl, trivial⟩ ?_
  exact k318 l1 v86 W
theorem wmo_orderAll_318 {x : jCx} {en : (fmo_orderAll_S ⊕ (Int32 × jW)) → Option (Outcome × jW)} {t : Nat} (h : hmo_orderAll x en t) (l1 : Int32) (l4 : Int32) (W : jW) : jJ x 9 318 [(0, vR t), (1, vI l1), (4, vI l4)] [] W (fmo_orderAll_318 t l1 l4 W) en := by
  have h0 := h
  obtain ⟨hx, hm, hr, he, k2, k29, k63, k83, k93, k188, k203, k260, k318⟩ := h0
  unfold fmo_orderAll_318
  refine j_runA hx 2 (tb := [(318, .iload 4), (320, .aload_n 0)]) (jtb_ok (by decide +kernel)) (pc' := 321) (lv' := [(0, vR t), (1, vI l1), (4, vI l4)]) (st' := [vR t, vI l4]) rfl ?_
  refine j_gd (fun h73 => ?_)
  refine j_getI hx flX8_281 kd1311 h73 (by decide) (by decide +kernel) ?_
  refine j_icmp_ge hx (off := 37) (tgt := 361) (by decide +kernel) (by decide) (fun _ => ?_) (fun _ => ?_)
  · refine j_runA hx 1 (tb := [(361, .iload_n 1)]) (jtb_ok (by decide +kernel)) (pc' := 362) (lv' := [(0, vR t), (1, vI l1), (4, vI l4)]) (st' := [vI l1]) rfl ?_
    exact j_iret hx hm (by decide +kernel) rfl (he _)
  refine j_runA hx 2 (tb := [(327, .aload_n 0), (328, .iload 4)]) (jtb_ok (by decide +kernel)) (pc' := 330) (lv' := [(0, vR t), (1, vI l1), (4, vI l4)]) (st' := [vI l4, vR t]) rfl ?_
  refine j_OI (j_callV (av := [vI l4]) (st := []) hx hr (Or.inl q3215) q3217 qs161 rfl md_fmo_hotWords np_fmo_hotWords (cmo_hotWords t l4 W) (by decide) (Nat.le_of_ble_eq_true rfl) h73 (by decide) (by decide +kernel)) (fun q74 _ => ?_)
  refine j_if_le hx (off := 6) (tgt := 339) (by decide +kernel) (by decide) (fun _ => ?_) (fun _ => ?_)
  · refine j_runA hx 1 (tb := [(339, .aload_n 0)]) (jtb_ok (by decide +kernel)) (pc' := 340) (lv' := [(0, vR t), (1, vI l1), (4, vI l4)]) (st' := [vR t]) rfl ?_
    refine j_getR hx flX8_108 kl1340 h73 (by decide) (by decide +kernel) ?_
    refine j_runA hx 2 (tb := [(343, .iload 4), (345, .lconst 0)]) (jtb_ok (by decide +kernel)) (pc' := 346) (lv' := [(0, vR t), (1, vI l1), (4, vI l4)]) (st' := [vL (kJ 0), vI l4, vR (jR W 1340 t)]) rfl ?_
    refine j_gd (fun h75 => ?_)
    refine j_last hx (f := 1340) (o := t) kd1340 rfl (by decide +kernel) h75 ?_
    refine j_ltw rfl (fun W76 hc77 => ?_)
    have h78 : jC W76 t = 13 := (congrFun hc77 _).trans h73
    refine j_runA hx 1 (tb := [(347, .aload_n 0)]) (jtb_ok (by decide +kernel)) (pc' := 348) (lv' := [(0, vR t), (1, vI l1), (4, vI l4)]) (st' := [vR t]) rfl ?_
    refine j_getR hx flX8_111 kl1341 h78 (by decide) (by decide +kernel) ?_
    refine j_runA hx 2 (tb := [(351, .iload 4), (353, .lconst 0)]) (jtb_ok (by decide +kernel)) (pc' := 354) (lv' := [(0, vR t), (1, vI l1), (4, vI l4)]) (st' := [vL (kJ 0), vI l4, vR (jR W76 1341 t)]) rfl ?_
    refine j_gd (fun h80 => ?_)
    refine j_last hx (f := 1341) (o := t) kd1341 rfl (by decide +kernel) h80 ?_
    refine j_ltw rfl (fun W81 hc82 => ?_)
    have h83 : jC W81 t = 13 := (congrFun hc82 _).trans h78
    exact wmo_orderAll_355 h l1 l4 W81
  refine j_goto hx (off := 19) (by decide +kernel) (tgt := 355) (by decide) ?_
  exact wmo_orderAll_355 h l1 l4 W
theorem wmo_orderAll_83 {x : jCx} {en : (fmo_orderAll_S ⊕ (Int32 × jW)) → Option (Outcome × jW)} {t : Nat} (h : hmo_orderAll x en t) (l1 : Int32) (l2 : Int32) (l3 : Nat) (W : jW) : jJ x 9 83 [(0, vR t), (1, vI l1), (2, vI l2), (3, vR l3)] [] W (fmo_orderAll_83 t l1 l2 l3 W) en := by
  have h0 := h
  obtain ⟨hx, hm, hr, he, k2, k29, k63, k83, k93, k188, k203, k260, k318⟩ := h0
  unfold fmo_orderAll_83
  refine j_runA hx 1 (tb := [(83, .iload_n 2)]) (jtb_ok (by decide +kernel)) (pc' := 84) (lv' := [(0, vR t), (1, vI l1), (2, vI l2), (3, vR l3)]) (st' := [vI l2]) rfl ?_
  refine j_if_le hx (off := 231) (tgt := 315) (by decide +kernel) (by decide) (fun _ => ?_) (fun _ => ?_)
  · refine j_runA hx 2 (tb := [(315, .iconst 0), (316, .istore 4)]) (jtb_ok (by decide +kernel)) (pc' := 318) (lv' := [(4, vI (kI 0)), (0, vR t), (1, vI l1), (2, vI l2), (3, vR l3)]) (st' := []) rfl ?_
    refine j_lv (lv' := [(0, vR t), (1, vI l1), (4, vI (kI 0))]) ⟨rfl, rfl, rfl, trivial⟩ ?_
    exact k318 l1 (kI 0) W
  refine j_runA hx 4 (tb := [(87, .iconst (-1)), (88, .istore 4), (90, .iconst 0), (91, .istore 5)]) (jtb_ok (by decide +kernel)) (pc' := 93) (lv' := [(5, vI (kI 0)), (4, vI (kI (-1))), (0, vR t), (1, vI l1), (2, vI l2), (3, vR l3)]) (st' := []) rfl ?_
  refine j_lv (lv' := [(0, vR t), (1, vI l1), (2, vI l2), (3, vR l3), (4, vI (kI (-1))), (5, vI (kI 0))]) ⟨rfl, rfl, rfl, rfl, rfl, rfl, trivial⟩ ?_
  exact k93 l1 l2 l3 (kI (-1)) (kI 0) W
theorem wmo_orderAll_63 {x : jCx} {en : (fmo_orderAll_S ⊕ (Int32 × jW)) → Option (Outcome × jW)} {t : Nat} (h : hmo_orderAll x en t) (l1 : Int32) (l2 : Int32) (l3 : Nat) (l4 : Int32) (W : jW) : jJ x 9 63 [(0, vR t), (1, vI l1), (2, vI l2), (3, vR l3), (4, vI l4)] [] W (fmo_orderAll_63 t l1 l2 l3 l4 W) en := by
  have h0 := h
  obtain ⟨hx, hm, hr, he, k2, k29, k63, k83, k93, k188, k203, k260, k318⟩ := h0
  unfold fmo_orderAll_63
  refine j_runA hx 2 (tb := [(63, .iload 4), (65, .aload_n 0)]) (jtb_ok (by decide +kernel)) (pc' := 66) (lv' := [(0, vR t), (1, vI l1), (2, vI l2), (3, vR l3), (4, vI l4)]) (st' := [vR t, vI l4]) rfl ?_
  refine j_gd (fun h17 => ?_)
  refine j_getI hx flX8_281 kd1311 h17 (by decide) (by decide +kernel) ?_
  refine j_icmp_ge hx (off := 14) (tgt := 83) (by decide +kernel) (by decide) (fun _ => ?_) (fun _ => ?_)
  · refine j_lv (lv' := [(0, vR t), (1, vI l1), (2, vI l2), (3, vR l3)]) ⟨rfl, rfl, rfl, rfl, trivial⟩ ?_
    exact k83 l1 l2 l3 W
  refine j_runA hx 3 (tb := [(72, .aload_n 3), (73, .iload 4), (75, .iconst 0)]) (jtb_ok (by decide +kernel)) (pc' := 76) (lv' := [(0, vR t), (1, vI l1), (2, vI l2), (3, vR l3), (4, vI l4)]) (st' := [vI (kI 0), vI l4, vR l3]) rfl ?_
  refine j_gd (fun h18 => ?_)
  refine j_gd (fun h19 => ?_)
  refine j_zast hx (f := 1358) (o := t) kd1358 h18 (by decide +kernel) h19 ?_
  refine j_ltw rfl (fun W20 hc21 => ?_)
  have h22 : jC W20 t = 13 := (congrFun hc21 _).trans h17
  refine j_runA hx 1 (tb := [(77, .iinc 4 1)]) (jtb_ok (by decide +kernel)) (pc' := 80) (lv' := [(4, vI (l4 + (kI 1))), (0, vR t), (1, vI l1), (2, vI l2), (3, vR l3)]) (st' := []) rfl ?_
  refine j_let (v := (l4 + (kI 1))) (lv := fun v24 => [(4, vI v24), (0, vR t), (1, vI l1), (2, vI l2), (3, vR l3)]) (st := fun _ => []) (fun v24 => ?_)
  refine j_goto hx (off := -17) (by decide +kernel) (tgt := 63) (by decide) ?_
  refine j_lv (lv' := [(0, vR t), (1, vI l1), (2, vI l2), (3, vR l3), (4, vI v24)]) ⟨rfl, rfl, rfl, rfl, rfl, trivial⟩ ?_
  exact k63 l1 l2 l3 v24 W20
theorem wmo_orderAll_29 {x : jCx} {en : (fmo_orderAll_S ⊕ (Int32 × jW)) → Option (Outcome × jW)} {t : Nat} (h : hmo_orderAll x en t) (l1 : Int32) (l2 : Int32) (l3 : Int32) (W : jW) : jJ x 9 29 [(0, vR t), (1, vI l1), (2, vI l2), (3, vI l3)] [] W (fmo_orderAll_29 t l1 l2 l3 W) en := by
  have h0 := h
  obtain ⟨hx, hm, hr, he, k2, k29, k63, k83, k93, k188, k203, k260, k318⟩ := h0
  unfold fmo_orderAll_29
  refine j_runA hx 2 (tb := [(29, .iload_n 3), (30, .aload_n 0)]) (jtb_ok (by decide +kernel)) (pc' := 31) (lv' := [(0, vR t), (1, vI l1), (2, vI l2), (3, vI l3)]) (st' := [vR t, vI l3]) rfl ?_
  refine j_gd (fun h10 => ?_)
  refine j_getI hx flX8_281 kd1311 h10 (by decide) (by decide +kernel) ?_
  refine j_icmp_ge hx (off := 21) (tgt := 55) (by decide +kernel) (by decide) (fun _ => ?_) (fun _ => ?_)
  · refine j_runA hx 1 (tb := [(55, .aload_n 0)]) (jtb_ok (by decide +kernel)) (pc' := 56) (lv' := [(0, vR t), (1, vI l1), (2, vI l2), (3, vI l3)]) (st' := [vR t]) rfl ?_
    refine j_getR hx flX8_154 kl1358 h10 (by decide) (by decide +kernel) ?_
    refine j_runA hx 1 (tb := [(59, .astore_n 3)]) (jtb_ok (by decide +kernel)) (pc' := 60) (lv' := [(3, vR (jR W 1358 t)), (0, vR t), (1, vI l1), (2, vI l2)]) (st' := []) rfl ?_
    refine j_let (v := (jR W 1358 t)) (lv := fun v11 => [(3, vR v11), (0, vR t), (1, vI l1), (2, vI l2)]) (st := fun _ => []) (fun v11 => ?_)
    refine j_runA hx 2 (tb := [(60, .iconst 0), (61, .istore 4)]) (jtb_ok (by decide +kernel)) (pc' := 63) (lv' := [(4, vI (kI 0)), (3, vR v11), (0, vR t), (1, vI l1), (2, vI l2)]) (st' := []) rfl ?_
    refine j_lv (lv' := [(0, vR t), (1, vI l1), (2, vI l2), (3, vR v11), (4, vI (kI 0))]) ⟨rfl, rfl, rfl, rfl, rfl, trivial⟩ ?_
    exact k63 l1 l2 v11 (kI 0) W
  refine j_runA hx 1 (tb := [(37, .aload_n 0)]) (jtb_ok (by decide +kernel)) (pc' := 38) (lv' := [(0, vR t), (1, vI l1), (2, vI l2), (3, vI l3)]) (st' := [vR t]) rfl ?_
  refine j_getR hx flX8_120 kl1344 h10 (by decide) (by decide +kernel) ?_
  refine j_runA hx 1 (tb := [(41, .iload_n 3)]) (jtb_ok (by decide +kernel)) (pc' := 42) (lv' := [(0, vR t), (1, vI l1), (2, vI l2), (3, vI l3)]) (st' := [vI l3, vR (jR W 1344 t)]) rfl ?_
  refine j_gd (fun h12 => ?_)
  refine j_iald hx (f := 1344) (o := t) kd1344 rfl (by decide +kernel) h12 ?_
  refine j_if_le hx (off := 6) (tgt := 49) (by decide +kernel) (by decide) (fun _ => ?_) (fun _ => ?_)
  · exact wmo_orderAll_49 h l1 l2 l3 W
  refine j_runA hx 1 (tb := [(46, .iinc 2 1)]) (jtb_ok (by decide +kernel)) (pc' := 49) (lv' := [(2, vI (l2 + (kI 1))), (0, vR t), (1, vI l1), (3, vI l3)]) (st' := []) rfl ?_
  refine j_let (v := (l2 + (kI 1))) (lv := fun v13 => [(2, vI v13), (0, vR t), (1, vI l1), (3, vI l3)]) (st := fun _ => []) (fun v13 => ?_)
  refine j_lv (lv' := [(0, vR t), (1, vI l1), (2, vI v13), (3, vI l3)]) ⟨rfl, rfl, rfl, rfl, trivial⟩ ?_
  exact wmo_orderAll_49 h l1 v13 l3 W
theorem wmo_orderAll_2 {x : jCx} {en : (fmo_orderAll_S ⊕ (Int32 × jW)) → Option (Outcome × jW)} {t : Nat} (h : hmo_orderAll x en t) (l1 : Int32) (W : jW) : jJ x 9 2 [(0, vR t), (1, vI l1)] [] W (fmo_orderAll_2 t l1 W) en := by
  have h0 := h
  obtain ⟨hx, hm, hr, he, k2, k29, k63, k83, k93, k188, k203, k260, k318⟩ := h0
  unfold fmo_orderAll_2
  refine j_runA hx 2 (tb := [(2, .iload_n 1), (3, .aload_n 0)]) (jtb_ok (by decide +kernel)) (pc' := 4) (lv' := [(0, vR t), (1, vI l1)]) (st' := [vR t, vI l1]) rfl ?_
  refine j_gd (fun h2 => ?_)
  refine j_getI hx flX8_281 kd1311 h2 (by decide) (by decide +kernel) ?_
  refine j_icmp_ge hx (off := 16) (tgt := 23) (by decide +kernel) (by decide) (fun _ => ?_) (fun _ => ?_)
  · refine j_runA hx 6 (tb := [(23, .iconst 0), (24, .istore_n 1), (25, .iconst 0), (26, .istore_n 2), (27, .iconst 0), (28, .istore_n 3)]) (jtb_ok (by decide +kernel)) (pc' := 29) (lv' := [(3, vI (kI 0)), (2, vI (kI 0)), (1, vI (kI 0)), (0, vR t)]) (st' := []) rfl ?_
    refine j_lv (lv' := [(0, vR t), (1, vI (kI 0)), (2, vI (kI 0)), (3, vI (kI 0))]) ⟨rfl, rfl, rfl, rfl, trivial⟩ ?_
    exact k29 (kI 0) (kI 0) (kI 0) W
  refine j_runA hx 1 (tb := [(10, .aload_n 0)]) (jtb_ok (by decide +kernel)) (pc' := 11) (lv' := [(0, vR t), (1, vI l1)]) (st' := [vR t]) rfl ?_
  refine j_getR hx flX8_99 kl1337 h2 (by decide) (by decide +kernel) ?_
  refine j_runA hx 2 (tb := [(14, .iload_n 1), (15, .iconst 0)]) (jtb_ok (by decide +kernel)) (pc' := 16) (lv' := [(0, vR t), (1, vI l1)]) (st' := [vI (kI 0), vI l1, vR (jR W 1337 t)]) rfl ?_
  refine j_gd (fun h3 => ?_)
  refine j_zast hx (f := 1337) (o := t) kd1337 rfl (by decide +kernel) h3 ?_
  refine j_ltw rfl (fun W4 hc5 => ?_)
  have h6 : jC W4 t = 13 := (congrFun hc5 _).trans h2
  refine j_runA hx 1 (tb := [(17, .iinc 1 1)]) (jtb_ok (by decide +kernel)) (pc' := 20) (lv' := [(1, vI (l1 + (kI 1))), (0, vR t)]) (st' := []) rfl ?_
  refine j_let (v := (l1 + (kI 1))) (lv := fun v8 => [(1, vI v8), (0, vR t)]) (st := fun _ => []) (fun v8 => ?_)
  refine j_goto hx (off := -18) (by decide +kernel) (tgt := 2) (by decide) ?_
  refine j_lv (lv' := [(0, vR t), (1, vI v8)]) ⟨rfl, rfl, trivial⟩ ?_
  exact k2 v8 W4
theorem wmo_orderAll {x : jCx} {en : (fmo_orderAll_S ⊕ (Int32 × jW)) → Option (Outcome × jW)} {t : Nat} (h : hmo_orderAll x en t) (W : jW) : jJ x 9 0 [(0, vR t)] [] W (fmo_orderAll_0 t W) en := by
  have h0 := h
  obtain ⟨hx, hm, hr, he, k2, k29, k63, k83, k93, k188, k203, k260, k318⟩ := h0
  unfold fmo_orderAll_0
  refine j_runA hx 2 (tb := [(0, .iconst 0), (1, .istore_n 1)]) (jtb_ok (by decide +kernel)) (pc' := 2) (lv' := [(1, vI (kI 0)), (0, vR t)]) (st' := []) rfl ?_
  refine j_lv (lv' := [(0, vR t), (1, vI (kI 0))]) ⟨rfl, rfl, trivial⟩ ?_
  exact k2 (kI 0) W
theorem cmo_orderAll (t : Nat) (W : jW) : jM yX8_orderAll cX8_orderAll 9 (Option.some Jvm.ClassFile.FieldType.int) [] 5 86 [vR t] W ((fmo_orderAll t W).bind (fun q => some (.returned (some (.int q.1)), q.2))) := by
  refine jM.of (Nat.le_of_ble_eq_true rfl) (fun x hx hm hr => ?_)
  refine j_begin (P := (Sum.elim (fun s => (2, [(0, vR t), (1, vI s.1)], s.2)) (Sum.elim (fun s => (29, [(0, vR t), (1, vI s.1), (2, vI s.2.1), (3, vI s.2.2.1)], s.2.2.2)) (Sum.elim (fun s => (63, [(0, vR t), (1, vI s.1), (2, vI s.2.1), (3, vR s.2.2.1), (4, vI s.2.2.2.1)], s.2.2.2.2)) (Sum.elim (fun s => (83, [(0, vR t), (1, vI s.1), (2, vI s.2.1), (3, vR s.2.2.1)], s.2.2.2)) (Sum.elim (fun s => (93, [(0, vR t), (1, vI s.1), (2, vI s.2.1), (3, vR s.2.2.1), (4, vI s.2.2.2.1), (5, vI s.2.2.2.2.1)], s.2.2.2.2.2)) (Sum.elim (fun s => (188, [(0, vR t), (1, vI s.1), (2, vI s.2.1), (3, vR s.2.2.1), (4, vI s.2.2.2.1), (5, vI s.2.2.2.2.1)], s.2.2.2.2.2)) (Sum.elim (fun s => (203, [(0, vR t), (1, vI s.1), (2, vI s.2.1), (3, vR s.2.2.1), (4, vI s.2.2.2.1), (5, vI s.2.2.2.2.1), (6, vI s.2.2.2.2.2.1)], s.2.2.2.2.2.2)) (Sum.elim (fun s => (260, [(0, vR t), (1, vI s.1), (2, vI s.2.1), (3, vR s.2.2.1), (4, vI s.2.2.2.1), (5, vI s.2.2.2.2.1), (6, vI s.2.2.2.2.2.1), (7, vI s.2.2.2.2.2.2.1), (8, vI s.2.2.2.2.2.2.2.1)], s.2.2.2.2.2.2.2.2)) (fun s => (318, [(0, vR t), (1, vI s.1), (4, vI s.2.1)], s.2.2))))))))))) (fun en he hk => ?_)
  have h : hmo_orderAll x en t := ⟨hx, hm, hr, fun q => he _, fun l1 W => hk (.inl (l1, W)), fun l1 l2 l3 W => hk (.inr (.inl (l1, l2, l3, W))), fun l1 l2 l3 l4 W => hk (.inr (.inr (.inl (l1, l2, l3, l4, W)))), fun l1 l2 l3 W => hk (.inr (.inr (.inr (.inl (l1, l2, l3, W))))), fun l1 l2 l3 l4 l5 W => hk (.inr (.inr (.inr (.inr (.inl (l1, l2, l3, l4, l5, W)))))), fun l1 l2 l3 l4 l5 W => hk (.inr (.inr (.inr (.inr (.inr (.inl (l1, l2, l3, l4, l5, W))))))), fun l1 l2 l3 l4 l5 l6 W => hk (.inr (.inr (.inr (.inr (.inr (.inr (.inl (l1, l2, l3, l4, l5, l6, W)))))))), fun l1 l2 l3 l4 l5 l6 l7 l8 W => hk (.inr (.inr (.inr (.inr (.inr (.inr (.inr (.inl (l1, l2, l3, l4, l5, l6, l7, l8, W))))))))), fun l1 l4 W => hk (.inr (.inr (.inr (.inr (.inr (.inr (.inr (.inr (l1, l4, W)))))))))⟩
  refine ⟨fun s => ?_, wmo_orderAll h W⟩
  rcases s with s | s | s | s | s | s | s | s | s
  · exact wmo_orderAll_2 h s.1 s.2
  · exact wmo_orderAll_29 h s.1 s.2.1 s.2.2.1 s.2.2.2
  · exact wmo_orderAll_63 h s.1 s.2.1 s.2.2.1 s.2.2.2.1 s.2.2.2.2
  · exact wmo_orderAll_83 h s.1 s.2.1 s.2.2.1 s.2.2.2
  · exact wmo_orderAll_93 h s.1 s.2.1 s.2.2.1 s.2.2.2.1 s.2.2.2.2.1 s.2.2.2.2.2
  · exact wmo_orderAll_188 h s.1 s.2.1 s.2.2.1 s.2.2.2.1 s.2.2.2.2.1 s.2.2.2.2.2
  · exact wmo_orderAll_203 h s.1 s.2.1 s.2.2.1 s.2.2.2.1 s.2.2.2.2.1 s.2.2.2.2.2.1 s.2.2.2.2.2.2
  · exact wmo_orderAll_260 h s.1 s.2.1 s.2.2.1 s.2.2.2.1 s.2.2.2.2.1 s.2.2.2.2.2.1 s.2.2.2.2.2.2.1 s.2.2.2.2.2.2.2.1 s.2.2.2.2.2.2.2.2
  · exact wmo_orderAll_318 h s.1 s.2.1 s.2.2
def hmo_store (x : jCx) (en : (fmo_store_S ⊕ (jW)) → Option (Outcome × jW)) (t : Nat) (a1 : Int64) (a3 : Int32) (a4 : Int64) : Prop :=
  jOK x RX8 cX8_store 7 ∧
  jMt x "store" (Option.none : Option Jvm.ClassFile.FieldType) [] ∧
  jRm x 0 0 ∧
  (∀ q : jW, en (.inr q) = some (.returned none, q)) ∧
  (∀ (l6 : Int32) (W : jW), jJ x 7 3 [(0, vR t), (1, vL a1), (3, vI a3), (4, vL a4), (6, vI l6)] [] W (some (.inl (l6, W))) en)
theorem wmo_store_3 {x : jCx} {en : (fmo_store_S ⊕ (jW)) → Option (Outcome × jW)} {t : Nat} {a1 : Int64} {a3 : Int32} {a4 : Int64} (h : hmo_store x en t a1 a3 a4) (l6 : Int32) (W : jW) : jJ x 7 3 [(0, vR t), (1, vL a1), (3, vI a3), (4, vL a4), (6, vI l6)] [] W (fmo_store_3 t a1 a3 a4 l6 W) en := by
  have h0 := h
  obtain ⟨hx, hm, hr, he, k3⟩ := h0
  unfold fmo_store_3
  refine j_runA hx 2 (tb := [(3, .iload 6), (5, .iload_n 3)]) (jtb_ok (by decide +kernel)) (pc' := 6) (lv' := [(0, vR t), (1, vL a1), (3, vI a3), (4, vL a4), (6, vI l6)]) (st' := [vI a3, vI l6]) rfl ?_
  refine j_icmp_ge hx (off := 29) (tgt := 35) (by decide +kernel) (by decide) (fun _ => ?_) (fun _ => ?_)
  · exact j_vret hx hm (by decide +kernel) (he _)
  refine j_runA hx 1 (tb := [(9, .aload_n 0)]) (jtb_ok (by decide +kernel)) (pc' := 10) (lv' := [(0, vR t), (1, vL a1), (3, vI a3), (4, vL a4), (6, vI l6)]) (st' := [vR t]) rfl ?_
  refine j_gd (fun h2 => ?_)
  refine j_getR hx flX8_151 kl1354 h2 (by decide) (by decide +kernel) ?_
  refine j_runA hx 11 (tb := [(13, .lload_n 1), (14, .l2i), (15, .iload 6), (17, .iadd), (18, .lload 4), (20, .bipush 8), (22, .iload 6), (24, .imul), (25, .lshr), (26, .l2i), (27, .i2b)]) (jtb_ok (by decide +kernel)) (pc' := 28) (lv' := [(0, vR t), (1, vL a1), (3, vI a3), (4, vL a4), (6, vI l6)]) (st' := [vI (i2b ((lxr a4 ((kI 8) * l6)).toInt32)), vI (a1.toInt32 + l6), vR (jR W 1354 t)]) rfl ?_
  refine j_gd (fun h3 => ?_)
  refine j_gd (fun h4 => ?_)
  refine j_bast hx (f := 9004) (o := (jR W 1354 t)) kd9004 h3 (by decide +kernel) h4 ?_
  refine j_ltw rfl (fun W5 hc6 => ?_)
  have h7 : jC W5 t = 13 := (congrFun hc6 _).trans h2
  refine j_runA hx 1 (tb := [(29, .iinc 6 1)]) (jtb_ok (by decide +kernel)) (pc' := 32) (lv' := [(6, vI (l6 + (kI 1))), (0, vR t), (1, vL a1), (3, vI a3), (4, vL a4)]) (st' := []) rfl ?_
  refine j_let (v := (l6 + (kI 1))) (lv := fun v9 => [(6, vI v9), (0, vR t), (1, vL a1), (3, vI a3), (4, vL a4)]) (st := fun _ => []) (fun v9 => ?_)
  refine j_goto hx (off := -29) (by decide +kernel) (tgt := 3) (by decide) ?_
  refine j_lv (lv' := [(0, vR t), (1, vL a1), (3, vI a3), (4, vL a4), (6, vI v9)]) ⟨rfl, rfl, rfl, rfl, rfl, trivial⟩ ?_
  exact k3 v9 W5
theorem wmo_store {x : jCx} {en : (fmo_store_S ⊕ (jW)) → Option (Outcome × jW)} {t : Nat} {a1 : Int64} {a3 : Int32} {a4 : Int64} (h : hmo_store x en t a1 a3 a4) (W : jW) : jJ x 7 0 [(0, vR t), (1, vL a1), (3, vI a3), (4, vL a4)] [] W (fmo_store_0 t a1 a3 a4 W) en := by
  have h0 := h
  obtain ⟨hx, hm, hr, he, k3⟩ := h0
  unfold fmo_store_0
  refine j_runA hx 2 (tb := [(0, .iconst 0), (1, .istore 6)]) (jtb_ok (by decide +kernel)) (pc' := 3) (lv' := [(6, vI (kI 0)), (0, vR t), (1, vL a1), (3, vI a3), (4, vL a4)]) (st' := []) rfl ?_
  refine j_lv (lv' := [(0, vR t), (1, vL a1), (3, vI a3), (4, vL a4), (6, vI (kI 0))]) ⟨rfl, rfl, rfl, rfl, rfl, trivial⟩ ?_
  exact k3 (kI 0) W
theorem cmo_store (t : Nat) (a1 : Int64) (a3 : Int32) (a4 : Int64) (W : jW) : jM yX8_store cX8_store 7 (Option.none : Option Jvm.ClassFile.FieldType) [] 0 0 [vR t, vL a1, vI a3, vL a4] W ((fmo_store t a1 a3 a4 W).bind (fun q => some (.returned none, q))) := by
  refine jM.of (Nat.le_of_ble_eq_true rfl) (fun x hx hm hr => ?_)
  refine j_begin (P := (fun s => (3, [(0, vR t), (1, vL a1), (3, vI a3), (4, vL a4), (6, vI s.1)], s.2))) (fun en he hk => ?_)
  have h : hmo_store x en t a1 a3 a4 := ⟨hx, hm, hr, fun q => he _, fun l6 W => hk (l6, W)⟩
  exact ⟨fun s => wmo_store_3 h s.1 s.2, wmo_store h W⟩
def hmo_isInHot (x : jCx) (en : (Int32) → Option (Outcome × jW)) (t : Nat) (a1 : Int32) (W : jW) : Prop :=
  jOK x RX8 cX8_isInHot 2 ∧
  jMt x "isInHot" (Option.some Jvm.ClassFile.FieldType.boolean) [] ∧
  jRm x 0 0 ∧
  (∀ q : Int32, en q = some (.returned (some (.int q)), W))
theorem wmo_isInHot {x : jCx} {en : (Int32) → Option (Outcome × jW)} {W : jW} {t : Nat} {a1 : Int32} (h : hmo_isInHot x en t a1 W) : jJ x 2 0 [(0, vR t), (1, vI a1)] [] W (fmo_isInHot t a1 W) en := by
  have h0 := h
  obtain ⟨hx, hm, hr, he⟩ := h0
  unfold fmo_isInHot
  refine j_runA hx 1 (tb := [(0, .aload_n 0)]) (jtb_ok (by decide +kernel)) (pc' := 1) (lv' := [(0, vR t), (1, vI a1)]) (st' := [vR t]) rfl ?_
  refine j_gd (fun h1 => ?_)
  refine j_getR hx flX8_157 kl1359 h1 (by decide) (by decide +kernel) ?_
  refine j_runA hx 1 (tb := [(4, .iload_n 1)]) (jtb_ok (by decide +kernel)) (pc' := 5) (lv' := [(0, vR t), (1, vI a1)]) (st' := [vI a1, vR (jR W 1359 t)]) rfl ?_
  refine j_gd (fun h2 => ?_)
  refine j_zald hx (f := 1359) (o := t) kd1359 rfl (by decide +kernel) h2 ?_
  refine j_gd (fun h3 => ?_)
  exact j_iret hx hm (by decide +kernel) (jzn h3) (he _)
theorem cmo_isInHot (t : Nat) (a1 : Int32) (W : jW) : jM yX8_isInHot cX8_isInHot 2 (Option.some Jvm.ClassFile.FieldType.boolean) [] 0 0 [vR t, vI a1] W ((fmo_isInHot t a1 W).bind (fun q => some (.returned (some (.int q)), W))) := 
  jM.of (Nat.le_of_ble_eq_true rfl) (fun x hx hm hr => wmo_isInHot ⟨hx, hm, hr, fun _ => rfl⟩)
def hmo_newSize (x : jCx) (en : (fmo_newSize_S ⊕ (Int32)) → Option (Outcome × jW)) (t : Nat) (a1 : Int32) (W : jW) : Prop :=
  jOK x RX8 cX8_newSize 6 ∧
  jMt x "newSize" (Option.some Jvm.ClassFile.FieldType.int) [] ∧
  jRm x 1 14 ∧
  (∀ q : Int32, en (.inr q) = some (.returned (some (.int q)), W)) ∧
  (∀ (l2 : Int32) (l3 : Int32) (l4 : Int32) (l5 : Int32), jJ x 6 28 [(0, vR t), (1, vI a1), (2, vI l2), (3, vI l3), (4, vI l4), (5, vI l5)] [] W (some (.inl (l2, l3, l4, l5))) en)
theorem wmo_newSize_72 {x : jCx} {en : (fmo_newSize_S ⊕ (Int32)) → Option (Outcome × jW)} {W : jW} {t : Nat} {a1 : Int32} (h : hmo_newSize x en t a1 W) (l2 : Int32) (l3 : Int32) (l4 : Int32) (l5 : Int32) : jJ x 6 72 [(0, vR t), (1, vI a1), (2, vI l2), (3, vI l3), (4, vI l4), (5, vI l5)] [] W (fmo_newSize_72 t a1 l2 l3 l4 l5 W) en := by
  have h0 := h
  obtain ⟨hx, hm, hr, he, k28⟩ := h0
  unfold fmo_newSize_72
  refine j_runA hx 1 (tb := [(72, .iinc 5 1)]) (jtb_ok (by decide +kernel)) (pc' := 75) (lv' := [(5, vI (l5 + (kI 1))), (0, vR t), (1, vI a1), (2, vI l2), (3, vI l3), (4, vI l4)]) (st' := []) rfl ?_
  refine j_let (v := (l5 + (kI 1))) (lv := fun v15 => [(5, vI v15), (0, vR t), (1, vI a1), (2, vI l2), (3, vI l3), (4, vI l4)]) (st := fun _ => []) (fun v15 => ?_)
  refine j_goto hx (off := -47) (by decide +kernel) (tgt := 28) (by decide) ?_
  refine j_lv (lv' := [(0, vR t), (1, vI a1), (2, vI l2), (3, vI l3), (4, vI l4), (5, vI v15)]) ⟨rfl, rfl, rfl, rfl, rfl, rfl, trivial⟩ ?_
  exact k28 l2 l3 l4 v15
theorem wmo_newSize_78 {x : jCx} {en : (fmo_newSize_S ⊕ (Int32)) → Option (Outcome × jW)} {W : jW} {t : Nat} {a1 : Int32} (h : hmo_newSize x en t a1 W) (l4 : Int32) : jJ x 6 78 [(0, vR t), (1, vI a1), (4, vI l4)] [] W (fmo_newSize_78 t a1 l4 W) en := by
  have h0 := h
  obtain ⟨hx, hm, hr, he, k28⟩ := h0
  unfold fmo_newSize_78
  refine j_runA hx 3 (tb := [(78, .iconst 4), (79, .iload 4), (81, .imul)]) (jtb_ok (by decide +kernel)) (pc' := 82) (lv' := [(0, vR t), (1, vI a1), (4, vI l4)]) (st' := [vI ((kI 4) * l4)]) rfl ?_
  exact j_iret hx hm (by decide +kernel) rfl (he _)
theorem wmo_newSize_28 {x : jCx} {en : (fmo_newSize_S ⊕ (Int32)) → Option (Outcome × jW)} {W : jW} {t : Nat} {a1 : Int32} (h : hmo_newSize x en t a1 W) (l2 : Int32) (l3 : Int32) (l4 : Int32) (l5 : Int32) : jJ x 6 28 [(0, vR t), (1, vI a1), (2, vI l2), (3, vI l3), (4, vI l4), (5, vI l5)] [] W (fmo_newSize_28 t a1 l2 l3 l4 l5 W) en := by
  have h0 := h
  obtain ⟨hx, hm, hr, he, k28⟩ := h0
  unfold fmo_newSize_28
  refine j_runA hx 2 (tb := [(28, .iload 5), (30, .aload_n 0)]) (jtb_ok (by decide +kernel)) (pc' := 31) (lv' := [(0, vR t), (1, vI a1), (2, vI l2), (3, vI l3), (4, vI l4), (5, vI l5)]) (st' := [vR t, vI l5]) rfl ?_
  refine j_gd (fun h8 => ?_)
  refine j_getI hx flX8_399 kd1312 h8 (by decide) (by decide +kernel) ?_
  refine j_icmp_ge hx (off := 44) (tgt := 78) (by decide +kernel) (by decide) (fun _ => ?_) (fun _ => ?_)
  · refine j_lv (lv' := [(0, vR t), (1, vI a1), (4, vI l4)]) ⟨rfl, rfl, rfl, trivial⟩ ?_
    exact wmo_newSize_78 h l4
  refine j_runA hx 1 (tb := [(37, .aload_n 0)]) (jtb_ok (by decide +kernel)) (pc' := 38) (lv' := [(0, vR t), (1, vI a1), (2, vI l2), (3, vI l3), (4, vI l4), (5, vI l5)]) (st' := [vR t]) rfl ?_
  refine j_getR hx flX8_65 kl1324 h8 (by decide) (by decide +kernel) ?_
  refine j_runA hx 1 (tb := [(41, .iload 5)]) (jtb_ok (by decide +kernel)) (pc' := 43) (lv' := [(0, vR t), (1, vI a1), (2, vI l2), (3, vI l3), (4, vI l4), (5, vI l5)]) (st' := [vI l5, vR (jR W 1324 t)]) rfl ?_
  refine j_gd (fun h9 => ?_)
  refine j_iald hx (f := 1324) (o := t) kd1324 rfl (by decide +kernel) h9 ?_
  refine j_runA hx 1 (tb := [(44, .iload_n 2)]) (jtb_ok (by decide +kernel)) (pc' := 45) (lv' := [(0, vR t), (1, vI a1), (2, vI l2), (3, vI l3), (4, vI l4), (5, vI l5)]) (st' := [vI l2, vI (jA W 1324 t (ix l5))]) rfl ?_
  refine j_icmp_ne hx (off := 33) (tgt := 78) (by decide +kernel) (by decide) (fun _ => ?_) (fun _ => ?_)
  · refine j_lv (lv' := [(0, vR t), (1, vI a1), (4, vI l4)]) ⟨rfl, rfl, rfl, trivial⟩ ?_
    exact wmo_newSize_78 h l4
  refine j_runA hx 2 (tb := [(48, .aload_n 0), (49, .iload 5)]) (jtb_ok (by decide +kernel)) (pc' := 51) (lv' := [(0, vR t), (1, vI a1), (2, vI l2), (3, vI l3), (4, vI l4), (5, vI l5)]) (st' := [vI l5, vR t]) rfl ?_
  refine j_OI (j_callV (av := [vI l5]) (st := []) hx hr (Or.inl q3284) q3286 qs177 rfl md_fmo_isInHot np_fmo_isInHot (cmo_isInHot t l5 W) (by decide) (Nat.le_of_ble_eq_true rfl) h8 (by decide) (by decide +kernel)) (fun q10 _ => ?_)
  refine j_runA hx 1 (tb := [(54, .iload_n 3)]) (jtb_ok (by decide +kernel)) (pc' := 55) (lv' := [(0, vR t), (1, vI a1), (2, vI l2), (3, vI l3), (4, vI l4), (5, vI l5)]) (st' := [vI l3, vI q10]) rfl ?_
  refine j_icmp_ne hx (off := 17) (tgt := 72) (by decide +kernel) (by decide) (fun _ => ?_) (fun _ => ?_)
  · exact wmo_newSize_72 h l2 l3 l4 l5
  refine j_runA hx 2 (tb := [(58, .iload 4), (60, .aload_n 0)]) (jtb_ok (by decide +kernel)) (pc' := 61) (lv' := [(0, vR t), (1, vI a1), (2, vI l2), (3, vI l3), (4, vI l4), (5, vI l5)]) (st' := [vR t, vI l4]) rfl ?_
  refine j_getR hx flX8_143 kl1350 h8 (by decide) (by decide +kernel) ?_
  refine j_runA hx 1 (tb := [(64, .iload 5)]) (jtb_ok (by decide +kernel)) (pc' := 66) (lv' := [(0, vR t), (1, vI a1), (2, vI l2), (3, vI l3), (4, vI l4), (5, vI l5)]) (st' := [vI l5, vR (jR W 1350 t), vI l4]) rfl ?_
  refine j_gd (fun h11 => ?_)
  refine j_OI (j_callV (av := [vI l5]) (st := [vI l4]) hx hr (Or.inl q3163) q3153 q3154 rfl md_fwn_length np_fwn_length (cwn_length (jR W 1350 t) l5 W) (by decide) (Nat.le_of_ble_eq_true rfl) h11 (by decide) (by decide +kernel)) (fun q12 _ => ?_)
  refine j_runA hx 2 (tb := [(69, .iadd), (70, .istore 4)]) (jtb_ok (by decide +kernel)) (pc' := 72) (lv' := [(4, vI (l4 + q12)), (0, vR t), (1, vI a1), (2, vI l2), (3, vI l3), (5, vI l5)]) (st' := []) rfl ?_
  refine j_let (v := (l4 + q12)) (lv := fun v13 => [(4, vI v13), (0, vR t), (1, vI a1), (2, vI l2), (3, vI l3), (5, vI l5)]) (st := fun _ => []) (fun v13 => ?_)
  refine j_lv (lv' := [(0, vR t), (1, vI a1), (2, vI l2), (3, vI l3), (4, vI v13), (5, vI l5)]) ⟨rfl, rfl, rfl, rfl, rfl, rfl, trivial⟩ ?_
  exact wmo_newSize_72 h l2 l3 v13 l5
theorem wmo_newSize {x : jCx} {en : (fmo_newSize_S ⊕ (Int32)) → Option (Outcome × jW)} {W : jW} {t : Nat} {a1 : Int32} (h : hmo_newSize x en t a1 W) : jJ x 6 0 [(0, vR t), (1, vI a1)] [] W (fmo_newSize_0 t a1 W) en := by
  have h0 := h
  obtain ⟨hx, hm, hr, he, k28⟩ := h0
  unfold fmo_newSize_0
  refine j_runA hx 2 (tb := [(0, .aload_n 0), (1, .iload_n 1)]) (jtb_ok (by decide +kernel)) (pc' := 2) (lv' := [(0, vR t), (1, vI a1)]) (st' := [vI a1, vR t]) rfl ?_
  refine j_gd (fun h1 => ?_)
  refine j_OI (j_callV (av := [vI a1]) (st := []) hx hr (Or.inl q3047) q3049 qs143 rfl md_fmo_functionAt np_fmo_functionAt (cmo_functionAt t a1 W) (by decide) (Nat.le_of_ble_eq_true rfl) h1 (by decide) (by decide +kernel)) (fun q2 _ => ?_)
  refine j_runA hx 3 (tb := [(5, .istore_n 2), (6, .aload_n 0), (7, .aload_n 0)]) (jtb_ok (by decide +kernel)) (pc' := 8) (lv' := [(2, vI q2), (0, vR t), (1, vI a1)]) (st' := [vR t, vR t]) rfl ?_
  refine j_getR hx flX8_56 kl1321 h1 (by decide) (by decide +kernel) ?_
  refine j_runA hx 1 (tb := [(11, .iload_n 2)]) (jtb_ok (by decide +kernel)) (pc' := 12) (lv' := [(2, vI q2), (0, vR t), (1, vI a1)]) (st' := [vI q2, vR (jR W 1321 t), vR t]) rfl ?_
  refine j_gd (fun h3 => ?_)
  refine j_iald hx (f := 1321) (o := t) kd1321 rfl (by decide +kernel) h3 ?_
  refine j_OI (j_callV (av := [vI (jA W 1321 t (ix q2))]) (st := []) hx hr (Or.inl q3284) q3286 qs177 rfl md_fmo_isInHot np_fmo_isInHot (cmo_isInHot t (jA W 1321 t (ix q2)) W) (by decide) (Nat.le_of_ble_eq_true rfl) h1 (by decide) (by decide +kernel)) (fun q4 _ => ?_)
  refine j_runA hx 4 (tb := [(16, .istore_n 3), (17, .iconst 0), (18, .istore 4), (20, .aload_n 0)]) (jtb_ok (by decide +kernel)) (pc' := 21) (lv' := [(4, vI (kI 0)), (3, vI q4), (2, vI q2), (0, vR t), (1, vI a1)]) (st' := [vR t]) rfl ?_
  refine j_getR hx flX8_56 kl1321 h1 (by decide) (by decide +kernel) ?_
  refine j_runA hx 1 (tb := [(24, .iload_n 2)]) (jtb_ok (by decide +kernel)) (pc' := 25) (lv' := [(4, vI (kI 0)), (3, vI q4), (2, vI q2), (0, vR t), (1, vI a1)]) (st' := [vI q2, vR (jR W 1321 t)]) rfl ?_
  refine j_gd (fun h5 => ?_)
  refine j_iald hx (f := 1321) (o := t) kd1321 rfl (by decide +kernel) h5 ?_
  refine j_runA hx 1 (tb := [(26, .istore 5)]) (jtb_ok (by decide +kernel)) (pc' := 28) (lv' := [(5, vI (jA W 1321 t (ix q2))), (4, vI (kI 0)), (3, vI q4), (2, vI q2), (0, vR t), (1, vI a1)]) (st' := []) rfl ?_
  refine j_let (v := (jA W 1321 t (ix q2))) (lv := fun v6 => [(5, vI v6), (4, vI (kI 0)), (3, vI q4), (2, vI q2), (0, vR t), (1, vI a1)]) (st := fun _ => []) (fun v6 => ?_)
  refine j_lv (lv' := [(0, vR t), (1, vI a1), (2, vI q2), (3, vI q4), (4, vI (kI 0)), (5, vI v6)]) ⟨rfl, rfl, rfl, rfl, rfl, rfl, trivial⟩ ?_
  exact k28 q2 q4 (kI 0) v6
theorem cmo_newSize (t : Nat) (a1 : Int32) (W : jW) : jM yX8_newSize cX8_newSize 6 (Option.some Jvm.ClassFile.FieldType.int) [] 1 14 [vR t, vI a1] W ((fmo_newSize t a1 W).bind (fun q => some (.returned (some (.int q)), W))) := by
  refine jM.of (Nat.le_of_ble_eq_true rfl) (fun x hx hm hr => ?_)
  refine j_begin (P := (fun s => (28, [(0, vR t), (1, vI a1), (2, vI s.1), (3, vI s.2.1), (4, vI s.2.2.1), (5, vI s.2.2.2)], W))) (fun en he hk => ?_)
  have h : hmo_newSize x en t a1 W := ⟨hx, hm, hr, fun q => he _, fun l2 l3 l4 l5 => hk (l2, l3, l4, l5)⟩
  exact ⟨fun s => wmo_newSize_28 h s.1 s.2.1 s.2.2.1 s.2.2.2, wmo_newSize h⟩
