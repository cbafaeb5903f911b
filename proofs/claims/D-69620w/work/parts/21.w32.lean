/-! ===== walks: fhd_isFix fhd_hasFixes fhd_broken fhd_isOfText fhd_isFunction fmo_hasFunctions fmo_broken ===== -/
set_option maxRecDepth 100000
def hhd_isFix (x : jCx) (en : (fhd_isFix_S ⊕ (Int32 × jW)) → Option (Outcome × jW)) (t : Nat) (a1 : Int32) (a2 : Int64) : Prop :=
  jOK x RX9 cX9_isFix 14 ∧
  jMt x "isFix" (Option.some Jvm.ClassFile.FieldType.boolean) [] ∧
  jRm x 2 36 ∧
  (∀ q : Int32 × jW, en (.inr q) = some (.returned (some (.int q.1)), q.2)) ∧
  (∀ (l7 : Int64) (l11 : Int32) (l12 : Int64) (W : jW), jJ x 14 304 [(0, vR t), (1, vI a1), (2, vL a2), (7, vL l7), (11, vI l11), (12, vL l12)] [] W (some (.inl (l7, l11, l12, W))) en)
theorem whd_isFix_205 {x : jCx} {en : (fhd_isFix_S ⊕ (Int32 × jW)) → Option (Outcome × jW)} {t : Nat} {a1 : Int32} {a2 : Int64} (h : hhd_isFix x en t a1 a2) (W : jW) : jJ x 14 205 [(0, vR t), (1, vI a1), (2, vL a2)] [] W (fhd_isFix_205 t a1 a2 W) en := by
  have h0 := h
  obtain ⟨hx, hm, hr, he, k304⟩ := h0
  unfold fhd_isFix_205
  refine j_runA hx 1 (tb := [(205, .iconst 0)]) (jtb_ok (by decide +kernel)) (pc' := 206) (lv' := [(0, vR t), (1, vI a1), (2, vL a2)]) (st' := [vI (kI 0)]) rfl ?_
  exact j_iret hx hm (by decide +kernel) jz0n (he _)
theorem whd_isFix_351 {x : jCx} {en : (fhd_isFix_S ⊕ (Int32 × jW)) → Option (Outcome × jW)} {t : Nat} {a1 : Int32} {a2 : Int64} (h : hhd_isFix x en t a1 a2) (l7 : Int64) (l12 : Int64) (s0 : Int32) (W : jW) : jJ x 14 351 [(0, vR t), (1, vI a1), (2, vL a2), (7, vL l7), (12, vL l12)] [vI s0] W (fhd_isFix_351 t a1 a2 l7 l12 s0 W) en := by
  have h0 := h
  obtain ⟨hx, hm, hr, he, k304⟩ := h0
  unfold fhd_isFix_351
  refine j_runA hx 2 (tb := [(351, .istore 11), (353, .lload 12)]) (jtb_ok (by decide +kernel)) (pc' := 355) (lv' := [(11, vI s0), (0, vR t), (1, vI a1), (2, vL a2), (7, vL l7), (12, vL l12)]) (st' := [vL l12]) rfl ?_
  refine j_ldc2 hx (v := (kJ 24)) (jkd2 q2876 (by decide +kernel)) (by decide +kernel) ?_
  refine j_runA hx 2 (tb := [(358, .ladd), (359, .lstore 12)]) (jtb_ok (by decide +kernel)) (pc' := 361) (lv' := [(12, vL (l12 + (kJ 24))), (11, vI s0), (0, vR t), (1, vI a1), (2, vL a2), (7, vL l7)]) (st' := []) rfl ?_
  refine j_let (v := (l12 + (kJ 24))) (lv := fun v38 => [(12, vL v38), (11, vI s0), (0, vR t), (1, vI a1), (2, vL a2), (7, vL l7)]) (st := fun _ => []) (fun v38 => ?_)
  refine j_goto hx (off := -57) (by decide +kernel) (tgt := 304) (by decide) ?_
  refine j_lv (lv' := [(0, vR t), (1, vI a1), (2, vL a2), (7, vL l7), (11, vI s0), (12, vL v38)]) ⟨rfl, rfl, rfl, rfl, rfl, rfl, trivial⟩ ?_
  exact k304 l7 s0 v38 W
theorem whd_isFix_346 {x : jCx} {en : (fhd_isFix_S ⊕ (Int32 × jW)) → Option (Outcome × jW)} {t : Nat} {a1 : Int32} {a2 : Int64} (h : hhd_isFix x en t a1 a2) (l7 : Int64) (l12 : Int64) (W : jW) : jJ x 14 346 [(0, vR t), (1, vI a1), (2, vL a2), (7, vL l7), (12, vL l12)] [] W (fhd_isFix_346 t a1 a2 l7 l12 W) en := by
  have h0 := h
  obtain ⟨hx, hm, hr, he, k304⟩ := h0
  unfold fhd_isFix_346
  refine j_runA hx 1 (tb := [(346, .iconst 1)]) (jtb_ok (by decide +kernel)) (pc' := 347) (lv' := [(0, vR t), (1, vI a1), (2, vL a2), (7, vL l7), (12, vL l12)]) (st' := [vI (kI 1)]) rfl ?_
  refine j_goto hx (off := 4) (by decide +kernel) (tgt := 351) (by decide) ?_
  exact whd_isFix_351 h l7 l12 (kI 1) W
theorem whd_isFix_414 {x : jCx} {en : (fhd_isFix_S ⊕ (Int32 × jW)) → Option (Outcome × jW)} {t : Nat} {a1 : Int32} {a2 : Int64} (h : hhd_isFix x en t a1 a2) (W : jW) : jJ x 14 414 [(0, vR t), (1, vI a1), (2, vL a2)] [] W (fhd_isFix_414 t a1 a2 W) en := by
  have h0 := h
  obtain ⟨hx, hm, hr, he, k304⟩ := h0
  unfold fhd_isFix_414
  refine j_runA hx 1 (tb := [(414, .iconst 0)]) (jtb_ok (by decide +kernel)) (pc' := 415) (lv' := [(0, vR t), (1, vI a1), (2, vL a2)]) (st' := [vI (kI 0)]) rfl ?_
  exact j_iret hx hm (by decide +kernel) jz0n (he _)
theorem whd_isFix_399 {x : jCx} {en : (fhd_isFix_S ⊕ (Int32 × jW)) → Option (Outcome × jW)} {t : Nat} {a1 : Int32} {a2 : Int64} (h : hhd_isFix x en t a1 a2) (s0 : Int32) (s1 : Nat) (W : jW) : jJ x 14 399 [(0, vR t), (1, vI a1), (2, vL a2)] [vI s0, vR s1] W (fhd_isFix_399 t a1 a2 s0 s1 W) en := by
  have h0 := h
  obtain ⟨hx, hm, hr, he, k304⟩ := h0
  unfold fhd_isFix_399
  refine j_runA hx 1 (tb := [(399, .lload_n 2)]) (jtb_ok (by decide +kernel)) (pc' := 400) (lv' := [(0, vR t), (1, vI a1), (2, vL a2)]) (st' := [vL a2, vI s0, vR s1]) rfl ?_
  refine j_ldc2 hx (v := (kJ 12)) (jkd2 q2922 (by decide +kernel)) (by decide +kernel) ?_
  refine j_runA hx 1 (tb := [(403, .ladd)]) (jtb_ok (by decide +kernel)) (pc' := 404) (lv' := [(0, vR t), (1, vI a1), (2, vL a2)]) (st' := [vL (a2 + (kJ 12)), vI s0, vR s1]) rfl ?_
  refine j_gd (fun h48 => ?_)
  refine j_WI (j_callV (av := [vI s0, vL (a2 + (kJ 12))]) (st := []) hx hr (Or.inl q2818) q2820 qs124 rfl md_fhd_is np_fhd_is (chd_is s1 s0 (a2 + (kJ 12)) W) (by decide) (Nat.le_of_ble_eq_true rfl) h48 (by decide) (by decide +kernel)) (fun q49 _ => ?_)
  refine j_if_eq hx (off := 7) (tgt := 414) (by decide +kernel) (by decide) (fun _ => ?_) (fun _ => ?_)
  · exact whd_isFix_414 h q49.2
  refine j_runA hx 1 (tb := [(410, .iconst 1)]) (jtb_ok (by decide +kernel)) (pc' := 411) (lv' := [(0, vR t), (1, vI a1), (2, vL a2)]) (st' := [vI (kI 1)]) rfl ?_
  refine j_goto hx (off := 4) (by decide +kernel) (tgt := 415) (by decide) ?_
  exact j_iret hx hm (by decide +kernel) jz1n (he _)
theorem whd_isFix_364 {x : jCx} {en : (fhd_isFix_S ⊕ (Int32 × jW)) → Option (Outcome × jW)} {t : Nat} {a1 : Int32} {a2 : Int64} (h : hhd_isFix x en t a1 a2) (l11 : Int32) (W : jW) : jJ x 14 364 [(0, vR t), (1, vI a1), (2, vL a2), (11, vI l11)] [] W (fhd_isFix_364 t a1 a2 l11 W) en := by
  have h0 := h
  obtain ⟨hx, hm, hr, he, k304⟩ := h0
  unfold fhd_isFix_364
  refine j_runA hx 3 (tb := [(364, .aload_n 0), (365, .iload 11), (367, .lload_n 2)]) (jtb_ok (by decide +kernel)) (pc' := 368) (lv' := [(0, vR t), (1, vI a1), (2, vL a2), (11, vI l11)]) (st' := [vL a2, vI l11, vR t]) rfl ?_
  refine j_gd (fun h41 => ?_)
  refine j_WI (j_callV (av := [vI l11, vL a2]) (st := []) hx hr (Or.inl q2818) q2820 qs124 rfl md_fhd_is np_fhd_is (chd_is t l11 a2 W) (by decide) (Nat.le_of_ble_eq_true rfl) h41 (by decide) (by decide +kernel)) (fun q42 _ => ?_)
  refine j_if_eq hx (off := 43) (tgt := 414) (by decide +kernel) (by decide) (fun _ => ?_) (fun _ => ?_)
  · refine j_lv (lv' := [(0, vR t), (1, vI a1), (2, vL a2)]) ⟨rfl, rfl, rfl, trivial⟩ ?_
    exact whd_isFix_414 h q42.2
  refine j_runA hx 3 (tb := [(374, .aload_n 0), (375, .aload_n 0), (376, .lload_n 2)]) (jtb_ok (by decide +kernel)) (pc' := 377) (lv' := [(0, vR t), (1, vI a1), (2, vL a2), (11, vI l11)]) (st' := [vL a2, vR t, vR t]) rfl ?_
  refine j_ldc2 hx (v := (kJ 12)) (jkd2 q2922 (by decide +kernel)) (by decide +kernel) ?_
  refine j_runA hx 2 (tb := [(380, .ladd), (381, .iconst 4)]) (jtb_ok (by decide +kernel)) (pc' := 382) (lv' := [(0, vR t), (1, vI a1), (2, vL a2), (11, vI l11)]) (st' := [vI (kI 4), vL (a2 + (kJ 12)), vR t, vR t]) rfl ?_
  refine j_gd (fun h44 => ?_)
  refine j_OL (j_callV (av := [vL (a2 + (kJ 12)), vI (kI 4)]) (st := [vR t]) hx hr (Or.inl q2822) q2823 q2824 rfl md_fhd_num np_fhd_num (chd_num t (a2 + (kJ 12)) (kI 4) q42.2) (by decide) (Nat.le_of_ble_eq_true rfl) h44 (by decide) (by decide +kernel)) (fun q45 _ => ?_)
  refine j_runA hx 1 (tb := [(385, .aload_n 0)]) (jtb_ok (by decide +kernel)) (pc' := 386) (lv' := [(0, vR t), (1, vI a1), (2, vL a2), (11, vI l11)]) (st' := [vR t, vL q45, vR t]) rfl ?_
  refine j_OI (j_callV (av := []) (st := [vL q45, vR t]) hx hr (Or.inl q2893) q2894 q2895 rfl md_fhd_symbolCount np_fhd_symbolCount (chd_symbolCount t q42.2) (by decide) (Nat.le_of_ble_eq_true rfl) h44 (by decide) (by decide +kernel)) (fun q46 _ => ?_)
  refine j_runA hx 1 (tb := [(389, .i2l)]) (jtb_ok (by decide +kernel)) (pc' := 390) (lv' := [(0, vR t), (1, vI a1), (2, vL a2), (11, vI l11)]) (st' := [vL q46.toInt64, vL q45, vR t]) rfl ?_
  refine j_lcmp_ge hx (off := 7) (tgt := 398) (by decide +kernel) (by decide +kernel) (by decide) (fun _ => ?_) (fun _ => ?_)
  · refine j_runA hx 1 (tb := [(398, .iconst 0)]) (jtb_ok (by decide +kernel)) (pc' := 399) (lv' := [(0, vR t), (1, vI a1), (2, vL a2), (11, vI l11)]) (st' := [vI (kI 0), vR t]) rfl ?_
    refine j_lv (lv' := [(0, vR t), (1, vI a1), (2, vL a2)]) ⟨rfl, rfl, rfl, trivial⟩ ?_
    exact whd_isFix_399 h (kI 0) t q42.2
  refine j_runA hx 1 (tb := [(394, .iconst 1)]) (jtb_ok (by decide +kernel)) (pc' := 395) (lv' := [(0, vR t), (1, vI a1), (2, vL a2), (11, vI l11)]) (st' := [vI (kI 1), vR t]) rfl ?_
  refine j_goto hx (off := 4) (by decide +kernel) (tgt := 399) (by decide) ?_
  refine j_lv (lv' := [(0, vR t), (1, vI a1), (2, vL a2)]) ⟨rfl, rfl, rfl, trivial⟩ ?_
  exact whd_isFix_399 h (kI 1) t q42.2
theorem whd_isFix_304 {x : jCx} {en : (fhd_isFix_S ⊕ (Int32 × jW)) → Option (Outcome × jW)} {t : Nat} {a1 : Int32} {a2 : Int64} (h : hhd_isFix x en t a1 a2) (l7 : Int64) (l11 : Int32) (l12 : Int64) (W : jW) : jJ x 14 304 [(0, vR t), (1, vI a1), (2, vL a2), (7, vL l7), (11, vI l11), (12, vL l12)] [] W (fhd_isFix_304 t a1 a2 l7 l11 l12 W) en := by
  have h0 := h
  obtain ⟨hx, hm, hr, he, k304⟩ := h0
  unfold fhd_isFix_304
  refine j_runA hx 1 (tb := [(304, .iload 11)]) (jtb_ok (by decide +kernel)) (pc' := 306) (lv' := [(0, vR t), (1, vI a1), (2, vL a2), (7, vL l7), (11, vI l11), (12, vL l12)]) (st' := [vI l11]) rfl ?_
  refine j_if_eq hx (off := 58) (tgt := 364) (by decide +kernel) (by decide) (fun _ => ?_) (fun _ => ?_)
  · refine j_lv (lv' := [(0, vR t), (1, vI a1), (2, vL a2), (11, vI l11)]) ⟨rfl, rfl, rfl, rfl, trivial⟩ ?_
    exact whd_isFix_364 h l11 W
  refine j_runA hx 2 (tb := [(309, .lload 12), (311, .lload_n 2)]) (jtb_ok (by decide +kernel)) (pc' := 312) (lv' := [(0, vR t), (1, vI a1), (2, vL a2), (7, vL l7), (11, vI l11), (12, vL l12)]) (st' := [vL a2, vL l12]) rfl ?_
  refine j_lcmp_ge hx (off := 51) (tgt := 364) (by decide +kernel) (by decide +kernel) (by decide) (fun _ => ?_) (fun _ => ?_)
  · refine j_lv (lv' := [(0, vR t), (1, vI a1), (2, vL a2), (11, vI l11)]) ⟨rfl, rfl, rfl, rfl, trivial⟩ ?_
    exact whd_isFix_364 h l11 W
  refine j_runA hx 2 (tb := [(316, .aload_n 0), (317, .lload 12)]) (jtb_ok (by decide +kernel)) (pc' := 319) (lv' := [(0, vR t), (1, vI a1), (2, vL a2), (7, vL l7), (11, vI l11), (12, vL l12)]) (st' := [vL l12, vR t]) rfl ?_
  refine j_ldc2 hx (v := (kJ 8)) (jkd2 q2829 (by decide +kernel)) (by decide +kernel) ?_
  refine j_runA hx 2 (tb := [(322, .ladd), (323, .iconst 4)]) (jtb_ok (by decide +kernel)) (pc' := 324) (lv' := [(0, vR t), (1, vI a1), (2, vL a2), (7, vL l7), (11, vI l11), (12, vL l12)]) (st' := [vI (kI 4), vL (l12 + (kJ 8)), vR t]) rfl ?_
  refine j_gd (fun h34 => ?_)
  refine j_OL (j_callV (av := [vL (l12 + (kJ 8)), vI (kI 4)]) (st := []) hx hr (Or.inl q2822) q2823 q2824 rfl md_fhd_num np_fhd_num (chd_num t (l12 + (kJ 8)) (kI 4) W) (by decide) (Nat.le_of_ble_eq_true rfl) h34 (by decide) (by decide +kernel)) (fun q35 _ => ?_)
  refine j_runA hx 1 (tb := [(327, .lconst 0)]) (jtb_ok (by decide +kernel)) (pc' := 328) (lv' := [(0, vR t), (1, vI a1), (2, vL a2), (7, vL l7), (11, vI l11), (12, vL l12)]) (st' := [vL (kJ 0), vL q35]) rfl ?_
  refine j_lcmp_eq hx (off := 17) (tgt := 346) (by decide +kernel) (by decide +kernel) (by decide) (fun _ => ?_) (fun _ => ?_)
  · refine j_lv (lv' := [(0, vR t), (1, vI a1), (2, vL a2), (7, vL l7), (12, vL l12)]) ⟨rfl, rfl, rfl, rfl, rfl, trivial⟩ ?_
    exact whd_isFix_346 h l7 l12 W
  refine j_runA hx 3 (tb := [(332, .aload_n 0), (333, .lload 12), (335, .bipush 8)]) (jtb_ok (by decide +kernel)) (pc' := 337) (lv' := [(0, vR t), (1, vI a1), (2, vL a2), (7, vL l7), (11, vI l11), (12, vL l12)]) (st' := [vI (kI 8), vL l12, vR t]) rfl ?_
  refine j_OL (j_callV (av := [vL l12, vI (kI 8)]) (st := []) hx hr (Or.inl q2822) q2823 q2824 rfl md_fhd_num np_fhd_num (chd_num t l12 (kI 8) W) (by decide) (Nat.le_of_ble_eq_true rfl) h34 (by decide) (by decide +kernel)) (fun q36 _ => ?_)
  refine j_runA hx 1 (tb := [(340, .lload 7)]) (jtb_ok (by decide +kernel)) (pc' := 342) (lv' := [(0, vR t), (1, vI a1), (2, vL a2), (7, vL l7), (11, vI l11), (12, vL l12)]) (st' := [vL l7, vL q36]) rfl ?_
  refine j_lcmp_eq hx (off := 7) (tgt := 350) (by decide +kernel) (by decide +kernel) (by decide) (fun _ => ?_) (fun _ => ?_)
  · refine j_runA hx 1 (tb := [(350, .iconst 0)]) (jtb_ok (by decide +kernel)) (pc' := 351) (lv' := [(0, vR t), (1, vI a1), (2, vL a2), (7, vL l7), (11, vI l11), (12, vL l12)]) (st' := [vI (kI 0)]) rfl ?_
    refine j_lv (lv' := [(0, vR t), (1, vI a1), (2, vL a2), (7, vL l7), (12, vL l12)]) ⟨rfl, rfl, rfl, rfl, rfl, trivial⟩ ?_
    exact whd_isFix_351 h l7 l12 (kI 0) W
  refine j_lv (lv' := [(0, vR t), (1, vI a1), (2, vL a2), (7, vL l7), (12, vL l12)]) ⟨rfl, rfl, rfl, rfl, rfl, trivial⟩ ?_
  exact whd_isFix_346 h l7 l12 W
theorem whd_isFix_294 {x : jCx} {en : (fhd_isFix_S ⊕ (Int32 × jW)) → Option (Outcome × jW)} {t : Nat} {a1 : Int32} {a2 : Int64} (h : hhd_isFix x en t a1 a2) (l7 : Int64) (s0 : Int32) (W : jW) : jJ x 14 294 [(0, vR t), (1, vI a1), (2, vL a2), (7, vL l7)] [vI s0] W (fhd_isFix_294 t a1 a2 l7 s0 W) en := by
  have h0 := h
  obtain ⟨hx, hm, hr, he, k304⟩ := h0
  unfold fhd_isFix_294
  refine j_runA hx 2 (tb := [(294, .istore 11), (296, .aload_n 0)]) (jtb_ok (by decide +kernel)) (pc' := 297) (lv' := [(11, vI s0), (0, vR t), (1, vI a1), (2, vL a2), (7, vL l7)]) (st' := [vR t]) rfl ?_
  refine j_gd (fun h30 => ?_)
  refine j_getR hx flX9_29 kl1412 h30 (by decide) (by decide +kernel) ?_
  refine j_runA hx 1 (tb := [(300, .iload_n 1)]) (jtb_ok (by decide +kernel)) (pc' := 301) (lv' := [(11, vI s0), (0, vR t), (1, vI a1), (2, vL a2), (7, vL l7)]) (st' := [vI a1, vR (jR W 1412 t)]) rfl ?_
  refine j_gd (fun h31 => ?_)
  refine j_lald hx (f := 1412) (o := t) kd1412 rfl (by decide +kernel) h31 ?_
  refine j_runA hx 1 (tb := [(302, .lstore 12)]) (jtb_ok (by decide +kernel)) (pc' := 304) (lv' := [(12, vL (jB W 1412 t (ix a1))), (11, vI s0), (0, vR t), (1, vI a1), (2, vL a2), (7, vL l7)]) (st' := []) rfl ?_
  refine j_let (v := (jB W 1412 t (ix a1))) (lv := fun v32 => [(12, vL v32), (11, vI s0), (0, vR t), (1, vI a1), (2, vL a2), (7, vL l7)]) (st := fun _ => []) (fun v32 => ?_)
  refine j_lv (lv' := [(0, vR t), (1, vI a1), (2, vL a2), (7, vL l7), (11, vI s0), (12, vL v32)]) ⟨rfl, rfl, rfl, rfl, rfl, rfl, trivial⟩ ?_
  exact k304 l7 s0 v32 W
theorem whd_isFix_236 {x : jCx} {en : (fhd_isFix_S ⊕ (Int32 × jW)) → Option (Outcome × jW)} {t : Nat} {a1 : Int32} {a2 : Int64} (h : hhd_isFix x en t a1 a2) (l7 : Int64) (W : jW) : jJ x 14 236 [(0, vR t), (1, vI a1), (2, vL a2), (7, vL l7)] [] W (fhd_isFix_236 t a1 a2 l7 W) en := by
  have h0 := h
  obtain ⟨hx, hm, hr, he, k304⟩ := h0
  unfold fhd_isFix_236
  refine j_runA hx 1 (tb := [(236, .iconst 0)]) (jtb_ok (by decide +kernel)) (pc' := 237) (lv' := [(0, vR t), (1, vI a1), (2, vL a2), (7, vL l7)]) (st' := [vI (kI 0)]) rfl ?_
  refine j_goto hx (off := 57) (by decide +kernel) (tgt := 294) (by decide) ?_
  exact whd_isFix_294 h l7 (kI 0) W
theorem whd_isFix_293 {x : jCx} {en : (fhd_isFix_S ⊕ (Int32 × jW)) → Option (Outcome × jW)} {t : Nat} {a1 : Int32} {a2 : Int64} (h : hhd_isFix x en t a1 a2) (l7 : Int64) (W : jW) : jJ x 14 293 [(0, vR t), (1, vI a1), (2, vL a2), (7, vL l7)] [] W (fhd_isFix_293 t a1 a2 l7 W) en := by
  have h0 := h
  obtain ⟨hx, hm, hr, he, k304⟩ := h0
  unfold fhd_isFix_293
  refine j_runA hx 1 (tb := [(293, .iconst 0)]) (jtb_ok (by decide +kernel)) (pc' := 294) (lv' := [(0, vR t), (1, vI a1), (2, vL a2), (7, vL l7)]) (st' := [vI (kI 0)]) rfl ?_
  exact whd_isFix_294 h l7 (kI 0) W
theorem whd_isFix_136 {x : jCx} {en : (fhd_isFix_S ⊕ (Int32 × jW)) → Option (Outcome × jW)} {t : Nat} {a1 : Int32} {a2 : Int64} (h : hhd_isFix x en t a1 a2) (l4 : Int32) (l5 : Int64) (l7 : Int64) (l9 : Int32) (s0 : Int32) (W : jW) : jJ x 14 136 [(0, vR t), (1, vI a1), (2, vL a2), (4, vI l4), (5, vL l5), (7, vL l7), (9, vI l9)] [vI s0] W (fhd_isFix_136 t a1 a2 l4 l5 l7 l9 s0 W) en := by
  have h0 := h
  obtain ⟨hx, hm, hr, he, k304⟩ := h0
  unfold fhd_isFix_136
  refine j_runA hx 4 (tb := [(136, .istore 10), (138, .aload_n 0), (139, .iload 10), (141, .lload_n 2)]) (jtb_ok (by decide +kernel)) (pc' := 142) (lv' := [(10, vI s0), (0, vR t), (1, vI a1), (2, vL a2), (4, vI l4), (5, vL l5), (7, vL l7), (9, vI l9)]) (st' := [vL a2, vI s0, vR t]) rfl ?_
  refine j_ldc2 hx (v := (kJ 8)) (jkd2 q2829 (by decide +kernel)) (by decide +kernel) ?_
  refine j_runA hx 1 (tb := [(145, .ladd)]) (jtb_ok (by decide +kernel)) (pc' := 146) (lv' := [(10, vI s0), (0, vR t), (1, vI a1), (2, vL a2), (4, vI l4), (5, vL l5), (7, vL l7), (9, vI l9)]) (st' := [vL (a2 + (kJ 8)), vI s0, vR t]) rfl ?_
  refine j_gd (fun h9 => ?_)
  refine j_WI (j_callV (av := [vI s0, vL (a2 + (kJ 8))]) (st := []) hx hr (Or.inl q2818) q2820 qs124 rfl md_fhd_is np_fhd_is (chd_is t s0 (a2 + (kJ 8)) W) (by decide) (Nat.le_of_ble_eq_true rfl) h9 (by decide) (by decide +kernel)) (fun q10 _ => ?_)
  refine j_if_ne hx (off := 5) (tgt := 154) (by decide +kernel) (by decide) (fun _ => ?_) (fun _ => ?_)
  · refine j_runA hx 2 (tb := [(154, .lload 5), (156, .lconst 0)]) (jtb_ok (by decide +kernel)) (pc' := 157) (lv' := [(10, vI s0), (0, vR t), (1, vI a1), (2, vL a2), (4, vI l4), (5, vL l5), (7, vL l7), (9, vI l9)]) (st' := [vL (kJ 0), vL l5]) rfl ?_
    refine j_lcmp_ne hx (off := 49) (tgt := 207) (by decide +kernel) (by decide +kernel) (by decide) (fun _ => ?_) (fun _ => ?_)
    · refine j_runA hx 1 (tb := [(207, .iload 9)]) (jtb_ok (by decide +kernel)) (pc' := 209) (lv' := [(10, vI s0), (0, vR t), (1, vI a1), (2, vL a2), (4, vI l4), (5, vL l5), (7, vL l7), (9, vI l9)]) (st' := [vI l9]) rfl ?_
      refine j_if_eq hx (off := 31) (tgt := 240) (by decide +kernel) (by decide) (fun _ => ?_) (fun _ => ?_)
      · refine j_runA hx 1 (tb := [(240, .lload 7)]) (jtb_ok (by decide +kernel)) (pc' := 242) (lv' := [(10, vI s0), (0, vR t), (1, vI a1), (2, vL a2), (4, vI l4), (5, vL l5), (7, vL l7), (9, vI l9)]) (st' := [vL l7]) rfl ?_
        refine j_ldc2 hx (v := (kJ 8)) (jkd2 q2829 (by decide +kernel)) (by decide +kernel) ?_
        refine j_lrem hx (by decide +kernel) (by decide +kernel) ?_
        refine j_runA hx 1 (tb := [(246, .lconst 0)]) (jtb_ok (by decide +kernel)) (pc' := 247) (lv' := [(10, vI s0), (0, vR t), (1, vI a1), (2, vL a2), (4, vI l4), (5, vL l5), (7, vL l7), (9, vI l9)]) (st' := [vL (kJ 0), vL (lrm l7 (kJ 8))]) rfl ?_
        refine j_lcmp_ne hx (off := 45) (tgt := 293) (by decide +kernel) (by decide +kernel) (by decide) (fun _ => ?_) (fun _ => ?_)
        · refine j_lv (lv' := [(0, vR t), (1, vI a1), (2, vL a2), (7, vL l7)]) ⟨rfl, rfl, rfl, rfl, trivial⟩ ?_
          exact whd_isFix_293 h l7 q10.2
        refine j_runA hx 2 (tb := [(251, .lload 7), (253, .aload_n 0)]) (jtb_ok (by decide +kernel)) (pc' := 254) (lv' := [(10, vI s0), (0, vR t), (1, vI a1), (2, vL a2), (4, vI l4), (5, vL l5), (7, vL l7), (9, vI l9)]) (st' := [vR t, vL l7]) rfl ?_
        refine j_gd (fun h12 => ?_)
        refine j_getR hx flX9_32 kl1413 h12 (by decide) (by decide +kernel) ?_
        refine j_runA hx 1 (tb := [(257, .iload 4)]) (jtb_ok (by decide +kernel)) (pc' := 259) (lv' := [(10, vI s0), (0, vR t), (1, vI a1), (2, vL a2), (4, vI l4), (5, vL l5), (7, vL l7), (9, vI l9)]) (st' := [vI l4, vR (jR q10.2 1413 t), vL l7]) rfl ?_
        refine j_gd (fun h13 => ?_)
        refine j_lald hx (f := 1413) (o := t) kd1413 rfl (by decide +kernel) h13 ?_
        refine j_lcmp_lt hx (off := 32) (tgt := 293) (by decide +kernel) (by decide +kernel) (by decide) (fun _ => ?_) (fun _ => ?_)
        · refine j_lv (lv' := [(0, vR t), (1, vI a1), (2, vL a2), (7, vL l7)]) ⟨rfl, rfl, rfl, rfl, trivial⟩ ?_
          exact whd_isFix_293 h l7 q10.2
        refine j_runA hx 2 (tb := [(264, .lload 7), (266, .aload_n 0)]) (jtb_ok (by decide +kernel)) (pc' := 267) (lv' := [(10, vI s0), (0, vR t), (1, vI a1), (2, vL a2), (4, vI l4), (5, vL l5), (7, vL l7), (9, vI l9)]) (st' := [vR t, vL l7]) rfl ?_
        refine j_getR hx flX9_32 kl1413 h12 (by decide) (by decide +kernel) ?_
        refine j_runA hx 1 (tb := [(270, .iload 4)]) (jtb_ok (by decide +kernel)) (pc' := 272) (lv' := [(10, vI s0), (0, vR t), (1, vI a1), (2, vL a2), (4, vI l4), (5, vL l5), (7, vL l7), (9, vI l9)]) (st' := [vI l4, vR (jR q10.2 1413 t), vL l7]) rfl ?_
        refine j_gd (fun h14 => ?_)
        refine j_lald hx (f := 1413) (o := t) kd1413 rfl (by decide +kernel) h14 ?_
        refine j_runA hx 1 (tb := [(273, .aload_n 0)]) (jtb_ok (by decide +kernel)) (pc' := 274) (lv' := [(10, vI s0), (0, vR t), (1, vI a1), (2, vL a2), (4, vI l4), (5, vL l5), (7, vL l7), (9, vI l9)]) (st' := [vR t, vL (jB q10.2 1413 t (ix l4)), vL l7]) rfl ?_
        refine j_getR hx flX9_35 kl1414 h12 (by decide) (by decide +kernel) ?_
        refine j_runA hx 1 (tb := [(277, .iload 4)]) (jtb_ok (by decide +kernel)) (pc' := 279) (lv' := [(10, vI s0), (0, vR t), (1, vI a1), (2, vL a2), (4, vI l4), (5, vL l5), (7, vL l7), (9, vI l9)]) (st' := [vI l4, vR (jR q10.2 1414 t), vL (jB q10.2 1413 t (ix l4)), vL l7]) rfl ?_
        refine j_gd (fun h15 => ?_)
        refine j_lald hx (f := 1414) (o := t) kd1414 rfl (by decide +kernel) h15 ?_
        refine j_runA hx 1 (tb := [(280, .ladd)]) (jtb_ok (by decide +kernel)) (pc' := 281) (lv' := [(10, vI s0), (0, vR t), (1, vI a1), (2, vL a2), (4, vI l4), (5, vL l5), (7, vL l7), (9, vI l9)]) (st' := [vL ((jB q10.2 1413 t (ix l4)) + (jB q10.2 1414 t (ix l4))), vL l7]) rfl ?_
        refine j_ldc2 hx (v := (kJ 8)) (jkd2 q2829 (by decide +kernel)) (by decide +kernel) ?_
        refine j_runA hx 1 (tb := [(284, .lsub)]) (jtb_ok (by decide +kernel)) (pc' := 285) (lv' := [(10, vI s0), (0, vR t), (1, vI a1), (2, vL a2), (4, vI l4), (5, vL l5), (7, vL l7), (9, vI l9)]) (st' := [vL (((jB q10.2 1413 t (ix l4)) + (jB q10.2 1414 t (ix l4))) - (kJ 8)), vL l7]) rfl ?_
        refine j_lcmp_gt hx (off := 7) (tgt := 293) (by decide +kernel) (by decide +kernel) (by decide) (fun _ => ?_) (fun _ => ?_)
        · refine j_lv (lv' := [(0, vR t), (1, vI a1), (2, vL a2), (7, vL l7)]) ⟨rfl, rfl, rfl, rfl, trivial⟩ ?_
          exact whd_isFix_293 h l7 q10.2
        refine j_runA hx 1 (tb := [(289, .iconst 1)]) (jtb_ok (by decide +kernel)) (pc' := 290) (lv' := [(10, vI s0), (0, vR t), (1, vI a1), (2, vL a2), (4, vI l4), (5, vL l5), (7, vL l7), (9, vI l9)]) (st' := [vI (kI 1)]) rfl ?_
        refine j_goto hx (off := 4) (by decide +kernel) (tgt := 294) (by decide) ?_
        refine j_lv (lv' := [(0, vR t), (1, vI a1), (2, vL a2), (7, vL l7)]) ⟨rfl, rfl, rfl, rfl, trivial⟩ ?_
        exact whd_isFix_294 h l7 (kI 1) q10.2
      refine j_runA hx 1 (tb := [(212, .lload 7)]) (jtb_ok (by decide +kernel)) (pc' := 214) (lv' := [(10, vI s0), (0, vR t), (1, vI a1), (2, vL a2), (4, vI l4), (5, vL l5), (7, vL l7), (9, vI l9)]) (st' := [vL l7]) rfl ?_
      refine j_ldc2 hx (v := (kJ 4)) (jkd2 q2827 (by decide +kernel)) (by decide +kernel) ?_
      refine j_lrem hx (by decide +kernel) (by decide +kernel) ?_
      refine j_runA hx 1 (tb := [(218, .lconst 0)]) (jtb_ok (by decide +kernel)) (pc' := 219) (lv' := [(10, vI s0), (0, vR t), (1, vI a1), (2, vL a2), (4, vI l4), (5, vL l5), (7, vL l7), (9, vI l9)]) (st' := [vL (kJ 0), vL (lrm l7 (kJ 4))]) rfl ?_
      refine j_lcmp_ne hx (off := 16) (tgt := 236) (by decide +kernel) (by decide +kernel) (by decide) (fun _ => ?_) (fun _ => ?_)
      · refine j_lv (lv' := [(0, vR t), (1, vI a1), (2, vL a2), (7, vL l7)]) ⟨rfl, rfl, rfl, rfl, trivial⟩ ?_
        exact whd_isFix_236 h l7 q10.2
      refine j_runA hx 2 (tb := [(223, .aload_n 0), (224, .lload 7)]) (jtb_ok (by decide +kernel)) (pc' := 226) (lv' := [(10, vI s0), (0, vR t), (1, vI a1), (2, vL a2), (4, vI l4), (5, vL l5), (7, vL l7), (9, vI l9)]) (st' := [vL l7, vR t]) rfl ?_
      refine j_gd (fun h16 => ?_)
      refine j_OI (j_callV (av := [vL l7]) (st := []) hx hr (Or.inl q2923) q2924 q2925 rfl md_fhd_isIn np_fhd_isIn (chd_isIn t l7 q10.2) (by decide) (Nat.le_of_ble_eq_true rfl) h16 (by decide) (by decide +kernel)) (fun q17 _ => ?_)
      refine j_if_eq hx (off := 7) (tgt := 236) (by decide +kernel) (by decide) (fun _ => ?_) (fun _ => ?_)
      · refine j_lv (lv' := [(0, vR t), (1, vI a1), (2, vL a2), (7, vL l7)]) ⟨rfl, rfl, rfl, rfl, trivial⟩ ?_
        exact whd_isFix_236 h l7 q10.2
      refine j_runA hx 1 (tb := [(232, .iconst 1)]) (jtb_ok (by decide +kernel)) (pc' := 233) (lv' := [(10, vI s0), (0, vR t), (1, vI a1), (2, vL a2), (4, vI l4), (5, vL l5), (7, vL l7), (9, vI l9)]) (st' := [vI (kI 1)]) rfl ?_
      refine j_goto hx (off := 61) (by decide +kernel) (tgt := 294) (by decide) ?_
      refine j_lv (lv' := [(0, vR t), (1, vI a1), (2, vL a2), (7, vL l7)]) ⟨rfl, rfl, rfl, rfl, trivial⟩ ?_
      exact whd_isFix_294 h l7 (kI 1) q10.2
    refine j_runA hx 4 (tb := [(161, .aload_n 0), (162, .lload_n 2), (163, .bipush 8), (165, .lconst 0)]) (jtb_ok (by decide +kernel)) (pc' := 166) (lv' := [(10, vI s0), (0, vR t), (1, vI a1), (2, vL a2), (4, vI l4), (5, vL l5), (7, vL l7), (9, vI l9)]) (st' := [vL (kJ 0), vI (kI 8), vL a2, vR t]) rfl ?_
    refine j_gd (fun h18 => ?_)
    refine j_WI (j_callV (av := [vL a2, vI (kI 8), vL (kJ 0)]) (st := []) hx hr (Or.inl q2832) q2834 qs125 rfl md_fhd_has np_fhd_has (chd_has t a2 (kI 8) (kJ 0) q10.2) (by decide) (Nat.le_of_ble_eq_true rfl) h18 (by decide) (by decide +kernel)) (fun q19 _ => ?_)
    refine j_if_eq hx (off := 36) (tgt := 205) (by decide +kernel) (by decide) (fun _ => ?_) (fun _ => ?_)
    · refine j_lv (lv' := [(0, vR t), (1, vI a1), (2, vL a2)]) ⟨rfl, rfl, rfl, trivial⟩ ?_
      exact whd_isFix_205 h q19.2
    refine j_runA hx 2 (tb := [(172, .aload_n 0), (173, .lload_n 2)]) (jtb_ok (by decide +kernel)) (pc' := 174) (lv' := [(10, vI s0), (0, vR t), (1, vI a1), (2, vL a2), (4, vI l4), (5, vL l5), (7, vL l7), (9, vI l9)]) (st' := [vL a2, vR t]) rfl ?_
    refine j_ldc2 hx (v := (kJ 12)) (jkd2 q2922 (by decide +kernel)) (by decide +kernel) ?_
    refine j_runA hx 3 (tb := [(177, .ladd), (178, .iconst 4), (179, .lconst 0)]) (jtb_ok (by decide +kernel)) (pc' := 180) (lv' := [(10, vI s0), (0, vR t), (1, vI a1), (2, vL a2), (4, vI l4), (5, vL l5), (7, vL l7), (9, vI l9)]) (st' := [vL (kJ 0), vI (kI 4), vL (a2 + (kJ 12)), vR t]) rfl ?_
    refine j_gd (fun h21 => ?_)
    refine j_WI (j_callV (av := [vL (a2 + (kJ 12)), vI (kI 4), vL (kJ 0)]) (st := []) hx hr (Or.inl q2832) q2834 qs125 rfl md_fhd_has np_fhd_has (chd_has t (a2 + (kJ 12)) (kI 4) (kJ 0) q19.2) (by decide) (Nat.le_of_ble_eq_true rfl) h21 (by decide) (by decide +kernel)) (fun q22 _ => ?_)
    refine j_if_eq hx (off := 22) (tgt := 205) (by decide +kernel) (by decide) (fun _ => ?_) (fun _ => ?_)
    · refine j_lv (lv' := [(0, vR t), (1, vI a1), (2, vL a2)]) ⟨rfl, rfl, rfl, trivial⟩ ?_
      exact whd_isFix_205 h q22.2
    refine j_runA hx 2 (tb := [(186, .aload_n 0), (187, .lload_n 2)]) (jtb_ok (by decide +kernel)) (pc' := 188) (lv' := [(10, vI s0), (0, vR t), (1, vI a1), (2, vL a2), (4, vI l4), (5, vL l5), (7, vL l7), (9, vI l9)]) (st' := [vL a2, vR t]) rfl ?_
    refine j_ldc2 hx (v := (kJ 16)) (jkd2 q2830 (by decide +kernel)) (by decide +kernel) ?_
    refine j_runA hx 3 (tb := [(191, .ladd), (192, .bipush 8), (194, .lconst 0)]) (jtb_ok (by decide +kernel)) (pc' := 195) (lv' := [(10, vI s0), (0, vR t), (1, vI a1), (2, vL a2), (4, vI l4), (5, vL l5), (7, vL l7), (9, vI l9)]) (st' := [vL (kJ 0), vI (kI 8), vL (a2 + (kJ 16)), vR t]) rfl ?_
    refine j_gd (fun h24 => ?_)
    refine j_WI (j_callV (av := [vL (a2 + (kJ 16)), vI (kI 8), vL (kJ 0)]) (st := []) hx hr (Or.inl q2832) q2834 qs125 rfl md_fhd_has np_fhd_has (chd_has t (a2 + (kJ 16)) (kI 8) (kJ 0) q22.2) (by decide) (Nat.le_of_ble_eq_true rfl) h24 (by decide) (by decide +kernel)) (fun q25 _ => ?_)
    refine j_if_eq hx (off := 7) (tgt := 205) (by decide +kernel) (by decide) (fun _ => ?_) (fun _ => ?_)
    · refine j_lv (lv' := [(0, vR t), (1, vI a1), (2, vL a2)]) ⟨rfl, rfl, rfl, trivial⟩ ?_
      exact whd_isFix_205 h q25.2
    refine j_runA hx 1 (tb := [(201, .iconst 1)]) (jtb_ok (by decide +kernel)) (pc' := 202) (lv' := [(10, vI s0), (0, vR t), (1, vI a1), (2, vL a2), (4, vI l4), (5, vL l5), (7, vL l7), (9, vI l9)]) (st' := [vI (kI 1)]) rfl ?_
    refine j_goto hx (off := 4) (by decide +kernel) (tgt := 206) (by decide) ?_
    exact j_iret hx hm (by decide +kernel) jz1n (he _)
  refine j_runA hx 1 (tb := [(152, .iconst 0)]) (jtb_ok (by decide +kernel)) (pc' := 153) (lv' := [(10, vI s0), (0, vR t), (1, vI a1), (2, vL a2), (4, vI l4), (5, vL l5), (7, vL l7), (9, vI l9)]) (st' := [vI (kI 0)]) rfl ?_
  exact j_iret hx hm (by decide +kernel) jz0n (he _)
theorem whd_isFix_131 {x : jCx} {en : (fhd_isFix_S ⊕ (Int32 × jW)) → Option (Outcome × jW)} {t : Nat} {a1 : Int32} {a2 : Int64} (h : hhd_isFix x en t a1 a2) (l4 : Int32) (l5 : Int64) (l7 : Int64) (l9 : Int32) (W : jW) : jJ x 14 131 [(0, vR t), (1, vI a1), (2, vL a2), (4, vI l4), (5, vL l5), (7, vL l7), (9, vI l9)] [] W (fhd_isFix_131 t a1 a2 l4 l5 l7 l9 W) en := by
  have h0 := h
  obtain ⟨hx, hm, hr, he, k304⟩ := h0
  unfold fhd_isFix_131
  refine j_runA hx 1 (tb := [(131, .iconst 1)]) (jtb_ok (by decide +kernel)) (pc' := 132) (lv' := [(0, vR t), (1, vI a1), (2, vL a2), (4, vI l4), (5, vL l5), (7, vL l7), (9, vI l9)]) (st' := [vI (kI 1)]) rfl ?_
  refine j_goto hx (off := 4) (by decide +kernel) (tgt := 136) (by decide) ?_
  exact whd_isFix_136 h l4 l5 l7 l9 (kI 1) W
theorem whd_isFix_135 {x : jCx} {en : (fhd_isFix_S ⊕ (Int32 × jW)) → Option (Outcome × jW)} {t : Nat} {a1 : Int32} {a2 : Int64} (h : hhd_isFix x en t a1 a2) (l4 : Int32) (l5 : Int64) (l7 : Int64) (l9 : Int32) (W : jW) : jJ x 14 135 [(0, vR t), (1, vI a1), (2, vL a2), (4, vI l4), (5, vL l5), (7, vL l7), (9, vI l9)] [] W (fhd_isFix_135 t a1 a2 l4 l5 l7 l9 W) en := by
  have h0 := h
  obtain ⟨hx, hm, hr, he, k304⟩ := h0
  unfold fhd_isFix_135
  refine j_runA hx 1 (tb := [(135, .iconst 0)]) (jtb_ok (by decide +kernel)) (pc' := 136) (lv' := [(0, vR t), (1, vI a1), (2, vL a2), (4, vI l4), (5, vL l5), (7, vL l7), (9, vI l9)]) (st' := [vI (kI 0)]) rfl ?_
  exact whd_isFix_136 h l4 l5 l7 l9 (kI 0) W
theorem whd_isFix_101 {x : jCx} {en : (fhd_isFix_S ⊕ (Int32 × jW)) → Option (Outcome × jW)} {t : Nat} {a1 : Int32} {a2 : Int64} (h : hhd_isFix x en t a1 a2) (l4 : Int32) (l5 : Int64) (l7 : Int64) (l9 : Int32) (W : jW) : jJ x 14 101 [(0, vR t), (1, vI a1), (2, vL a2), (4, vI l4), (5, vL l5), (7, vL l7), (9, vI l9)] [] W (fhd_isFix_101 t a1 a2 l4 l5 l7 l9 W) en := by
  have h0 := h
  obtain ⟨hx, hm, hr, he, k304⟩ := h0
  unfold fhd_isFix_101
  refine j_runA hx 1 (tb := [(101, .lload 5)]) (jtb_ok (by decide +kernel)) (pc' := 103) (lv' := [(0, vR t), (1, vI a1), (2, vL a2), (4, vI l4), (5, vL l5), (7, vL l7), (9, vI l9)]) (st' := [vL l5]) rfl ?_
  refine j_ldc2 hx (v := (kJ 282)) (jkd2 q2919 (by decide +kernel)) (by decide +kernel) ?_
  refine j_lcmp_lt hx (off := 28) (tgt := 135) (by decide +kernel) (by decide +kernel) (by decide) (fun _ => ?_) (fun _ => ?_)
  · exact whd_isFix_135 h l4 l5 l7 l9 W
  refine j_runA hx 1 (tb := [(110, .lload 5)]) (jtb_ok (by decide +kernel)) (pc' := 112) (lv' := [(0, vR t), (1, vI a1), (2, vL a2), (4, vI l4), (5, vL l5), (7, vL l7), (9, vI l9)]) (st' := [vL l5]) rfl ?_
  refine j_ldc2 hx (v := (kJ 283)) (jkd2 q2920 (by decide +kernel)) (by decide +kernel) ?_
  refine j_lcmp_gt hx (off := 19) (tgt := 135) (by decide +kernel) (by decide +kernel) (by decide) (fun _ => ?_) (fun _ => ?_)
  · exact whd_isFix_135 h l4 l5 l7 l9 W
  refine j_goto hx (off := 12) (by decide +kernel) (tgt := 131) (by decide) ?_
  exact whd_isFix_131 h l4 l5 l7 l9 W
theorem whd_isFix_42 {x : jCx} {en : (fhd_isFix_S ⊕ (Int32 × jW)) → Option (Outcome × jW)} {t : Nat} {a1 : Int32} {a2 : Int64} (h : hhd_isFix x en t a1 a2) (l4 : Int32) (l5 : Int64) (l7 : Int64) (s0 : Int32) (W : jW) : jJ x 14 42 [(0, vR t), (1, vI a1), (2, vL a2), (4, vI l4), (5, vL l5), (7, vL l7)] [vI s0] W (fhd_isFix_42 t a1 a2 l4 l5 l7 s0 W) en := by
  have h0 := h
  obtain ⟨hx, hm, hr, he, k304⟩ := h0
  unfold fhd_isFix_42
  refine j_runA hx 3 (tb := [(42, .istore 9), (44, .lload 5), (46, .lconst 0)]) (jtb_ok (by decide +kernel)) (pc' := 47) (lv' := [(9, vI s0), (0, vR t), (1, vI a1), (2, vL a2), (4, vI l4), (5, vL l5), (7, vL l7)]) (st' := [vL (kJ 0), vL l5]) rfl ?_
  refine j_lcmp_eq hx (off := 83) (tgt := 131) (by decide +kernel) (by decide +kernel) (by decide) (fun _ => ?_) (fun _ => ?_)
  · refine j_lv (lv' := [(0, vR t), (1, vI a1), (2, vL a2), (4, vI l4), (5, vL l5), (7, vL l7), (9, vI s0)]) ⟨rfl, rfl, rfl, rfl, rfl, rfl, rfl, trivial⟩ ?_
    exact whd_isFix_131 h l4 l5 l7 s0 W
  refine j_runA hx 1 (tb := [(51, .iload 9)]) (jtb_ok (by decide +kernel)) (pc' := 53) (lv' := [(9, vI s0), (0, vR t), (1, vI a1), (2, vL a2), (4, vI l4), (5, vL l5), (7, vL l7)]) (st' := [vI s0]) rfl ?_
  refine j_if_eq hx (off := 69) (tgt := 122) (by decide +kernel) (by decide) (fun _ => ?_) (fun _ => ?_)
  · refine j_runA hx 1 (tb := [(122, .lload 5)]) (jtb_ok (by decide +kernel)) (pc' := 124) (lv' := [(9, vI s0), (0, vR t), (1, vI a1), (2, vL a2), (4, vI l4), (5, vL l5), (7, vL l7)]) (st' := [vL l5]) rfl ?_
    refine j_ldc2 hx (v := (kJ 257)) (jkd2 q2921 (by decide +kernel)) (by decide +kernel) ?_
    refine j_lcmp_ne hx (off := 7) (tgt := 135) (by decide +kernel) (by decide +kernel) (by decide) (fun _ => ?_) (fun _ => ?_)
    · refine j_lv (lv' := [(0, vR t), (1, vI a1), (2, vL a2), (4, vI l4), (5, vL l5), (7, vL l7), (9, vI s0)]) ⟨rfl, rfl, rfl, rfl, rfl, rfl, rfl, trivial⟩ ?_
      exact whd_isFix_135 h l4 l5 l7 s0 W
    refine j_lv (lv' := [(0, vR t), (1, vI a1), (2, vL a2), (4, vI l4), (5, vL l5), (7, vL l7), (9, vI s0)]) ⟨rfl, rfl, rfl, rfl, rfl, rfl, rfl, trivial⟩ ?_
    exact whd_isFix_131 h l4 l5 l7 s0 W
  refine j_runA hx 1 (tb := [(56, .lload 5)]) (jtb_ok (by decide +kernel)) (pc' := 58) (lv' := [(9, vI s0), (0, vR t), (1, vI a1), (2, vL a2), (4, vI l4), (5, vL l5), (7, vL l7)]) (st' := [vL l5]) rfl ?_
  refine j_ldc2 hx (v := (kJ 275)) (jkd2 q2914 (by decide +kernel)) (by decide +kernel) ?_
  refine j_lcmp_eq hx (off := 69) (tgt := 131) (by decide +kernel) (by decide +kernel) (by decide) (fun _ => ?_) (fun _ => ?_)
  · refine j_lv (lv' := [(0, vR t), (1, vI a1), (2, vL a2), (4, vI l4), (5, vL l5), (7, vL l7), (9, vI s0)]) ⟨rfl, rfl, rfl, rfl, rfl, rfl, rfl, trivial⟩ ?_
    exact whd_isFix_131 h l4 l5 l7 s0 W
  refine j_runA hx 1 (tb := [(65, .lload 5)]) (jtb_ok (by decide +kernel)) (pc' := 67) (lv' := [(9, vI s0), (0, vR t), (1, vI a1), (2, vL a2), (4, vI l4), (5, vL l5), (7, vL l7)]) (st' := [vL l5]) rfl ?_
  refine j_ldc2 hx (v := (kJ 277)) (jkd2 q2915 (by decide +kernel)) (by decide +kernel) ?_
  refine j_lcmp_eq hx (off := 60) (tgt := 131) (by decide +kernel) (by decide +kernel) (by decide) (fun _ => ?_) (fun _ => ?_)
  · refine j_lv (lv' := [(0, vR t), (1, vI a1), (2, vL a2), (4, vI l4), (5, vL l5), (7, vL l7), (9, vI s0)]) ⟨rfl, rfl, rfl, rfl, rfl, rfl, rfl, trivial⟩ ?_
    exact whd_isFix_131 h l4 l5 l7 s0 W
  refine j_runA hx 1 (tb := [(74, .lload 5)]) (jtb_ok (by decide +kernel)) (pc' := 76) (lv' := [(9, vI s0), (0, vR t), (1, vI a1), (2, vL a2), (4, vI l4), (5, vL l5), (7, vL l7)]) (st' := [vL l5]) rfl ?_
  refine j_ldc2 hx (v := (kJ 278)) (jkd2 q2916 (by decide +kernel)) (by decide +kernel) ?_
  refine j_lcmp_eq hx (off := 51) (tgt := 131) (by decide +kernel) (by decide +kernel) (by decide) (fun _ => ?_) (fun _ => ?_)
  · refine j_lv (lv' := [(0, vR t), (1, vI a1), (2, vL a2), (4, vI l4), (5, vL l5), (7, vL l7), (9, vI s0)]) ⟨rfl, rfl, rfl, rfl, rfl, rfl, rfl, trivial⟩ ?_
    exact whd_isFix_131 h l4 l5 l7 s0 W
  refine j_runA hx 1 (tb := [(83, .lload 5)]) (jtb_ok (by decide +kernel)) (pc' := 85) (lv' := [(9, vI s0), (0, vR t), (1, vI a1), (2, vL a2), (4, vI l4), (5, vL l5), (7, vL l7)]) (st' := [vL l5]) rfl ?_
  refine j_ldc2 hx (v := (kJ 285)) (jkd2 q2917 (by decide +kernel)) (by decide +kernel) ?_
  refine j_lcmp_lt hx (off := 12) (tgt := 101) (by decide +kernel) (by decide +kernel) (by decide) (fun _ => ?_) (fun _ => ?_)
  · refine j_lv (lv' := [(0, vR t), (1, vI a1), (2, vL a2), (4, vI l4), (5, vL l5), (7, vL l7), (9, vI s0)]) ⟨rfl, rfl, rfl, rfl, rfl, rfl, rfl, trivial⟩ ?_
    exact whd_isFix_101 h l4 l5 l7 s0 W
  refine j_runA hx 1 (tb := [(92, .lload 5)]) (jtb_ok (by decide +kernel)) (pc' := 94) (lv' := [(9, vI s0), (0, vR t), (1, vI a1), (2, vL a2), (4, vI l4), (5, vL l5), (7, vL l7)]) (st' := [vL l5]) rfl ?_
  refine j_ldc2 hx (v := (kJ 286)) (jkd2 q2918 (by decide +kernel)) (by decide +kernel) ?_
  refine j_lcmp_le hx (off := 33) (tgt := 131) (by decide +kernel) (by decide +kernel) (by decide) (fun _ => ?_) (fun _ => ?_)
  · refine j_lv (lv' := [(0, vR t), (1, vI a1), (2, vL a2), (4, vI l4), (5, vL l5), (7, vL l7), (9, vI s0)]) ⟨rfl, rfl, rfl, rfl, rfl, rfl, rfl, trivial⟩ ?_
    exact whd_isFix_131 h l4 l5 l7 s0 W
  refine j_lv (lv' := [(0, vR t), (1, vI a1), (2, vL a2), (4, vI l4), (5, vL l5), (7, vL l7), (9, vI s0)]) ⟨rfl, rfl, rfl, rfl, rfl, rfl, rfl, trivial⟩ ?_
  exact whd_isFix_101 h l4 l5 l7 s0 W
theorem whd_isFix {x : jCx} {en : (fhd_isFix_S ⊕ (Int32 × jW)) → Option (Outcome × jW)} {t : Nat} {a1 : Int32} {a2 : Int64} (h : hhd_isFix x en t a1 a2) (W : jW) : jJ x 14 0 [(0, vR t), (1, vI a1), (2, vL a2)] [] W (fhd_isFix_0 t a1 a2 W) en := by
  have h0 := h
  obtain ⟨hx, hm, hr, he, k304⟩ := h0
  unfold fhd_isFix_0
  refine j_runA hx 2 (tb := [(0, .aload_n 0), (1, .iload_n 1)]) (jtb_ok (by decide +kernel)) (pc' := 2) (lv' := [(0, vR t), (1, vI a1), (2, vL a2)]) (st' := [vI a1, vR t]) rfl ?_
  refine j_gd (fun h1 => ?_)
  refine j_OI (j_callV (av := [vI a1]) (st := []) hx hr (Or.inl q2910) q2911 q2912 rfl md_fhd_aim np_fhd_aim (chd_aim t a1 W) (by decide) (Nat.le_of_ble_eq_true rfl) h1 (by decide) (by decide +kernel)) (fun q2 _ => ?_)
  refine j_runA hx 3 (tb := [(5, .istore 4), (7, .aload_n 0), (8, .lload_n 2)]) (jtb_ok (by decide +kernel)) (pc' := 9) (lv' := [(4, vI q2), (0, vR t), (1, vI a1), (2, vL a2)]) (st' := [vL a2, vR t]) rfl ?_
  refine j_ldc2 hx (v := (kJ 8)) (jkd2 q2829 (by decide +kernel)) (by decide +kernel) ?_
  refine j_runA hx 2 (tb := [(12, .ladd), (13, .iconst 4)]) (jtb_ok (by decide +kernel)) (pc' := 14) (lv' := [(4, vI q2), (0, vR t), (1, vI a1), (2, vL a2)]) (st' := [vI (kI 4), vL (a2 + (kJ 8)), vR t]) rfl ?_
  refine j_OL (j_callV (av := [vL (a2 + (kJ 8)), vI (kI 4)]) (st := []) hx hr (Or.inl q2822) q2823 q2824 rfl md_fhd_num np_fhd_num (chd_num t (a2 + (kJ 8)) (kI 4) W) (by decide) (Nat.le_of_ble_eq_true rfl) h1 (by decide) (by decide +kernel)) (fun q3 _ => ?_)
  refine j_runA hx 4 (tb := [(17, .lstore 5), (19, .aload_n 0), (20, .lload_n 2), (21, .bipush 8)]) (jtb_ok (by decide +kernel)) (pc' := 23) (lv' := [(5, vL q3), (4, vI q2), (0, vR t), (1, vI a1), (2, vL a2)]) (st' := [vI (kI 8), vL a2, vR t]) rfl ?_
  refine j_OL (j_callV (av := [vL a2, vI (kI 8)]) (st := []) hx hr (Or.inl q2822) q2823 q2824 rfl md_fhd_num np_fhd_num (chd_num t a2 (kI 8) W) (by decide) (Nat.le_of_ble_eq_true rfl) h1 (by decide) (by decide +kernel)) (fun q4 _ => ?_)
  refine j_runA hx 3 (tb := [(26, .lstore 7), (28, .iload 4), (30, .aload_n 0)]) (jtb_ok (by decide +kernel)) (pc' := 31) (lv' := [(7, vL q4), (5, vL q3), (4, vI q2), (0, vR t), (1, vI a1), (2, vL a2)]) (st' := [vR t, vI q2]) rfl ?_
  refine j_getI hx flX9_80 kd1415 h1 (by decide) (by decide +kernel) ?_
  refine j_icmp_ne hx (off := 7) (tgt := 41) (by decide +kernel) (by decide) (fun _ => ?_) (fun _ => ?_)
  · refine j_runA hx 1 (tb := [(41, .iconst 0)]) (jtb_ok (by decide +kernel)) (pc' := 42) (lv' := [(7, vL q4), (5, vL q3), (4, vI q2), (0, vR t), (1, vI a1), (2, vL a2)]) (st' := [vI (kI 0)]) rfl ?_
    refine j_lv (lv' := [(0, vR t), (1, vI a1), (2, vL a2), (4, vI q2), (5, vL q3), (7, vL q4)]) ⟨rfl, rfl, rfl, rfl, rfl, rfl, trivial⟩ ?_
    exact whd_isFix_42 h q2 q3 q4 (kI 0) W
  refine j_runA hx 1 (tb := [(37, .iconst 1)]) (jtb_ok (by decide +kernel)) (pc' := 38) (lv' := [(7, vL q4), (5, vL q3), (4, vI q2), (0, vR t), (1, vI a1), (2, vL a2)]) (st' := [vI (kI 1)]) rfl ?_
  refine j_goto hx (off := 4) (by decide +kernel) (tgt := 42) (by decide) ?_
  refine j_lv (lv' := [(0, vR t), (1, vI a1), (2, vL a2), (4, vI q2), (5, vL q3), (7, vL q4)]) ⟨rfl, rfl, rfl, rfl, rfl, rfl, trivial⟩ ?_
  exact whd_isFix_42 h q2 q3 q4 (kI 1) W
theorem chd_isFix (t : Nat) (a1 : Int32) (a2 : Int64) (W : jW) : jM yX9_isFix cX9_isFix 14 (Option.some Jvm.ClassFile.FieldType.boolean) [] 2 36 [vR t, vI a1, vL a2] W ((fhd_isFix t a1 a2 W).bind (fun q => some (.returned (some (.int q.1)), q.2))) := by
  refine jM.of (Nat.le_of_ble_eq_true rfl) (fun x hx hm hr => ?_)
  refine j_begin (P := (fun s => (304, [(0, vR t), (1, vI a1), (2, vL a2), (7, vL s.1), (11, vI s.2.1), (12, vL s.2.2.1)], s.2.2.2))) (fun en he hk => ?_)
  have h : hhd_isFix x en t a1 a2 := ⟨hx, hm, hr, fun q => he _, fun l7 l11 l12 W => hk (l7, l11, l12, W)⟩
  exact ⟨fun s => whd_isFix_304 h s.1 s.2.1 s.2.2.1 s.2.2.2, whd_isFix h W⟩
def hhd_hasFixes (x : jCx) (en : (fhd_hasFixes_S ⊕ (Int32 × jW)) → Option (Outcome × jW)) (t : Nat) : Prop :=
  jOK x RX9 cX9_hasFixes 4 ∧
  jMt x "hasFixes" (Option.some Jvm.ClassFile.FieldType.boolean) [] ∧
  jRm x 3 61 ∧
  (∀ q : Int32 × jW, en (.inr q) = some (.returned (some (.int q.1)), q.2)) ∧
  (∀ (l1 : Int32) (W : jW), jJ x 4 2 [(0, vR t), (1, vI l1)] [] W (some (.inl (.inl (l1, W)))) en) ∧
  (∀ (l1 : Int32) (l2 : Int64) (W : jW), jJ x 4 29 [(0, vR t), (1, vI l1), (2, vL l2)] [] W (some (.inl (.inr (l1, l2, W)))) en)
theorem whd_hasFixes_67 {x : jCx} {en : (fhd_hasFixes_S ⊕ (Int32 × jW)) → Option (Outcome × jW)} {t : Nat} (h : hhd_hasFixes x en t) (l1 : Int32) (W : jW) : jJ x 4 67 [(0, vR t), (1, vI l1)] [] W (fhd_hasFixes_67 t l1 W) en := by
  have h0 := h
  obtain ⟨hx, hm, hr, he, k2, k29⟩ := h0
  unfold fhd_hasFixes_67
  refine j_runA hx 1 (tb := [(67, .iinc 1 1)]) (jtb_ok (by decide +kernel)) (pc' := 70) (lv' := [(1, vI (l1 + (kI 1))), (0, vR t)]) (st' := []) rfl ?_
  refine j_let (v := (l1 + (kI 1))) (lv := fun v7 => [(1, vI v7), (0, vR t)]) (st := fun _ => []) (fun v7 => ?_)
  refine j_goto hx (off := -68) (by decide +kernel) (tgt := 2) (by decide) ?_
  refine j_lv (lv' := [(0, vR t), (1, vI v7)]) ⟨rfl, rfl, trivial⟩ ?_
  exact k2 v7 W
theorem whd_hasFixes_29 {x : jCx} {en : (fhd_hasFixes_S ⊕ (Int32 × jW)) → Option (Outcome × jW)} {t : Nat} (h : hhd_hasFixes x en t) (l1 : Int32) (l2 : Int64) (W : jW) : jJ x 4 29 [(0, vR t), (1, vI l1), (2, vL l2)] [] W (fhd_hasFixes_29 t l1 l2 W) en := by
  have h0 := h
  obtain ⟨hx, hm, hr, he, k2, k29⟩ := h0
  unfold fhd_hasFixes_29
  refine j_runA hx 2 (tb := [(29, .lload_n 2), (30, .aload_n 0)]) (jtb_ok (by decide +kernel)) (pc' := 31) (lv' := [(0, vR t), (1, vI l1), (2, vL l2)]) (st' := [vR t, vL l2]) rfl ?_
  refine j_gd (fun h9 => ?_)
  refine j_getR hx flX9_29 kl1412 h9 (by decide) (by decide +kernel) ?_
  refine j_runA hx 1 (tb := [(34, .iload_n 1)]) (jtb_ok (by decide +kernel)) (pc' := 35) (lv' := [(0, vR t), (1, vI l1), (2, vL l2)]) (st' := [vI l1, vR (jR W 1412 t), vL l2]) rfl ?_
  refine j_gd (fun h10 => ?_)
  refine j_lald hx (f := 1412) (o := t) kd1412 rfl (by decide +kernel) h10 ?_
  refine j_runA hx 1 (tb := [(36, .aload_n 0)]) (jtb_ok (by decide +kernel)) (pc' := 37) (lv' := [(0, vR t), (1, vI l1), (2, vL l2)]) (st' := [vR t, vL (jB W 1412 t (ix l1)), vL l2]) rfl ?_
  refine j_getR hx flX9_35 kl1414 h9 (by decide) (by decide +kernel) ?_
  refine j_runA hx 1 (tb := [(40, .iload_n 1)]) (jtb_ok (by decide +kernel)) (pc' := 41) (lv' := [(0, vR t), (1, vI l1), (2, vL l2)]) (st' := [vI l1, vR (jR W 1414 t), vL (jB W 1412 t (ix l1)), vL l2]) rfl ?_
  refine j_gd (fun h11 => ?_)
  refine j_lald hx (f := 1414) (o := t) kd1414 rfl (by decide +kernel) h11 ?_
  refine j_runA hx 1 (tb := [(42, .ladd)]) (jtb_ok (by decide +kernel)) (pc' := 43) (lv' := [(0, vR t), (1, vI l1), (2, vL l2)]) (st' := [vL ((jB W 1412 t (ix l1)) + (jB W 1414 t (ix l1))), vL l2]) rfl ?_
  refine j_lcmp_ge hx (off := 23) (tgt := 67) (by decide +kernel) (by decide +kernel) (by decide) (fun _ => ?_) (fun _ => ?_)
  · refine j_lv (lv' := [(0, vR t), (1, vI l1)]) ⟨rfl, rfl, trivial⟩ ?_
    exact whd_hasFixes_67 h l1 W
  refine j_runA hx 3 (tb := [(47, .aload_n 0), (48, .iload_n 1), (49, .lload_n 2)]) (jtb_ok (by decide +kernel)) (pc' := 50) (lv' := [(0, vR t), (1, vI l1), (2, vL l2)]) (st' := [vL l2, vI l1, vR t]) rfl ?_
  refine j_WI (j_callV (av := [vI l1, vL l2]) (st := []) hx hr (Or.inl q2906) q2908 qs134 rfl md_fhd_isFix np_fhd_isFix (chd_isFix t l1 l2 W) (by decide) (Nat.le_of_ble_eq_true rfl) h9 (by decide) (by decide +kernel)) (fun q12 _ => ?_)
  refine j_if_ne hx (off := 5) (tgt := 58) (by decide +kernel) (by decide) (fun _ => ?_) (fun _ => ?_)
  · refine j_runA hx 1 (tb := [(58, .lload_n 2)]) (jtb_ok (by decide +kernel)) (pc' := 59) (lv' := [(0, vR t), (1, vI l1), (2, vL l2)]) (st' := [vL l2]) rfl ?_
    refine j_ldc2 hx (v := (kJ 24)) (jkd2 q2876 (by decide +kernel)) (by decide +kernel) ?_
    refine j_runA hx 2 (tb := [(62, .ladd), (63, .lstore_n 2)]) (jtb_ok (by decide +kernel)) (pc' := 64) (lv' := [(2, vL (l2 + (kJ 24))), (0, vR t), (1, vI l1)]) (st' := []) rfl ?_
    refine j_let (v := (l2 + (kJ 24))) (lv := fun v14 => [(2, vL v14), (0, vR t), (1, vI l1)]) (st := fun _ => []) (fun v14 => ?_)
    refine j_goto hx (off := -35) (by decide +kernel) (tgt := 29) (by decide) ?_
    refine j_lv (lv' := [(0, vR t), (1, vI l1), (2, vL v14)]) ⟨rfl, rfl, rfl, trivial⟩ ?_
    exact k29 l1 v14 q12.2
  refine j_runA hx 1 (tb := [(56, .iconst 0)]) (jtb_ok (by decide +kernel)) (pc' := 57) (lv' := [(0, vR t), (1, vI l1), (2, vL l2)]) (st' := [vI (kI 0)]) rfl ?_
  exact j_iret hx hm (by decide +kernel) jz0n (he _)
theorem whd_hasFixes_2 {x : jCx} {en : (fhd_hasFixes_S ⊕ (Int32 × jW)) → Option (Outcome × jW)} {t : Nat} (h : hhd_hasFixes x en t) (l1 : Int32) (W : jW) : jJ x 4 2 [(0, vR t), (1, vI l1)] [] W (fhd_hasFixes_2 t l1 W) en := by
  have h0 := h
  obtain ⟨hx, hm, hr, he, k2, k29⟩ := h0
  unfold fhd_hasFixes_2
  refine j_runA hx 2 (tb := [(2, .iload_n 1), (3, .aload_n 0)]) (jtb_ok (by decide +kernel)) (pc' := 4) (lv' := [(0, vR t), (1, vI l1)]) (st' := [vR t, vI l1]) rfl ?_
  refine j_gd (fun h2 => ?_)
  refine j_getI hx flX9_126 kd1403 h2 (by decide) (by decide +kernel) ?_
  refine j_icmp_ge hx (off := 66) (tgt := 73) (by decide +kernel) (by decide) (fun _ => ?_) (fun _ => ?_)
  · refine j_runA hx 1 (tb := [(73, .iconst 1)]) (jtb_ok (by decide +kernel)) (pc' := 74) (lv' := [(0, vR t), (1, vI l1)]) (st' := [vI (kI 1)]) rfl ?_
    exact j_iret hx hm (by decide +kernel) jz1n (he _)
  refine j_runA hx 2 (tb := [(10, .aload_n 0), (11, .iload_n 1)]) (jtb_ok (by decide +kernel)) (pc' := 12) (lv' := [(0, vR t), (1, vI l1)]) (st' := [vI l1, vR t]) rfl ?_
  refine j_OI (j_callV (av := [vI l1]) (st := []) hx hr (Or.inl q2877) q2878 q2879 rfl md_fhd_what np_fhd_what (chd_what t l1 W) (by decide) (Nat.le_of_ble_eq_true rfl) h2 (by decide) (by decide +kernel)) (fun q3 _ => ?_)
  refine j_runA hx 1 (tb := [(15, .iconst 4)]) (jtb_ok (by decide +kernel)) (pc' := 16) (lv' := [(0, vR t), (1, vI l1)]) (st' := [vI (kI 4), vI q3]) rfl ?_
  refine j_icmp_eq hx (off := 6) (tgt := 22) (by decide +kernel) (by decide) (fun _ => ?_) (fun _ => ?_)
  · refine j_runA hx 1 (tb := [(22, .aload_n 0)]) (jtb_ok (by decide +kernel)) (pc' := 23) (lv' := [(0, vR t), (1, vI l1)]) (st' := [vR t]) rfl ?_
    refine j_getR hx flX9_29 kl1412 h2 (by decide) (by decide +kernel) ?_
    refine j_runA hx 1 (tb := [(26, .iload_n 1)]) (jtb_ok (by decide +kernel)) (pc' := 27) (lv' := [(0, vR t), (1, vI l1)]) (st' := [vI l1, vR (jR W 1412 t)]) rfl ?_
    refine j_gd (fun h4 => ?_)
    refine j_lald hx (f := 1412) (o := t) kd1412 rfl (by decide +kernel) h4 ?_
    refine j_runA hx 1 (tb := [(28, .lstore_n 2)]) (jtb_ok (by decide +kernel)) (pc' := 29) (lv' := [(2, vL (jB W 1412 t (ix l1))), (0, vR t), (1, vI l1)]) (st' := []) rfl ?_
    refine j_let (v := (jB W 1412 t (ix l1))) (lv := fun v5 => [(2, vL v5), (0, vR t), (1, vI l1)]) (st := fun _ => []) (fun v5 => ?_)
    refine j_lv (lv' := [(0, vR t), (1, vI l1), (2, vL v5)]) ⟨rfl, rfl, rfl, trivial⟩ ?_
    exact k29 l1 v5 W
  refine j_goto hx (off := 48) (by decide +kernel) (tgt := 67) (by decide) ?_
  exact whd_hasFixes_67 h l1 W
theorem whd_hasFixes {x : jCx} {en : (fhd_hasFixes_S ⊕ (Int32 × jW)) → Option (Outcome × jW)} {t : Nat} (h : hhd_hasFixes x en t) (W : jW) : jJ x 4 0 [(0, vR t)] [] W (fhd_hasFixes_0 t W) en := by
  have h0 := h
  obtain ⟨hx, hm, hr, he, k2, k29⟩ := h0
  unfold fhd_hasFixes_0
  refine j_runA hx 2 (tb := [(0, .iconst 1), (1, .istore_n 1)]) (jtb_ok (by decide +kernel)) (pc' := 2) (lv' := [(1, vI (kI 1)), (0, vR t)]) (st' := []) rfl ?_
  refine j_lv (lv' := [(0, vR t), (1, vI (kI 1))]) ⟨rfl, rfl, trivial⟩ ?_
  exact k2 (kI 1) W
theorem chd_hasFixes (t : Nat) (W : jW) : jM yX9_hasFixes cX9_hasFixes 4 (Option.some Jvm.ClassFile.FieldType.boolean) [] 3 61 [vR t] W ((fhd_hasFixes t W).bind (fun q => some (.returned (some (.int q.1)), q.2))) := by
  refine jM.of (Nat.le_of_ble_eq_true rfl) (fun x hx hm hr => ?_)
  refine j_begin (P := (Sum.elim (fun s => (2, [(0, vR t), (1, vI s.1)], s.2)) (fun s => (29, [(0, vR t), (1, vI s.1), (2, vL s.2.1)], s.2.2)))) (fun en he hk => ?_)
  have h : hhd_hasFixes x en t := ⟨hx, hm, hr, fun q => he _, fun l1 W => hk (.inl (l1, W)), fun l1 l2 W => hk (.inr (l1, l2, W))⟩
  refine ⟨fun s => ?_, whd_hasFixes h W⟩
  rcases s with s | s
  · exact whd_hasFixes_2 h s.1 s.2
  · exact whd_hasFixes_29 h s.1 s.2.1 s.2.2
def hhd_broken (x : jCx) (en : (Int32 × jW) → Option (Outcome × jW)) (t : Nat) : Prop :=
  jOK x RX9 cX9_broken 3 ∧
  jMt x "broken" (Option.some Jvm.ClassFile.FieldType.int) [] ∧
  jRm x 4 76 ∧
  (∀ q : Int32 × jW, en q = some (.returned (some (.int q.1)), q.2))
theorem whd_broken_79 {x : jCx} {en : (Int32 × jW) → Option (Outcome × jW)} {t : Nat} (h : hhd_broken x en t) (s0 : Int32) (s1 : Nat) (W : jW) : jJ x 3 79 [(0, vR t)] [vI s0, vR s1] W (fhd_broken_79 t s0 s1 W) en := by
  have h0 := h
  obtain ⟨hx, hm, hr, he⟩ := h0
  unfold fhd_broken_79
  refine j_ldc2 hx (v := (kJ 24)) (jkd2 q2876 (by decide +kernel)) (by decide +kernel) ?_
  refine j_gd (fun h20 => ?_)
  refine j_WI (j_callV (av := [vI s0, vL (kJ 24)]) (st := []) hx hr (Or.inl q2818) q2820 qs124 rfl md_fhd_is np_fhd_is (chd_is s1 s0 (kJ 24) W) (by decide) (Nat.le_of_ble_eq_true rfl) h20 (by decide) (by decide +kernel)) (fun q21 _ => ?_)
  refine j_if_eq hx (off := 7) (tgt := 92) (by decide +kernel) (by decide) (fun _ => ?_) (fun _ => ?_)
  · refine j_runA hx 1 (tb := [(92, .bipush 6)]) (jtb_ok (by decide +kernel)) (pc' := 94) (lv' := [(0, vR t)]) (st' := [vI (kI 6)]) rfl ?_
    exact j_iret hx hm (by decide +kernel) rfl (he _)
  refine j_runA hx 1 (tb := [(88, .iconst 0)]) (jtb_ok (by decide +kernel)) (pc' := 89) (lv' := [(0, vR t)]) (st' := [vI (kI 0)]) rfl ?_
  refine j_goto hx (off := 5) (by decide +kernel) (tgt := 94) (by decide) ?_
  exact j_iret hx hm (by decide +kernel) rfl (he _)
theorem whd_broken_78 {x : jCx} {en : (Int32 × jW) → Option (Outcome × jW)} {t : Nat} (h : hhd_broken x en t) (s0 : Nat) (W : jW) : jJ x 3 78 [(0, vR t)] [vR s0] W (fhd_broken_78 t s0 W) en := by
  have h0 := h
  obtain ⟨hx, hm, hr, he⟩ := h0
  unfold fhd_broken_78
  refine j_runA hx 1 (tb := [(78, .iconst 0)]) (jtb_ok (by decide +kernel)) (pc' := 79) (lv' := [(0, vR t)]) (st' := [vI (kI 0), vR s0]) rfl ?_
  exact whd_broken_79 h (kI 0) s0 W
theorem whd_broken {x : jCx} {en : (Int32 × jW) → Option (Outcome × jW)} {t : Nat} (h : hhd_broken x en t) (W : jW) : jJ x 3 0 [(0, vR t)] [] W (fhd_broken t W) en := by
  have h0 := h
  obtain ⟨hx, hm, hr, he⟩ := h0
  unfold fhd_broken
  refine j_runA hx 1 (tb := [(0, .aload_n 0)]) (jtb_ok (by decide +kernel)) (pc' := 1) (lv' := [(0, vR t)]) (st' := [vR t]) rfl ?_
  refine j_gd (fun h1 => ?_)
  refine j_WI (j_callV (av := []) (st := []) hx hr (Or.inl q2814) q2816 qs123 rfl md_fhd_begins np_fhd_begins (chd_begins t W) (by decide) (Nat.le_of_ble_eq_true rfl) h1 (by decide) (by decide +kernel)) (fun q2 _ => ?_)
  refine j_if_ne hx (off := 5) (tgt := 9) (by decide +kernel) (by decide) (fun _ => ?_) (fun _ => ?_)
  · refine j_runA hx 1 (tb := [(9, .aload_n 0)]) (jtb_ok (by decide +kernel)) (pc' := 10) (lv' := [(0, vR t)]) (st' := [vR t]) rfl ?_
    refine j_gd (fun h4 => ?_)
    refine j_WI (j_callV (av := []) (st := []) hx hr (Or.inl q2854) q2856 qs126 rfl md_fhd_hasSegments np_fhd_hasSegments (chd_hasSegments t q2.2) (by decide) (Nat.le_of_ble_eq_true rfl) h4 (by decide) (by decide +kernel)) (fun q5 _ => ?_)
    refine j_if_ne hx (off := 5) (tgt := 18) (by decide +kernel) (by decide) (fun _ => ?_) (fun _ => ?_)
    · refine j_runA hx 1 (tb := [(18, .aload_n 0)]) (jtb_ok (by decide +kernel)) (pc' := 19) (lv' := [(0, vR t)]) (st' := [vR t]) rfl ?_
      refine j_gd (fun h7 => ?_)
      refine j_WI (j_callV (av := []) (st := []) hx hr (Or.inl q2862) q2864 qs127 rfl md_fhd_hasSections np_fhd_hasSections (chd_hasSections t q5.2) (by decide) (Nat.le_of_ble_eq_true rfl) h7 (by decide) (by decide +kernel)) (fun q8 _ => ?_)
      refine j_if_ne hx (off := 5) (tgt := 27) (by decide +kernel) (by decide) (fun _ => ?_) (fun _ => ?_)
      · refine j_runA hx 1 (tb := [(27, .aload_n 0)]) (jtb_ok (by decide +kernel)) (pc' := 28) (lv' := [(0, vR t)]) (st' := [vR t]) rfl ?_
        refine j_gd (fun h10 => ?_)
        refine j_WI (j_callV (av := []) (st := []) hx hr (Or.inl q2889) q2891 qs132 rfl md_fhd_hasSymbols np_fhd_hasSymbols (chd_hasSymbols t q8.2) (by decide) (Nat.le_of_ble_eq_true rfl) h10 (by decide) (by decide +kernel)) (fun q11 _ => ?_)
        refine j_if_ne hx (off := 5) (tgt := 36) (by decide +kernel) (by decide) (fun _ => ?_) (fun _ => ?_)
        · refine j_runA hx 1 (tb := [(36, .aload_n 0)]) (jtb_ok (by decide +kernel)) (pc' := 37) (lv' := [(0, vR t)]) (st' := [vR t]) rfl ?_
          refine j_gd (fun h13 => ?_)
          refine j_WI (j_callV (av := []) (st := []) hx hr (Or.inl q2902) q2904 qs133 rfl md_fhd_hasFixes np_fhd_hasFixes (chd_hasFixes t q11.2) (by decide) (Nat.le_of_ble_eq_true rfl) h13 (by decide) (by decide +kernel)) (fun q14 _ => ?_)
          refine j_if_ne hx (off := 5) (tgt := 45) (by decide +kernel) (by decide) (fun _ => ?_) (fun _ => ?_)
          · refine j_runA hx 1 (tb := [(45, .aload_n 0)]) (jtb_ok (by decide +kernel)) (pc' := 46) (lv' := [(0, vR t)]) (st' := [vR t]) rfl ?_
            refine j_ldc2 hx (v := (kJ 24)) (jkd2 q2876 (by decide +kernel)) (by decide +kernel) ?_
            refine j_runA hx 1 (tb := [(49, .bipush 8)]) (jtb_ok (by decide +kernel)) (pc' := 51) (lv' := [(0, vR t)]) (st' := [vI (kI 8), vL (kJ 24), vR t]) rfl ?_
            refine j_gd (fun h16 => ?_)
            refine j_OL (j_callV (av := [vL (kJ 24), vI (kI 8)]) (st := []) hx hr (Or.inl q2822) q2823 q2824 rfl md_fhd_num np_fhd_num (chd_num t (kJ 24) (kI 8) q14.2) (by decide) (Nat.le_of_ble_eq_true rfl) h16 (by decide) (by decide +kernel)) (fun q17 _ => ?_)
            refine j_runA hx 4 (tb := [(54, .lstore_n 1), (55, .aload_n 0), (56, .aload_n 0), (57, .lload_n 1)]) (jtb_ok (by decide +kernel)) (pc' := 58) (lv' := [(1, vL q17), (0, vR t)]) (st' := [vL q17, vR t, vR t]) rfl ?_
            refine j_OI (j_callV (av := [vL q17]) (st := [vR t]) hx hr (Or.inl q2923) q2924 q2925 rfl md_fhd_isIn np_fhd_isIn (chd_isIn t q17 q14.2) (by decide) (Nat.le_of_ble_eq_true rfl) h16 (by decide) (by decide +kernel)) (fun q18 _ => ?_)
            refine j_if_eq hx (off := 17) (tgt := 78) (by decide +kernel) (by decide) (fun _ => ?_) (fun _ => ?_)
            · refine j_lv (lv' := [(0, vR t)]) ⟨rfl, trivial⟩ ?_
              exact whd_broken_78 h t q14.2
            refine j_runA hx 1 (tb := [(64, .lload_n 1)]) (jtb_ok (by decide +kernel)) (pc' := 65) (lv' := [(1, vL q17), (0, vR t)]) (st' := [vL q17, vR t]) rfl ?_
            refine j_ldc2 hx (v := (kJ 3)) (jkd2 q2875 (by decide +kernel)) (by decide +kernel) ?_
            refine j_runA hx 2 (tb := [(68, .land), (69, .lconst 0)]) (jtb_ok (by decide +kernel)) (pc' := 70) (lv' := [(1, vL q17), (0, vR t)]) (st' := [vL (kJ 0), vL (q17 &&& (kJ 3)), vR t]) rfl ?_
            refine j_lcmp_ne hx (off := 7) (tgt := 78) (by decide +kernel) (by decide +kernel) (by decide) (fun _ => ?_) (fun _ => ?_)
            · refine j_lv (lv' := [(0, vR t)]) ⟨rfl, trivial⟩ ?_
              exact whd_broken_78 h t q14.2
            refine j_runA hx 1 (tb := [(74, .iconst 1)]) (jtb_ok (by decide +kernel)) (pc' := 75) (lv' := [(1, vL q17), (0, vR t)]) (st' := [vI (kI 1), vR t]) rfl ?_
            refine j_goto hx (off := 4) (by decide +kernel) (tgt := 79) (by decide) ?_
            refine j_lv (lv' := [(0, vR t)]) ⟨rfl, trivial⟩ ?_
            exact whd_broken_79 h (kI 1) t q14.2
          refine j_runA hx 1 (tb := [(43, .iconst 5)]) (jtb_ok (by decide +kernel)) (pc' := 44) (lv' := [(0, vR t)]) (st' := [vI (kI 5)]) rfl ?_
          exact j_iret hx hm (by decide +kernel) rfl (he _)
        refine j_runA hx 1 (tb := [(34, .iconst 4)]) (jtb_ok (by decide +kernel)) (pc' := 35) (lv' := [(0, vR t)]) (st' := [vI (kI 4)]) rfl ?_
        exact j_iret hx hm (by decide +kernel) rfl (he _)
      refine j_runA hx 1 (tb := [(25, .iconst 3)]) (jtb_ok (by decide +kernel)) (pc' := 26) (lv' := [(0, vR t)]) (st' := [vI (kI 3)]) rfl ?_
      exact j_iret hx hm (by decide +kernel) rfl (he _)
    refine j_runA hx 1 (tb := [(16, .iconst 2)]) (jtb_ok (by decide +kernel)) (pc' := 17) (lv' := [(0, vR t)]) (st' := [vI (kI 2)]) rfl ?_
    exact j_iret hx hm (by decide +kernel) rfl (he _)
  refine j_runA hx 1 (tb := [(7, .iconst 1)]) (jtb_ok (by decide +kernel)) (pc' := 8) (lv' := [(0, vR t)]) (st' := [vI (kI 1)]) rfl ?_
  exact j_iret hx hm (by decide +kernel) rfl (he _)
theorem chd_broken (t : Nat) (W : jW) : jM yX9_broken cX9_broken 3 (Option.some Jvm.ClassFile.FieldType.int) [] 4 76 [vR t] W ((fhd_broken t W).bind (fun q => some (.returned (some (.int q.1)), q.2))) := 
  jM.of (Nat.le_of_ble_eq_true rfl) (fun x hx hm hr => whd_broken ⟨hx, hm, hr, fun _ => rfl⟩ W)
def hhd_isOfText (x : jCx) (en : (Int32) → Option (Outcome × jW)) (t : Nat) (a1 : Int32) (W : jW) : Prop :=
  jOK x RX9 cX9_isOfText 2 ∧
  jMt x "isOfText" (Option.some Jvm.ClassFile.FieldType.boolean) [] ∧
  jRm x 1 18 ∧
  (∀ q : Int32, en q = some (.returned (some (.int q)), W))
theorem whd_isOfText {x : jCx} {en : (Int32) → Option (Outcome × jW)} {W : jW} {t : Nat} {a1 : Int32} (h : hhd_isOfText x en t a1 W) : jJ x 2 0 [(0, vR t), (1, vI a1)] [] W (fhd_isOfText t a1 W) en := by
  have h0 := h
  obtain ⟨hx, hm, hr, he⟩ := h0
  unfold fhd_isOfText
  refine j_runA hx 3 (tb := [(0, .aload_n 0), (1, .aload_n 0), (2, .iload_n 1)]) (jtb_ok (by decide +kernel)) (pc' := 3) (lv' := [(0, vR t), (1, vI a1)]) (st' := [vI a1, vR t, vR t]) rfl ?_
  refine j_gd (fun h1 => ?_)
  refine j_OL (j_callV (av := [vI a1]) (st := [vR t]) hx hr (Or.inl q2897) q2898 q2899 rfl md_fhd_symbol np_fhd_symbol (chd_symbol t a1 W) (by decide) (Nat.le_of_ble_eq_true rfl) h1 (by decide) (by decide +kernel)) (fun q2 _ => ?_)
  refine j_ldc2 hx (v := (kJ 6)) (jkd2 q2874 (by decide +kernel)) (by decide +kernel) ?_
  refine j_runA hx 2 (tb := [(9, .ladd), (10, .iconst 2)]) (jtb_ok (by decide +kernel)) (pc' := 11) (lv' := [(0, vR t), (1, vI a1)]) (st' := [vI (kI 2), vL (q2 + (kJ 6)), vR t]) rfl ?_
  refine j_OL (j_callV (av := [vL (q2 + (kJ 6)), vI (kI 2)]) (st := []) hx hr (Or.inl q2822) q2823 q2824 rfl md_fhd_num np_fhd_num (chd_num t (q2 + (kJ 6)) (kI 2) W) (by decide) (Nat.le_of_ble_eq_true rfl) h1 (by decide) (by decide +kernel)) (fun q3 _ => ?_)
  refine j_runA hx 1 (tb := [(14, .aload_n 0)]) (jtb_ok (by decide +kernel)) (pc' := 15) (lv' := [(0, vR t), (1, vI a1)]) (st' := [vR t, vL q3]) rfl ?_
  refine j_getI hx flX9_80 kd1415 h1 (by decide) (by decide +kernel) ?_
  refine j_runA hx 1 (tb := [(18, .i2l)]) (jtb_ok (by decide +kernel)) (pc' := 19) (lv' := [(0, vR t), (1, vI a1)]) (st' := [vL ((jI W 1415 t).toInt64), vL q3]) rfl ?_
  refine j_lcmp_ne hx (off := 7) (tgt := 27) (by decide +kernel) (by decide +kernel) (by decide) (fun _ => ?_) (fun _ => ?_)
  · refine j_runA hx 1 (tb := [(27, .iconst 0)]) (jtb_ok (by decide +kernel)) (pc' := 28) (lv' := [(0, vR t), (1, vI a1)]) (st' := [vI (kI 0)]) rfl ?_
    exact j_iret hx hm (by decide +kernel) jz0n (he _)
  refine j_runA hx 1 (tb := [(23, .iconst 1)]) (jtb_ok (by decide +kernel)) (pc' := 24) (lv' := [(0, vR t), (1, vI a1)]) (st' := [vI (kI 1)]) rfl ?_
  refine j_goto hx (off := 4) (by decide +kernel) (tgt := 28) (by decide) ?_
  exact j_iret hx hm (by decide +kernel) jz1n (he _)
theorem chd_isOfText (t : Nat) (a1 : Int32) (W : jW) : jM yX9_isOfText cX9_isOfText 2 (Option.some Jvm.ClassFile.FieldType.boolean) [] 1 18 [vR t, vI a1] W ((fhd_isOfText t a1 W).bind (fun q => some (.returned (some (.int q)), W))) := 
  jM.of (Nat.le_of_ble_eq_true rfl) (fun x hx hm hr => whd_isOfText ⟨hx, hm, hr, fun _ => rfl⟩)
def hhd_isFunction (x : jCx) (en : (Int32) → Option (Outcome × jW)) (t : Nat) (a1 : Int32) (W : jW) : Prop :=
  jOK x RX9 cX9_isFunction 2 ∧
  jMt x "isFunction" (Option.some Jvm.ClassFile.FieldType.boolean) [] ∧
  jRm x 2 31 ∧
  (∀ q : Int32, en q = some (.returned (some (.int q)), W))
theorem whd_isFunction_32 {x : jCx} {en : (Int32) → Option (Outcome × jW)} {W : jW} {t : Nat} {a1 : Int32} (h : hhd_isFunction x en t a1 W) : jJ x 2 32 [(0, vR t), (1, vI a1)] [] W (fhd_isFunction_32 t a1 W) en := by
  have h0 := h
  obtain ⟨hx, hm, hr, he⟩ := h0
  unfold fhd_isFunction_32
  refine j_runA hx 1 (tb := [(32, .iconst 0)]) (jtb_ok (by decide +kernel)) (pc' := 33) (lv' := [(0, vR t), (1, vI a1)]) (st' := [vI (kI 0)]) rfl ?_
  exact j_iret hx hm (by decide +kernel) jz0n (he _)
theorem whd_isFunction {x : jCx} {en : (Int32) → Option (Outcome × jW)} {W : jW} {t : Nat} {a1 : Int32} (h : hhd_isFunction x en t a1 W) : jJ x 2 0 [(0, vR t), (1, vI a1)] [] W (fhd_isFunction t a1 W) en := by
  have h0 := h
  obtain ⟨hx, hm, hr, he⟩ := h0
  unfold fhd_isFunction
  refine j_runA hx 2 (tb := [(0, .aload_n 0), (1, .iload_n 1)]) (jtb_ok (by decide +kernel)) (pc' := 2) (lv' := [(0, vR t), (1, vI a1)]) (st' := [vI a1, vR t]) rfl ?_
  refine j_gd (fun h1 => ?_)
  refine j_OI (j_callV (av := [vI a1]) (st := []) hx hr (Or.inl q2942) q2943 q2944 rfl md_fhd_isOfText np_fhd_isOfText (chd_isOfText t a1 W) (by decide) (Nat.le_of_ble_eq_true rfl) h1 (by decide) (by decide +kernel)) (fun q2 _ => ?_)
  refine j_if_eq hx (off := 27) (tgt := 32) (by decide +kernel) (by decide) (fun _ => ?_) (fun _ => ?_)
  · exact whd_isFunction_32 h
  refine j_runA hx 1 (tb := [(8, .aload_n 0)]) (jtb_ok (by decide +kernel)) (pc' := 9) (lv' := [(0, vR t), (1, vI a1)]) (st' := [vR t]) rfl ?_
  refine j_getR hx flX9_38 kl1400 h1 (by decide) (by decide +kernel) ?_
  refine j_runA hx 2 (tb := [(12, .aload_n 0), (13, .iload_n 1)]) (jtb_ok (by decide +kernel)) (pc' := 14) (lv' := [(0, vR t), (1, vI a1)]) (st' := [vI a1, vR t, vR (jR W 1400 t)]) rfl ?_
  refine j_OL (j_callV (av := [vI a1]) (st := [vR (jR W 1400 t)]) hx hr (Or.inl q2897) q2898 q2899 rfl md_fhd_symbol np_fhd_symbol (chd_symbol t a1 W) (by decide) (Nat.le_of_ble_eq_true rfl) h1 (by decide) (by decide +kernel)) (fun q3 _ => ?_)
  refine j_runA hx 3 (tb := [(17, .l2i), (18, .iconst 4), (19, .iadd)]) (jtb_ok (by decide +kernel)) (pc' := 20) (lv' := [(0, vR t), (1, vI a1)]) (st' := [vI (q3.toInt32 + (kI 4)), vR (jR W 1400 t)]) rfl ?_
  refine j_gd (fun h4 => ?_)
  refine j_gd (fun h5 => ?_)
  refine j_bald hx (f := 9004) (o := (jR W 1400 t)) kd9004 h4 (by decide +kernel) h5 ?_
  refine j_runA hx 3 (tb := [(21, .bipush 15), (23, .iand), (24, .iconst 2)]) (jtb_ok (by decide +kernel)) (pc' := 25) (lv' := [(0, vR t), (1, vI a1)]) (st' := [vI (kI 2), vI ((jA W 9004 (jR W 1400 t) (ix (q3.toInt32 + (kI 4)))) &&& (kI 15))]) rfl ?_
  refine j_icmp_ne hx (off := 7) (tgt := 32) (by decide +kernel) (by decide) (fun _ => ?_) (fun _ => ?_)
  · exact whd_isFunction_32 h
  refine j_runA hx 1 (tb := [(28, .iconst 1)]) (jtb_ok (by decide +kernel)) (pc' := 29) (lv' := [(0, vR t), (1, vI a1)]) (st' := [vI (kI 1)]) rfl ?_
  refine j_goto hx (off := 4) (by decide +kernel) (tgt := 33) (by decide) ?_
  exact j_iret hx hm (by decide +kernel) jz1n (he _)
theorem chd_isFunction (t : Nat) (a1 : Int32) (W : jW) : jM yX9_isFunction cX9_isFunction 2 (Option.some Jvm.ClassFile.FieldType.boolean) [] 2 31 [vR t, vI a1] W ((fhd_isFunction t a1 W).bind (fun q => some (.returned (some (.int q)), W))) := 
  jM.of (Nat.le_of_ble_eq_true rfl) (fun x hx hm hr => whd_isFunction ⟨hx, hm, hr, fun _ => rfl⟩)
def hmo_hasFunctions (x : jCx) (en : (fmo_hasFunctions_S ⊕ (Int32 × jW)) → Option (Outcome × jW)) (t : Nat) : Prop :=
  jOK x RX8 cX8_hasFunctions 8 ∧
  jMt x "hasFunctions" (Option.some Jvm.ClassFile.FieldType.boolean) [] ∧
  jRm x 3 44 ∧
  (∀ q : Int32 × jW, en (.inr q) = some (.returned (some (.int q.1)), q.2)) ∧
  (∀ (l1 : Int32) (W : jW), jJ x 8 7 [(0, vR t), (1, vI l1)] [] W (some (.inl (.inl (l1, W)))) en) ∧
  (∀ (l1 : Int32) (l4 : Int64) (l6 : Int32) (l7 : Int32) (W : jW), jJ x 8 122 [(0, vR t), (1, vI l1), (4, vL l4), (6, vI l6), (7, vI l7)] [] W (some (.inl (.inr (.inl (l1, l4, l6, l7, W))))) en) ∧
  (∀ (l1 : Int32) (l2 : Int32) (W : jW), jJ x 8 220 [(0, vR t), (1, vI l1), (2, vI l2)] [] W (some (.inl (.inr (.inr (l1, l2, W))))) en)
theorem wmo_hasFunctions_210 {x : jCx} {en : (fmo_hasFunctions_S ⊕ (Int32 × jW)) → Option (Outcome × jW)} {t : Nat} (h : hmo_hasFunctions x en t) (l1 : Int32) (W : jW) : jJ x 8 210 [(0, vR t), (1, vI l1)] [] W (fmo_hasFunctions_210 t l1 W) en := by
  have h0 := h
  obtain ⟨hx, hm, hr, he, k7, k122, k220⟩ := h0
  unfold fmo_hasFunctions_210
  refine j_runA hx 1 (tb := [(210, .iinc 1 1)]) (jtb_ok (by decide +kernel)) (pc' := 213) (lv' := [(1, vI (l1 + (kI 1))), (0, vR t)]) (st' := []) rfl ?_
  refine j_let (v := (l1 + (kI 1))) (lv := fun v17 => [(1, vI v17), (0, vR t)]) (st := fun _ => []) (fun v17 => ?_)
  refine j_goto hx (off := -206) (by decide +kernel) (tgt := 7) (by decide) ?_
  refine j_lv (lv' := [(0, vR t), (1, vI v17)]) ⟨rfl, rfl, trivial⟩ ?_
  exact k7 v17 W
theorem wmo_hasFunctions_90 {x : jCx} {en : (fmo_hasFunctions_S ⊕ (Int32 × jW)) → Option (Outcome × jW)} {t : Nat} (h : hmo_hasFunctions x en t) (W : jW) : jJ x 8 90 [(0, vR t)] [] W (fmo_hasFunctions_90 t W) en := by
  have h0 := h
  obtain ⟨hx, hm, hr, he, k7, k122, k220⟩ := h0
  unfold fmo_hasFunctions_90
  refine j_runA hx 1 (tb := [(90, .iconst 0)]) (jtb_ok (by decide +kernel)) (pc' := 91) (lv' := [(0, vR t)]) (st' := [vI (kI 0)]) rfl ?_
  exact j_iret hx hm (by decide +kernel) jz0n (he _)
theorem wmo_hasFunctions_179 {x : jCx} {en : (fmo_hasFunctions_S ⊕ (Int32 × jW)) → Option (Outcome × jW)} {t : Nat} (h : hmo_hasFunctions x en t) (l1 : Int32) (l4 : Int64) (l6 : Int32) (l7 : Int32) (W : jW) : jJ x 8 179 [(0, vR t), (1, vI l1), (4, vL l4), (6, vI l6), (7, vI l7)] [] W (fmo_hasFunctions_179 t l1 l4 l6 l7 W) en := by
  have h0 := h
  obtain ⟨hx, hm, hr, he, k7, k122, k220⟩ := h0
  unfold fmo_hasFunctions_179
  refine j_runA hx 1 (tb := [(179, .aload_n 0)]) (jtb_ok (by decide +kernel)) (pc' := 180) (lv' := [(0, vR t), (1, vI l1), (4, vL l4), (6, vI l6), (7, vI l7)]) (st' := [vR t]) rfl ?_
  refine j_gd (fun h35 => ?_)
  refine j_getR hx flX8_50 kl1319 h35 (by decide) (by decide +kernel) ?_
  refine j_runA hx 2 (tb := [(183, .iload 7), (185, .iload 6)]) (jtb_ok (by decide +kernel)) (pc' := 187) (lv' := [(0, vR t), (1, vI l1), (4, vL l4), (6, vI l6), (7, vI l7)]) (st' := [vI l6, vI l7, vR (jR W 1319 t)]) rfl ?_
  refine j_gd (fun h36 => ?_)
  refine j_iast hx (f := 1319) (o := t) kd1319 rfl (by decide +kernel) h36 ?_
  refine j_ltw rfl (fun W37 hc38 => ?_)
  have h39 : jC W37 t = 13 := (congrFun hc38 _).trans h35
  refine j_runA hx 1 (tb := [(188, .aload_n 0)]) (jtb_ok (by decide +kernel)) (pc' := 189) (lv' := [(0, vR t), (1, vI l1), (4, vL l4), (6, vI l6), (7, vI l7)]) (st' := [vR t]) rfl ?_
  refine j_getR hx flX8_53 kl1320 h39 (by decide) (by decide +kernel) ?_
  refine j_runA hx 4 (tb := [(192, .iload 7), (194, .lload 4), (196, .l2i), (197, .iconst 4)]) (jtb_ok (by decide +kernel)) (pc' := 198) (lv' := [(0, vR t), (1, vI l1), (4, vL l4), (6, vI l6), (7, vI l7)]) (st' := [vI (kI 4), vI l4.toInt32, vI l7, vR (jR W37 1320 t)]) rfl ?_
  refine j_idiv hx (by decide +kernel) (by decide +kernel) ?_
  refine j_gd (fun h41 => ?_)
  refine j_iast hx (f := 1320) (o := t) kd1320 rfl (by decide +kernel) h41 ?_
  refine j_ltw rfl (fun W42 hc43 => ?_)
  have h44 : jC W42 t = 13 := (congrFun hc43 _).trans h39
  refine j_runA hx 2 (tb := [(200, .aload_n 0), (201, .dup)]) (jtb_ok (by decide +kernel)) (pc' := 202) (lv' := [(0, vR t), (1, vI l1), (4, vL l4), (6, vI l6), (7, vI l7)]) (st' := [vR t, vR t]) rfl ?_
  refine j_getI hx flX8_281 kd1311 h44 (by decide) (by decide +kernel) ?_
  refine j_runA hx 2 (tb := [(205, .iconst 1), (206, .iadd)]) (jtb_ok (by decide +kernel)) (pc' := 207) (lv' := [(0, vR t), (1, vI l1), (4, vL l4), (6, vI l6), (7, vI l7)]) (st' := [vI ((jI W42 1311 t) + (kI 1)), vR t]) rfl ?_
  refine j_putI hx fwX8_281 wf1311 kd1311 h44 (by decide) (by decide +kernel) (ni1311 _) (fi1311 _) ?_
  refine j_ltw rfl (fun W46 hc47 => ?_)
  have h48 : jC W46 t = 13 := (congrFun hc47 _).trans h44
  refine j_lv (lv' := [(0, vR t), (1, vI l1)]) ⟨rfl, rfl, trivial⟩ ?_
  exact wmo_hasFunctions_210 h l1 W46
theorem wmo_hasFunctions_122 {x : jCx} {en : (fmo_hasFunctions_S ⊕ (Int32 × jW)) → Option (Outcome × jW)} {t : Nat} (h : hmo_hasFunctions x en t) (l1 : Int32) (l4 : Int64) (l6 : Int32) (l7 : Int32) (W : jW) : jJ x 8 122 [(0, vR t), (1, vI l1), (4, vL l4), (6, vI l6), (7, vI l7)] [] W (fmo_hasFunctions_122 t l1 l4 l6 l7 W) en := by
  have h0 := h
  obtain ⟨hx, hm, hr, he, k7, k122, k220⟩ := h0
  unfold fmo_hasFunctions_122
  refine j_runA hx 1 (tb := [(122, .iload 7)]) (jtb_ok (by decide +kernel)) (pc' := 124) (lv' := [(0, vR t), (1, vI l1), (4, vL l4), (6, vI l6), (7, vI l7)]) (st' := [vI l7]) rfl ?_
  refine j_if_le hx (off := 55) (tgt := 179) (by decide +kernel) (by decide) (fun _ => ?_) (fun _ => ?_)
  · exact wmo_hasFunctions_179 h l1 l4 l6 l7 W
  refine j_runA hx 1 (tb := [(127, .aload_n 0)]) (jtb_ok (by decide +kernel)) (pc' := 128) (lv' := [(0, vR t), (1, vI l1), (4, vL l4), (6, vI l6), (7, vI l7)]) (st' := [vR t]) rfl ?_
  refine j_gd (fun h19 => ?_)
  refine j_getR hx flX8_50 kl1319 h19 (by decide) (by decide +kernel) ?_
  refine j_runA hx 3 (tb := [(131, .iload 7), (133, .iconst 1), (134, .isub)]) (jtb_ok (by decide +kernel)) (pc' := 135) (lv' := [(0, vR t), (1, vI l1), (4, vL l4), (6, vI l6), (7, vI l7)]) (st' := [vI (l7 - (kI 1)), vR (jR W 1319 t)]) rfl ?_
  refine j_gd (fun h20 => ?_)
  refine j_iald hx (f := 1319) (o := t) kd1319 rfl (by decide +kernel) h20 ?_
  refine j_runA hx 1 (tb := [(136, .iload 6)]) (jtb_ok (by decide +kernel)) (pc' := 138) (lv' := [(0, vR t), (1, vI l1), (4, vL l4), (6, vI l6), (7, vI l7)]) (st' := [vI l6, vI (jA W 1319 t (ix (l7 - (kI 1))))]) rfl ?_
  refine j_icmp_le hx (off := 41) (tgt := 179) (by decide +kernel) (by decide) (fun _ => ?_) (fun _ => ?_)
  · exact wmo_hasFunctions_179 h l1 l4 l6 l7 W
  refine j_runA hx 1 (tb := [(141, .aload_n 0)]) (jtb_ok (by decide +kernel)) (pc' := 142) (lv' := [(0, vR t), (1, vI l1), (4, vL l4), (6, vI l6), (7, vI l7)]) (st' := [vR t]) rfl ?_
  refine j_getR hx flX8_50 kl1319 h19 (by decide) (by decide +kernel) ?_
  refine j_runA hx 2 (tb := [(145, .iload 7), (147, .aload_n 0)]) (jtb_ok (by decide +kernel)) (pc' := 148) (lv' := [(0, vR t), (1, vI l1), (4, vL l4), (6, vI l6), (7, vI l7)]) (st' := [vR t, vI l7, vR (jR W 1319 t)]) rfl ?_
  refine j_getR hx flX8_50 kl1319 h19 (by decide) (by decide +kernel) ?_
  refine j_runA hx 3 (tb := [(151, .iload 7), (153, .iconst 1), (154, .isub)]) (jtb_ok (by decide +kernel)) (pc' := 155) (lv' := [(0, vR t), (1, vI l1), (4, vL l4), (6, vI l6), (7, vI l7)]) (st' := [vI (l7 - (kI 1)), vR (jR W 1319 t), vI l7, vR (jR W 1319 t)]) rfl ?_
  refine j_gd (fun h21 => ?_)
  refine j_iald hx (f := 1319) (o := t) kd1319 rfl (by decide +kernel) h21 ?_
  refine j_gd (fun h22 => ?_)
  refine j_iast hx (f := 1319) (o := t) kd1319 rfl (by decide +kernel) h22 ?_
  refine j_ltw rfl (fun W23 hc24 => ?_)
  have h25 : jC W23 t = 13 := (congrFun hc24 _).trans h19
  refine j_runA hx 1 (tb := [(157, .aload_n 0)]) (jtb_ok (by decide +kernel)) (pc' := 158) (lv' := [(0, vR t), (1, vI l1), (4, vL l4), (6, vI l6), (7, vI l7)]) (st' := [vR t]) rfl ?_
  refine j_getR hx flX8_53 kl1320 h25 (by decide) (by decide +kernel) ?_
  refine j_runA hx 2 (tb := [(161, .iload 7), (163, .aload_n 0)]) (jtb_ok (by decide +kernel)) (pc' := 164) (lv' := [(0, vR t), (1, vI l1), (4, vL l4), (6, vI l6), (7, vI l7)]) (st' := [vR t, vI l7, vR (jR W23 1320 t)]) rfl ?_
  refine j_getR hx flX8_53 kl1320 h25 (by decide) (by decide +kernel) ?_
  refine j_runA hx 3 (tb := [(167, .iload 7), (169, .iconst 1), (170, .isub)]) (jtb_ok (by decide +kernel)) (pc' := 171) (lv' := [(0, vR t), (1, vI l1), (4, vL l4), (6, vI l6), (7, vI l7)]) (st' := [vI (l7 - (kI 1)), vR (jR W23 1320 t), vI l7, vR (jR W23 1320 t)]) rfl ?_
  refine j_gd (fun h27 => ?_)
  refine j_iald hx (f := 1320) (o := t) kd1320 rfl (by decide +kernel) h27 ?_
  refine j_gd (fun h28 => ?_)
  refine j_iast hx (f := 1320) (o := t) kd1320 rfl (by decide +kernel) h28 ?_
  refine j_ltw rfl (fun W29 hc30 => ?_)
  have h31 : jC W29 t = 13 := (congrFun hc30 _).trans h25
  refine j_runA hx 1 (tb := [(173, .iinc 7 (-1))]) (jtb_ok (by decide +kernel)) (pc' := 176) (lv' := [(7, vI (l7 + (kI (-1)))), (0, vR t), (1, vI l1), (4, vL l4), (6, vI l6)]) (st' := []) rfl ?_
  refine j_let (v := (l7 + (kI (-1)))) (lv := fun v33 => [(7, vI v33), (0, vR t), (1, vI l1), (4, vL l4), (6, vI l6)]) (st := fun _ => []) (fun v33 => ?_)
  refine j_goto hx (off := -54) (by decide +kernel) (tgt := 122) (by decide) ?_
  refine j_lv (lv' := [(0, vR t), (1, vI l1), (4, vL l4), (6, vI l6), (7, vI v33)]) ⟨rfl, rfl, rfl, rfl, rfl, trivial⟩ ?_
  exact k122 l1 l4 l6 v33 W29
theorem wmo_hasFunctions_220 {x : jCx} {en : (fmo_hasFunctions_S ⊕ (Int32 × jW)) → Option (Outcome × jW)} {t : Nat} (h : hmo_hasFunctions x en t) (l1 : Int32) (l2 : Int32) (W : jW) : jJ x 8 220 [(0, vR t), (1, vI l1), (2, vI l2)] [] W (fmo_hasFunctions_220 t l1 l2 W) en := by
  have h0 := h
  obtain ⟨hx, hm, hr, he, k7, k122, k220⟩ := h0
  unfold fmo_hasFunctions_220
  refine j_runA hx 2 (tb := [(220, .iload_n 2), (221, .aload_n 0)]) (jtb_ok (by decide +kernel)) (pc' := 222) (lv' := [(0, vR t), (1, vI l1), (2, vI l2)]) (st' := [vR t, vI l2]) rfl ?_
  refine j_gd (fun h52 => ?_)
  refine j_getI hx flX8_281 kd1311 h52 (by decide) (by decide +kernel) ?_
  refine j_icmp_ge hx (off := 30) (tgt := 255) (by decide +kernel) (by decide) (fun _ => ?_) (fun _ => ?_)
  · refine j_runA hx 2 (tb := [(255, .iload_n 1), (256, .aload_n 0)]) (jtb_ok (by decide +kernel)) (pc' := 257) (lv' := [(0, vR t), (1, vI l1), (2, vI l2)]) (st' := [vR t, vI l1]) rfl ?_
    refine j_getI hx flX8_316 kd1310 h52 (by decide) (by decide +kernel) ?_
    refine j_icmp_ne hx (off := 7) (tgt := 267) (by decide +kernel) (by decide) (fun _ => ?_) (fun _ => ?_)
    · refine j_runA hx 1 (tb := [(267, .iconst 0)]) (jtb_ok (by decide +kernel)) (pc' := 268) (lv' := [(0, vR t), (1, vI l1), (2, vI l2)]) (st' := [vI (kI 0)]) rfl ?_
      exact j_iret hx hm (by decide +kernel) jz0n (he _)
    refine j_runA hx 1 (tb := [(263, .iconst 1)]) (jtb_ok (by decide +kernel)) (pc' := 264) (lv' := [(0, vR t), (1, vI l1), (2, vI l2)]) (st' := [vI (kI 1)]) rfl ?_
    refine j_goto hx (off := 4) (by decide +kernel) (tgt := 268) (by decide) ?_
    exact j_iret hx hm (by decide +kernel) jz1n (he _)
  refine j_runA hx 1 (tb := [(228, .aload_n 0)]) (jtb_ok (by decide +kernel)) (pc' := 229) (lv' := [(0, vR t), (1, vI l1), (2, vI l2)]) (st' := [vR t]) rfl ?_
  refine j_getR hx flX8_50 kl1319 h52 (by decide) (by decide +kernel) ?_
  refine j_runA hx 1 (tb := [(232, .iload_n 2)]) (jtb_ok (by decide +kernel)) (pc' := 233) (lv' := [(0, vR t), (1, vI l1), (2, vI l2)]) (st' := [vI l2, vR (jR W 1319 t)]) rfl ?_
  refine j_gd (fun h53 => ?_)
  refine j_iald hx (f := 1319) (o := t) kd1319 rfl (by decide +kernel) h53 ?_
  refine j_runA hx 1 (tb := [(234, .iload_n 1)]) (jtb_ok (by decide +kernel)) (pc' := 235) (lv' := [(0, vR t), (1, vI l1), (2, vI l2)]) (st' := [vI l1, vI (jA W 1319 t (ix l2))]) rfl ?_
  refine j_icmp_eq hx (off := 5) (tgt := 240) (by decide +kernel) (by decide) (fun _ => ?_) (fun _ => ?_)
  · refine j_runA hx 2 (tb := [(240, .iload_n 1), (241, .aload_n 0)]) (jtb_ok (by decide +kernel)) (pc' := 242) (lv' := [(0, vR t), (1, vI l1), (2, vI l2)]) (st' := [vR t, vI l1]) rfl ?_
    refine j_getR hx flX8_53 kl1320 h52 (by decide) (by decide +kernel) ?_
    refine j_runA hx 1 (tb := [(245, .iload_n 2)]) (jtb_ok (by decide +kernel)) (pc' := 246) (lv' := [(0, vR t), (1, vI l1), (2, vI l2)]) (st' := [vI l2, vR (jR W 1320 t), vI l1]) rfl ?_
    refine j_gd (fun h54 => ?_)
    refine j_iald hx (f := 1320) (o := t) kd1320 rfl (by decide +kernel) h54 ?_
    refine j_runA hx 2 (tb := [(247, .iadd), (248, .istore_n 1)]) (jtb_ok (by decide +kernel)) (pc' := 249) (lv' := [(1, vI (l1 + (jA W 1320 t (ix l2)))), (0, vR t), (2, vI l2)]) (st' := []) rfl ?_
    refine j_let (v := (l1 + (jA W 1320 t (ix l2)))) (lv := fun v55 => [(1, vI v55), (0, vR t), (2, vI l2)]) (st := fun _ => []) (fun v55 => ?_)
    refine j_runA hx 1 (tb := [(249, .iinc 2 1)]) (jtb_ok (by decide +kernel)) (pc' := 252) (lv' := [(2, vI (l2 + (kI 1))), (1, vI v55), (0, vR t)]) (st' := []) rfl ?_
    refine j_let (v := (l2 + (kI 1))) (lv := fun v56 => [(2, vI v56), (1, vI v55), (0, vR t)]) (st := fun _ => []) (fun v56 => ?_)
    refine j_goto hx (off := -32) (by decide +kernel) (tgt := 220) (by decide) ?_
    refine j_lv (lv' := [(0, vR t), (1, vI v55), (2, vI v56)]) ⟨rfl, rfl, rfl, trivial⟩ ?_
    exact k220 v55 v56 W
  refine j_runA hx 1 (tb := [(238, .iconst 0)]) (jtb_ok (by decide +kernel)) (pc' := 239) (lv' := [(0, vR t), (1, vI l1), (2, vI l2)]) (st' := [vI (kI 0)]) rfl ?_
  exact j_iret hx hm (by decide +kernel) jz0n (he _)
theorem wmo_hasFunctions_7 {x : jCx} {en : (fmo_hasFunctions_S ⊕ (Int32 × jW)) → Option (Outcome × jW)} {t : Nat} (h : hmo_hasFunctions x en t) (l1 : Int32) (W : jW) : jJ x 8 7 [(0, vR t), (1, vI l1)] [] W (fmo_hasFunctions_7 t l1 W) en := by
  have h0 := h
  obtain ⟨hx, hm, hr, he, k7, k122, k220⟩ := h0
  unfold fmo_hasFunctions_7
  refine j_runA hx 2 (tb := [(7, .iload_n 1), (8, .aload_n 0)]) (jtb_ok (by decide +kernel)) (pc' := 9) (lv' := [(0, vR t), (1, vI l1)]) (st' := [vR t, vI l1]) rfl ?_
  refine j_gd (fun h7 => ?_)
  refine j_getR hx flX8_23 kl1305 h7 (by decide) (by decide +kernel) ?_
  refine j_gd (fun h8 => ?_)
  refine j_OI (j_callV (av := []) (st := [vI l1]) hx hr (Or.inl q2937) q2894 q2895 rfl md_fhd_symbolCount np_fhd_symbolCount (chd_symbolCount (jR W 1305 t) W) (by decide) (Nat.le_of_ble_eq_true rfl) h8 (by decide) (by decide +kernel)) (fun q9 _ => ?_)
  refine j_icmp_ge hx (off := 201) (tgt := 216) (by decide +kernel) (by decide) (fun _ => ?_) (fun _ => ?_)
  · refine j_runA hx 4 (tb := [(216, .iconst 0), (217, .istore_n 1), (218, .iconst 0), (219, .istore_n 2)]) (jtb_ok (by decide +kernel)) (pc' := 220) (lv' := [(2, vI (kI 0)), (1, vI (kI 0)), (0, vR t)]) (st' := []) rfl ?_
    refine j_lv (lv' := [(0, vR t), (1, vI (kI 0)), (2, vI (kI 0))]) ⟨rfl, rfl, rfl, trivial⟩ ?_
    exact k220 (kI 0) (kI 0) W
  refine j_runA hx 1 (tb := [(18, .aload_n 0)]) (jtb_ok (by decide +kernel)) (pc' := 19) (lv' := [(0, vR t), (1, vI l1)]) (st' := [vR t]) rfl ?_
  refine j_getR hx flX8_23 kl1305 h7 (by decide) (by decide +kernel) ?_
  refine j_runA hx 1 (tb := [(22, .iload_n 1)]) (jtb_ok (by decide +kernel)) (pc' := 23) (lv' := [(0, vR t), (1, vI l1)]) (st' := [vI l1, vR (jR W 1305 t)]) rfl ?_
  refine j_OI (j_callV (av := [vI l1]) (st := []) hx hr (Or.inl q2938) q2939 q2940 rfl md_fhd_isFunction np_fhd_isFunction (chd_isFunction (jR W 1305 t) l1 W) (by decide) (Nat.le_of_ble_eq_true rfl) h8 (by decide) (by decide +kernel)) (fun q10 _ => ?_)
  refine j_if_ne hx (off := 6) (tgt := 32) (by decide +kernel) (by decide) (fun _ => ?_) (fun _ => ?_)
  · refine j_runA hx 1 (tb := [(32, .aload_n 0)]) (jtb_ok (by decide +kernel)) (pc' := 33) (lv' := [(0, vR t), (1, vI l1)]) (st' := [vR t]) rfl ?_
    refine j_getR hx flX8_23 kl1305 h7 (by decide) (by decide +kernel) ?_
    refine j_runA hx 1 (tb := [(36, .iload_n 1)]) (jtb_ok (by decide +kernel)) (pc' := 37) (lv' := [(0, vR t), (1, vI l1)]) (st' := [vI l1, vR (jR W 1305 t)]) rfl ?_
    refine j_OL (j_callV (av := [vI l1]) (st := []) hx hr (Or.inl q2946) q2898 q2899 rfl md_fhd_symbol np_fhd_symbol (chd_symbol (jR W 1305 t) l1 W) (by decide) (Nat.le_of_ble_eq_true rfl) h8 (by decide) (by decide +kernel)) (fun q11 _ => ?_)
    refine j_runA hx 2 (tb := [(40, .lstore_n 2), (41, .aload_n 0)]) (jtb_ok (by decide +kernel)) (pc' := 42) (lv' := [(2, vL q11), (0, vR t), (1, vI l1)]) (st' := [vR t]) rfl ?_
    refine j_getR hx flX8_23 kl1305 h7 (by decide) (by decide +kernel) ?_
    refine j_runA hx 1 (tb := [(45, .lload_n 2)]) (jtb_ok (by decide +kernel)) (pc' := 46) (lv' := [(2, vL q11), (0, vR t), (1, vI l1)]) (st' := [vL q11, vR (jR W 1305 t)]) rfl ?_
    refine j_ldc2 hx (v := (kJ 16)) (jkd2 q2947 (by decide +kernel)) (by decide +kernel) ?_
    refine j_runA hx 2 (tb := [(49, .ladd), (50, .bipush 8)]) (jtb_ok (by decide +kernel)) (pc' := 52) (lv' := [(2, vL q11), (0, vR t), (1, vI l1)]) (st' := [vI (kI 8), vL (q11 + (kJ 16)), vR (jR W 1305 t)]) rfl ?_
    refine j_OL (j_callV (av := [vL (q11 + (kJ 16)), vI (kI 8)]) (st := []) hx hr (Or.inl q2932) q2823 q2824 rfl md_fhd_num np_fhd_num (chd_num (jR W 1305 t) (q11 + (kJ 16)) (kI 8) W) (by decide) (Nat.le_of_ble_eq_true rfl) h8 (by decide) (by decide +kernel)) (fun q12 _ => ?_)
    refine j_runA hx 3 (tb := [(55, .lstore 4), (57, .lload 4), (59, .lconst 0)]) (jtb_ok (by decide +kernel)) (pc' := 60) (lv' := [(4, vL q12), (2, vL q11), (0, vR t), (1, vI l1)]) (st' := [vL (kJ 0), vL q12]) rfl ?_
    refine j_lcmp_le hx (off := 29) (tgt := 90) (by decide +kernel) (by decide +kernel) (by decide) (fun _ => ?_) (fun _ => ?_)
    · refine j_lv (lv' := [(0, vR t)]) ⟨rfl, trivial⟩ ?_
      exact wmo_hasFunctions_90 h W
    refine j_runA hx 1 (tb := [(64, .lload 4)]) (jtb_ok (by decide +kernel)) (pc' := 66) (lv' := [(4, vL q12), (2, vL q11), (0, vR t), (1, vI l1)]) (st' := [vL q12]) rfl ?_
    refine j_ldc2 hx (v := (kJ 4)) (jkd2 q2931 (by decide +kernel)) (by decide +kernel) ?_
    refine j_lrem hx (by decide +kernel) (by decide +kernel) ?_
    refine j_runA hx 1 (tb := [(70, .lconst 0)]) (jtb_ok (by decide +kernel)) (pc' := 71) (lv' := [(4, vL q12), (2, vL q11), (0, vR t), (1, vI l1)]) (st' := [vL (kJ 0), vL (lrm q12 (kJ 4))]) rfl ?_
    refine j_lcmp_ne hx (off := 18) (tgt := 90) (by decide +kernel) (by decide +kernel) (by decide) (fun _ => ?_) (fun _ => ?_)
    · refine j_lv (lv' := [(0, vR t)]) ⟨rfl, trivial⟩ ?_
      exact wmo_hasFunctions_90 h W
    refine j_runA hx 1 (tb := [(75, .lload 4)]) (jtb_ok (by decide +kernel)) (pc' := 77) (lv' := [(4, vL q12), (2, vL q11), (0, vR t), (1, vI l1)]) (st' := [vL q12]) rfl ?_
    refine j_ldc2 hx (v := (kJ 4)) (jkd2 q2931 (by decide +kernel)) (by decide +kernel) ?_
    refine j_runA hx 1 (tb := [(80, .aload_n 0)]) (jtb_ok (by decide +kernel)) (pc' := 81) (lv' := [(4, vL q12), (2, vL q11), (0, vR t), (1, vI l1)]) (st' := [vR t, vL (kJ 4), vL q12]) rfl ?_
    refine j_getI hx flX8_316 kd1310 h7 (by decide) (by decide +kernel) ?_
    refine j_runA hx 2 (tb := [(84, .i2l), (85, .lmul)]) (jtb_ok (by decide +kernel)) (pc' := 86) (lv' := [(4, vL q12), (2, vL q11), (0, vR t), (1, vI l1)]) (st' := [vL ((kJ 4) * ((jI W 1310 t).toInt64)), vL q12]) rfl ?_
    refine j_lcmp_le hx (off := 5) (tgt := 92) (by decide +kernel) (by decide +kernel) (by decide) (fun _ => ?_) (fun _ => ?_)
    · refine j_runA hx 1 (tb := [(92, .aload_n 0)]) (jtb_ok (by decide +kernel)) (pc' := 93) (lv' := [(4, vL q12), (2, vL q11), (0, vR t), (1, vI l1)]) (st' := [vR t]) rfl ?_
      refine j_getR hx flX8_23 kl1305 h7 (by decide) (by decide +kernel) ?_
      refine j_runA hx 1 (tb := [(96, .lload_n 2)]) (jtb_ok (by decide +kernel)) (pc' := 97) (lv' := [(4, vL q12), (2, vL q11), (0, vR t), (1, vI l1)]) (st' := [vL q11, vR (jR W 1305 t)]) rfl ?_
      refine j_ldc2 hx (v := (kJ 8)) (jkd2 q2948 (by decide +kernel)) (by decide +kernel) ?_
      refine j_runA hx 2 (tb := [(100, .ladd), (101, .bipush 8)]) (jtb_ok (by decide +kernel)) (pc' := 103) (lv' := [(4, vL q12), (2, vL q11), (0, vR t), (1, vI l1)]) (st' := [vI (kI 8), vL (q11 + (kJ 8)), vR (jR W 1305 t)]) rfl ?_
      refine j_OL (j_callV (av := [vL (q11 + (kJ 8)), vI (kI 8)]) (st := []) hx hr (Or.inl q2932) q2823 q2824 rfl md_fhd_num np_fhd_num (chd_num (jR W 1305 t) (q11 + (kJ 8)) (kI 8) W) (by decide) (Nat.le_of_ble_eq_true rfl) h8 (by decide) (by decide +kernel)) (fun q13 _ => ?_)
      refine j_runA hx 1 (tb := [(106, .aload_n 0)]) (jtb_ok (by decide +kernel)) (pc' := 107) (lv' := [(4, vL q12), (2, vL q11), (0, vR t), (1, vI l1)]) (st' := [vR t, vL q13]) rfl ?_
      refine j_getL hx flX8_310 kd1313 h7 (by decide) (by decide +kernel) ?_
      refine j_runA hx 3 (tb := [(110, .lsub), (111, .l2i), (112, .iconst 4)]) (jtb_ok (by decide +kernel)) (pc' := 113) (lv' := [(4, vL q12), (2, vL q11), (0, vR t), (1, vI l1)]) (st' := [vI (kI 4), vI ((q13 - (jL W 1313 t)).toInt32)]) rfl ?_
      refine j_idiv hx (by decide +kernel) (by decide +kernel) ?_
      refine j_runA hx 1 (tb := [(114, .istore 6)]) (jtb_ok (by decide +kernel)) (pc' := 116) (lv' := [(6, vI (((q13 - (jL W 1313 t)).toInt32) / (kI 4))), (4, vL q12), (2, vL q11), (0, vR t), (1, vI l1)]) (st' := []) rfl ?_
      refine j_let (v := (((q13 - (jL W 1313 t)).toInt32) / (kI 4))) (lv := fun v14 => [(6, vI v14), (4, vL q12), (2, vL q11), (0, vR t), (1, vI l1)]) (st := fun _ => []) (fun v14 => ?_)
      refine j_runA hx 1 (tb := [(116, .aload_n 0)]) (jtb_ok (by decide +kernel)) (pc' := 117) (lv' := [(6, vI v14), (4, vL q12), (2, vL q11), (0, vR t), (1, vI l1)]) (st' := [vR t]) rfl ?_
      refine j_getI hx flX8_281 kd1311 h7 (by decide) (by decide +kernel) ?_
      refine j_runA hx 1 (tb := [(120, .istore 7)]) (jtb_ok (by decide +kernel)) (pc' := 122) (lv' := [(7, vI (jI W 1311 t)), (6, vI v14), (4, vL q12), (2, vL q11), (0, vR t), (1, vI l1)]) (st' := []) rfl ?_
      refine j_let (v := (jI W 1311 t)) (lv := fun v15 => [(7, vI v15), (6, vI v14), (4, vL q12), (2, vL q11), (0, vR t), (1, vI l1)]) (st := fun _ => []) (fun v15 => ?_)
      refine j_lv (lv' := [(0, vR t), (1, vI l1), (4, vL q12), (6, vI v14), (7, vI v15)]) ⟨rfl, rfl, rfl, rfl, rfl, trivial⟩ ?_
      exact k122 l1 q12 v14 v15 W
    refine j_lv (lv' := [(0, vR t)]) ⟨rfl, trivial⟩ ?_
    exact wmo_hasFunctions_90 h W
  refine j_goto hx (off := 181) (by decide +kernel) (tgt := 210) (by decide) ?_
  exact wmo_hasFunctions_210 h l1 W
theorem wmo_hasFunctions {x : jCx} {en : (fmo_hasFunctions_S ⊕ (Int32 × jW)) → Option (Outcome × jW)} {t : Nat} (h : hmo_hasFunctions x en t) (W : jW) : jJ x 8 0 [(0, vR t)] [] W (fmo_hasFunctions_0 t W) en := by
  have h0 := h
  obtain ⟨hx, hm, hr, he, k7, k122, k220⟩ := h0
  unfold fmo_hasFunctions_0
  refine j_runA hx 2 (tb := [(0, .aload_n 0), (1, .iconst 0)]) (jtb_ok (by decide +kernel)) (pc' := 2) (lv' := [(0, vR t)]) (st' := [vI (kI 0), vR t]) rfl ?_
  refine j_gd (fun h1 => ?_)
  refine j_putI hx fwX8_281 wf1311 kd1311 h1 (by decide) (by decide +kernel) (ni1311 _) (fi1311 _) ?_
  refine j_ltw rfl (fun W2 hc3 => ?_)
  have h4 : jC W2 t = 13 := (congrFun hc3 _).trans h1
  refine j_runA hx 2 (tb := [(5, .iconst 1), (6, .istore_n 1)]) (jtb_ok (by decide +kernel)) (pc' := 7) (lv' := [(1, vI (kI 1)), (0, vR t)]) (st' := []) rfl ?_
  refine j_lv (lv' := [(0, vR t), (1, vI (kI 1))]) ⟨rfl, rfl, trivial⟩ ?_
  exact k7 (kI 1) W2
theorem cmo_hasFunctions (t : Nat) (W : jW) : jM yX8_hasFunctions cX8_hasFunctions 8 (Option.some Jvm.ClassFile.FieldType.boolean) [] 3 44 [vR t] W ((fmo_hasFunctions t W).bind (fun q => some (.returned (some (.int q.1)), q.2))) := by
  refine jM.of (Nat.le_of_ble_eq_true rfl) (fun x hx hm hr => ?_)
  refine j_begin (P := (Sum.elim (fun s => (7, [(0, vR t), (1, vI s.1)], s.2)) (Sum.elim (fun s => (122, [(0, vR t), (1, vI s.1), (4, vL s.2.1), (6, vI s.2.2.1), (7, vI s.2.2.2.1)], s.2.2.2.2)) (fun s => (220, [(0, vR t), (1, vI s.1), (2, vI s.2.1)], s.2.2))))) (fun en he hk => ?_)
  have h : hmo_hasFunctions x en t := ⟨hx, hm, hr, fun q => he _, fun l1 W => hk (.inl (l1, W)), fun l1 l4 l6 l7 W => hk (.inr (.inl (l1, l4, l6, l7, W))), fun l1 l2 W => hk (.inr (.inr (l1, l2, W)))⟩
  refine ⟨fun s => ?_, wmo_hasFunctions h W⟩
  rcases s with s | s | s
  · exact wmo_hasFunctions_7 h s.1 s.2
  · exact wmo_hasFunctions_122 h s.1 s.2.1 s.2.2.1 s.2.2.2.1 s.2.2.2.2
  · exact wmo_hasFunctions_220 h s.1 s.2.1 s.2.2
def hmo_broken (x : jCx) (en : (Int32 × jW) → Option (Outcome × jW)) (t : Nat) (a1 : Int32) (a2 : Int64) : Prop :=
  jOK x RX8 cX8_broken 4 ∧
  jMt x "broken" (Option.some Jvm.ClassFile.FieldType.int) [] ∧
  jRm x 0 0 ∧
  (∀ q : Int32 × jW, en q = some (.returned (some (.int q.1)), q.2))
theorem wmo_broken {x : jCx} {en : (Int32 × jW) → Option (Outcome × jW)} {t : Nat} {a1 : Int32} {a2 : Int64} (h : hmo_broken x en t a1 a2) (W : jW) : jJ x 4 0 [(0, vR t), (1, vI a1), (2, vL a2)] [] W (fmo_broken t a1 a2 W) en := by
  have h0 := h
  obtain ⟨hx, hm, hr, he⟩ := h0
  unfold fmo_broken
  refine j_runA hx 2 (tb := [(0, .aload_n 0), (1, .lload_n 2)]) (jtb_ok (by decide +kernel)) (pc' := 2) (lv' := [(0, vR t), (1, vI a1), (2, vL a2)]) (st' := [vL a2, vR t]) rfl ?_
  refine j_gd (fun h1 => ?_)
  refine j_putL hx fwX8_32 wf1314 kd1314 h1 (by decide) (by decide +kernel) (nl1314 _) (ff1314 _) ?_
  refine j_ltw rfl (fun W2 hc3 => ?_)
  have h4 : jC W2 t = 13 := (congrFun hc3 _).trans h1
  refine j_runA hx 1 (tb := [(5, .iload_n 1)]) (jtb_ok (by decide +kernel)) (pc' := 6) (lv' := [(0, vR t), (1, vI a1), (2, vL a2)]) (st' := [vI a1]) rfl ?_
  exact j_iret hx hm (by decide +kernel) rfl (he _)
theorem cmo_broken (t : Nat) (a1 : Int32) (a2 : Int64) (W : jW) : jM yX8_broken cX8_broken 4 (Option.some Jvm.ClassFile.FieldType.int) [] 0 0 [vR t, vI a1, vL a2] W ((fmo_broken t a1 a2 W).bind (fun q => some (.returned (some (.int q.1)), q.2))) := 
  jM.of (Nat.le_of_ble_eq_true rfl) (fun x hx hm hr => wmo_broken ⟨hx, hm, hr, fun _ => rfl⟩ W)
