/-! ===== walks: frn_addNumber frn_isCode frn_r frn_shifted frn_set frn_copy frn_and frn_move fmo_page frn_adrp frn_two ===== -/
set_option maxRecDepth 100000
def hrn_addNumber (x : jCx) (en : (Int32 × jW) → Option (Outcome × jW)) (t : Nat) (a1 : Int32) (a2 : Int32) (a3 : Int32) (a4 : Int32) : Prop :=
  jOK x RX11 cX11_addNumber 14 ∧
  jMt x "addNumber" (Option.some Jvm.ClassFile.FieldType.int) [] ∧
  jRm x 2 43 ∧
  (∀ q : Int32 × jW, en q = some (.returned (some (.int q.1)), q.2))
theorem wrn_addNumber_180 {x : jCx} {en : (Int32 × jW) → Option (Outcome × jW)} {t : Nat} {a1 : Int32} {a2 : Int32} {a3 : Int32} {a4 : Int32} (h : hrn_addNumber x en t a1 a2 a3 a4) (W : jW) : jJ x 14 180 [(0, vR t), (1, vI a1), (2, vI a2), (3, vI a3), (4, vI a4)] [] W (frn_addNumber_180 t a1 a2 a3 a4 W) en := by
  have h0 := h
  obtain ⟨hx, hm, hr, he⟩ := h0
  unfold frn_addNumber_180
  refine j_runA hx 1 (tb := [(180, .iconst 3)]) (jtb_ok (by decide +kernel)) (pc' := 181) (lv' := [(0, vR t), (1, vI a1), (2, vI a2), (3, vI a3), (4, vI a4)]) (st' := [vI (kI 3)]) rfl ?_
  exact j_iret hx hm (by decide +kernel) rfl (he _)
theorem wrn_addNumber_322 {x : jCx} {en : (Int32 × jW) → Option (Outcome × jW)} {t : Nat} {a1 : Int32} {a2 : Int32} {a3 : Int32} {a4 : Int32} (h : hrn_addNumber x en t a1 a2 a3 a4) (W : jW) : jJ x 14 322 [(0, vR t), (1, vI a1), (2, vI a2), (3, vI a3), (4, vI a4)] [] W (frn_addNumber_322 t a1 a2 a3 a4 W) en := by
  have h0 := h
  obtain ⟨hx, hm, hr, he⟩ := h0
  unfold frn_addNumber_322
  refine j_runA hx 1 (tb := [(322, .iconst (-1))]) (jtb_ok (by decide +kernel)) (pc' := 323) (lv' := [(0, vR t), (1, vI a1), (2, vI a2), (3, vI a3), (4, vI a4)]) (st' := [vI (kI (-1))]) rfl ?_
  exact j_iret hx hm (by decide +kernel) rfl (he _)
theorem wrn_addNumber_307 {x : jCx} {en : (Int32 × jW) → Option (Outcome × jW)} {t : Nat} {a1 : Int32} {a2 : Int32} {a3 : Int32} {a4 : Int32} (h : hrn_addNumber x en t a1 a2 a3 a4) (l12 : Int64) (W : jW) : jJ x 14 307 [(0, vR t), (1, vI a1), (2, vI a2), (3, vI a3), (4, vI a4), (12, vL l12)] [] W (frn_addNumber_307 t a1 a2 a3 a4 l12 W) en := by
  have h0 := h
  obtain ⟨hx, hm, hr, he⟩ := h0
  unfold frn_addNumber_307
  refine j_runA hx 1 (tb := [(307, .aload_n 0)]) (jtb_ok (by decide +kernel)) (pc' := 308) (lv' := [(0, vR t), (1, vI a1), (2, vI a2), (3, vI a3), (4, vI a4), (12, vL l12)]) (st' := [vR t]) rfl ?_
  refine j_gd (fun h40 => ?_)
  refine j_getR hx flX11_9 kl1603 h40 (by decide) (by decide +kernel) ?_
  refine j_runA hx 2 (tb := [(311, .iload_n 2), (312, .lload 12)]) (jtb_ok (by decide +kernel)) (pc' := 314) (lv' := [(0, vR t), (1, vI a1), (2, vI a2), (3, vI a3), (4, vI a4), (12, vL l12)]) (st' := [vL l12, vI a2, vR (jR W 1603 t)]) rfl ?_
  refine j_gd (fun h41 => ?_)
  refine j_last hx (f := 1603) (o := t) kd1603 rfl (by decide +kernel) h41 ?_
  refine j_ltw rfl (fun W42 hc43 => ?_)
  have h44 : jC W42 t = 16 := (congrFun hc43 _).trans h40
  refine j_runA hx 1 (tb := [(315, .aload_n 0)]) (jtb_ok (by decide +kernel)) (pc' := 316) (lv' := [(0, vR t), (1, vI a1), (2, vI a2), (3, vI a3), (4, vI a4), (12, vL l12)]) (st' := [vR t]) rfl ?_
  refine j_getR hx flX11_15 kl1604 h44 (by decide) (by decide +kernel) ?_
  refine j_runA hx 2 (tb := [(319, .iload_n 2), (320, .iconst 0)]) (jtb_ok (by decide +kernel)) (pc' := 321) (lv' := [(0, vR t), (1, vI a1), (2, vI a2), (3, vI a3), (4, vI a4), (12, vL l12)]) (st' := [vI (kI 0), vI a2, vR (jR W42 1604 t)]) rfl ?_
  refine j_gd (fun h46 => ?_)
  refine j_bast hx (f := 1604) (o := t) kd1604 rfl (by decide +kernel) h46 ?_
  refine j_ltw rfl (fun W47 hc48 => ?_)
  have h49 : jC W47 t = 16 := (congrFun hc48 _).trans h44
  refine j_lv (lv' := [(0, vR t), (1, vI a1), (2, vI a2), (3, vI a3), (4, vI a4)]) ⟨rfl, rfl, rfl, rfl, rfl, trivial⟩ ?_
  exact wrn_addNumber_322 h W47
theorem wrn_addNumber_287 {x : jCx} {en : (Int32 × jW) → Option (Outcome × jW)} {t : Nat} {a1 : Int32} {a2 : Int32} {a3 : Int32} {a4 : Int32} (h : hrn_addNumber x en t a1 a2 a3 a4) (l5 : Int32) (l9 : Int32) (s0 : Int32) (s1 : Int64) (s2 : Int64) (s3 : Nat) (W : jW) : jJ x 14 287 [(0, vR t), (1, vI a1), (2, vI a2), (3, vI a3), (4, vI a4), (5, vI l5), (9, vI l9)] [vI s0, vL s1, vL s2, vR s3] W (frn_addNumber_287 t a1 a2 a3 a4 l5 l9 s0 s1 s2 s3 W) en := by
  have h0 := h
  obtain ⟨hx, hm, hr, he⟩ := h0
  unfold frn_addNumber_287
  refine j_runA hx 2 (tb := [(287, .iload 9), (289, .iload 5)]) (jtb_ok (by decide +kernel)) (pc' := 291) (lv' := [(0, vR t), (1, vI a1), (2, vI a2), (3, vI a3), (4, vI a4), (5, vI l5), (9, vI l9)]) (st' := [vI l5, vI l9, vI s0, vL s1, vL s2, vR s3]) rfl ?_
  refine j_gd (fun h35 => ?_)
  refine j_WL (j_callV (av := [vL s2, vL s1, vI s0, vI l9, vI l5]) (st := []) hx hr (Or.inl q3407) q3409 qs193 rfl md_frn_sum np_frn_sum (crn_sum s3 s2 s1 s0 l9 l5 W) (by decide) (Nat.le_of_ble_eq_true rfl) h35 (by decide) (by decide +kernel)) (fun q36 _ => ?_)
  refine j_runA hx 3 (tb := [(294, .lstore 12), (296, .iload_n 2), (297, .bipush 31)]) (jtb_ok (by decide +kernel)) (pc' := 299) (lv' := [(12, vL q36.1), (0, vR t), (1, vI a1), (2, vI a2), (3, vI a3), (4, vI a4), (5, vI l5), (9, vI l9)]) (st' := [vI (kI 31), vI a2]) rfl ?_
  refine j_icmp_lt hx (off := 8) (tgt := 307) (by decide +kernel) (by decide) (fun _ => ?_) (fun _ => ?_)
  · refine j_lv (lv' := [(0, vR t), (1, vI a1), (2, vI a2), (3, vI a3), (4, vI a4), (12, vL q36.1)]) ⟨rfl, rfl, rfl, rfl, rfl, rfl, trivial⟩ ?_
    exact wrn_addNumber_307 h q36.1 q36.2
  refine j_runA hx 1 (tb := [(302, .iload 5)]) (jtb_ok (by decide +kernel)) (pc' := 304) (lv' := [(12, vL q36.1), (0, vR t), (1, vI a1), (2, vI a2), (3, vI a3), (4, vI a4), (5, vI l5), (9, vI l9)]) (st' := [vI l5]) rfl ?_
  refine j_if_ne hx (off := 18) (tgt := 322) (by decide +kernel) (by decide) (fun _ => ?_) (fun _ => ?_)
  · refine j_lv (lv' := [(0, vR t), (1, vI a1), (2, vI a2), (3, vI a3), (4, vI a4)]) ⟨rfl, rfl, rfl, rfl, rfl, trivial⟩ ?_
    exact wrn_addNumber_322 h q36.2
  refine j_lv (lv' := [(0, vR t), (1, vI a1), (2, vI a2), (3, vI a3), (4, vI a4), (12, vL q36.1)]) ⟨rfl, rfl, rfl, rfl, rfl, rfl, trivial⟩ ?_
  exact wrn_addNumber_307 h q36.1 q36.2
theorem wrn_addNumber_269 {x : jCx} {en : (Int32 × jW) → Option (Outcome × jW)} {t : Nat} {a1 : Int32} {a2 : Int32} {a3 : Int32} {a4 : Int32} (h : hrn_addNumber x en t a1 a2 a3 a4) (l5 : Int32) (l9 : Int32) (l10 : Int64) (s0 : Int64) (s1 : Nat) (W : jW) : jJ x 14 269 [(0, vR t), (1, vI a1), (2, vI a2), (3, vI a3), (4, vI a4), (5, vI l5), (9, vI l9), (10, vL l10)] [vL s0, vR s1] W (frn_addNumber_269 t a1 a2 a3 a4 l5 l9 l10 s0 s1 W) en := by
  have h0 := h
  obtain ⟨hx, hm, hr, he⟩ := h0
  unfold frn_addNumber_269
  refine j_runA hx 4 (tb := [(269, .lload 10), (271, .iload_n 1), (272, .bipush 30), (274, .iconst 1)]) (jtb_ok (by decide +kernel)) (pc' := 275) (lv' := [(0, vR t), (1, vI a1), (2, vI a2), (3, vI a3), (4, vI a4), (5, vI l5), (9, vI l9), (10, vL l10)]) (st' := [vI (kI 1), vI (kI 30), vI a1, vL l10, vL s0, vR s1]) rfl ?_
  refine j_TI (j_callS (av := [vI a1, vI (kI 30), vI (kI 1)]) (st := [vL l10, vL s0, vR s1]) hx hr (Or.inr ⟨_, q3393⟩) q2964 q241 md_fmo_bits np_fmo_bits (cmo_bits a1 (kI 30) (kI 1) W) (by decide) (Nat.le_of_ble_eq_true rfl) (by decide +kernel)) ?_
  refine j_runA hx 1 (tb := [(278, .iconst 1)]) (jtb_ok (by decide +kernel)) (pc' := 279) (lv' := [(0, vR t), (1, vI a1), (2, vI a2), (3, vI a3), (4, vI a4), (5, vI l5), (9, vI l9), (10, vL l10)]) (st' := [vI (kI 1), vI (fmo_bits a1 (kI 30) (kI 1)), vL l10, vL s0, vR s1]) rfl ?_
  refine j_icmp_ne hx (off := 7) (tgt := 286) (by decide +kernel) (by decide) (fun _ => ?_) (fun _ => ?_)
  · refine j_runA hx 1 (tb := [(286, .iconst 0)]) (jtb_ok (by decide +kernel)) (pc' := 287) (lv' := [(0, vR t), (1, vI a1), (2, vI a2), (3, vI a3), (4, vI a4), (5, vI l5), (9, vI l9), (10, vL l10)]) (st' := [vI (kI 0), vL l10, vL s0, vR s1]) rfl ?_
    refine j_lv (lv' := [(0, vR t), (1, vI a1), (2, vI a2), (3, vI a3), (4, vI a4), (5, vI l5), (9, vI l9)]) ⟨rfl, rfl, rfl, rfl, rfl, rfl, rfl, trivial⟩ ?_
    exact wrn_addNumber_287 h l5 l9 (kI 0) l10 s0 s1 W
  refine j_runA hx 1 (tb := [(282, .iconst 1)]) (jtb_ok (by decide +kernel)) (pc' := 283) (lv' := [(0, vR t), (1, vI a1), (2, vI a2), (3, vI a3), (4, vI a4), (5, vI l5), (9, vI l9), (10, vL l10)]) (st' := [vI (kI 1), vL l10, vL s0, vR s1]) rfl ?_
  refine j_goto hx (off := 4) (by decide +kernel) (tgt := 287) (by decide) ?_
  refine j_lv (lv' := [(0, vR t), (1, vI a1), (2, vI a2), (3, vI a3), (4, vI a4), (5, vI l5), (9, vI l9)]) ⟨rfl, rfl, rfl, rfl, rfl, rfl, rfl, trivial⟩ ?_
  exact wrn_addNumber_287 h l5 l9 (kI 1) l10 s0 s1 W
theorem wrn_addNumber_241 {x : jCx} {en : (Int32 × jW) → Option (Outcome × jW)} {t : Nat} {a1 : Int32} {a2 : Int32} {a3 : Int32} {a4 : Int32} (h : hrn_addNumber x en t a1 a2 a3 a4) (l5 : Int32) (l9 : Int32) (s0 : Int32) (s1 : Int64) (W : jW) : jJ x 14 241 [(0, vR t), (1, vI a1), (2, vI a2), (3, vI a3), (4, vI a4), (5, vI l5), (9, vI l9)] [vI s0, vL s1] W (frn_addNumber_241 t a1 a2 a3 a4 l5 l9 s0 s1 W) en := by
  have h0 := h
  obtain ⟨hx, hm, hr, he⟩ := h0
  unfold frn_addNumber_241
  refine j_runA hx 2 (tb := [(241, .lshl), (242, .lstore 10)]) (jtb_ok (by decide +kernel)) (pc' := 244) (lv' := [(10, vL (lxl s1 s0)), (0, vR t), (1, vI a1), (2, vI a2), (3, vI a3), (4, vI a4), (5, vI l5), (9, vI l9)]) (st' := []) rfl ?_
  refine j_let (v := (lxl s1 s0)) (lv := fun v28 => [(10, vL v28), (0, vR t), (1, vI a1), (2, vI a2), (3, vI a3), (4, vI a4), (5, vI l5), (9, vI l9)]) (st := fun _ => []) (fun v28 => ?_)
  refine j_runA hx 2 (tb := [(244, .aload_n 0), (245, .iload 9)]) (jtb_ok (by decide +kernel)) (pc' := 247) (lv' := [(10, vL v28), (0, vR t), (1, vI a1), (2, vI a2), (3, vI a3), (4, vI a4), (5, vI l5), (9, vI l9)]) (st' := [vI l9, vR t]) rfl ?_
  refine j_if_eq hx (off := 12) (tgt := 259) (by decide +kernel) (by decide) (fun _ => ?_) (fun _ => ?_)
  · refine j_runA hx 1 (tb := [(259, .aload_n 0)]) (jtb_ok (by decide +kernel)) (pc' := 260) (lv' := [(10, vL v28), (0, vR t), (1, vI a1), (2, vI a2), (3, vI a3), (4, vI a4), (5, vI l5), (9, vI l9)]) (st' := [vR t, vR t]) rfl ?_
    refine j_gd (fun h29 => ?_)
    refine j_getR hx flX11_9 kl1603 h29 (by decide) (by decide +kernel) ?_
    refine j_runA hx 1 (tb := [(263, .iload_n 3)]) (jtb_ok (by decide +kernel)) (pc' := 264) (lv' := [(10, vL v28), (0, vR t), (1, vI a1), (2, vI a2), (3, vI a3), (4, vI a4), (5, vI l5), (9, vI l9)]) (st' := [vI a3, vR (jR W 1603 t), vR t]) rfl ?_
    refine j_gd (fun h30 => ?_)
    refine j_lald hx (f := 1603) (o := t) kd1603 rfl (by decide +kernel) h30 ?_
    refine j_ldc2 hx (v := (kJ 4294967295)) (jkd2 q3406 (by decide +kernel)) (by decide +kernel) ?_
    refine j_runA hx 1 (tb := [(268, .land)]) (jtb_ok (by decide +kernel)) (pc' := 269) (lv' := [(10, vL v28), (0, vR t), (1, vI a1), (2, vI a2), (3, vI a3), (4, vI a4), (5, vI l5), (9, vI l9)]) (st' := [vL ((jB W 1603 t (ix a3)) &&& (kJ 4294967295)), vR t]) rfl ?_
    refine j_lv (lv' := [(0, vR t), (1, vI a1), (2, vI a2), (3, vI a3), (4, vI a4), (5, vI l5), (9, vI l9), (10, vL v28)]) ⟨rfl, rfl, rfl, rfl, rfl, rfl, rfl, rfl, trivial⟩ ?_
    exact wrn_addNumber_269 h l5 l9 v28 ((jB W 1603 t (ix a3)) &&& (kJ 4294967295)) t W
  refine j_runA hx 1 (tb := [(250, .aload_n 0)]) (jtb_ok (by decide +kernel)) (pc' := 251) (lv' := [(10, vL v28), (0, vR t), (1, vI a1), (2, vI a2), (3, vI a3), (4, vI a4), (5, vI l5), (9, vI l9)]) (st' := [vR t, vR t]) rfl ?_
  refine j_gd (fun h31 => ?_)
  refine j_getR hx flX11_9 kl1603 h31 (by decide) (by decide +kernel) ?_
  refine j_runA hx 1 (tb := [(254, .iload_n 3)]) (jtb_ok (by decide +kernel)) (pc' := 255) (lv' := [(10, vL v28), (0, vR t), (1, vI a1), (2, vI a2), (3, vI a3), (4, vI a4), (5, vI l5), (9, vI l9)]) (st' := [vI a3, vR (jR W 1603 t), vR t]) rfl ?_
  refine j_gd (fun h32 => ?_)
  refine j_lald hx (f := 1603) (o := t) kd1603 rfl (by decide +kernel) h32 ?_
  refine j_goto hx (off := 13) (by decide +kernel) (tgt := 269) (by decide) ?_
  refine j_lv (lv' := [(0, vR t), (1, vI a1), (2, vI a2), (3, vI a3), (4, vI a4), (5, vI l5), (9, vI l9), (10, vL v28)]) ⟨rfl, rfl, rfl, rfl, rfl, rfl, rfl, rfl, trivial⟩ ?_
  exact wrn_addNumber_269 h l5 l9 v28 (jB W 1603 t (ix a3)) t W
theorem wrn_addNumber_213 {x : jCx} {en : (Int32 × jW) → Option (Outcome × jW)} {t : Nat} {a1 : Int32} {a2 : Int32} {a3 : Int32} {a4 : Int32} (h : hrn_addNumber x en t a1 a2 a3 a4) (l5 : Int32) (s0 : Int32) (W : jW) : jJ x 14 213 [(0, vR t), (1, vI a1), (2, vI a2), (3, vI a3), (4, vI a4), (5, vI l5)] [vI s0] W (frn_addNumber_213 t a1 a2 a3 a4 l5 s0 W) en := by
  have h0 := h
  obtain ⟨hx, hm, hr, he⟩ := h0
  unfold frn_addNumber_213
  refine j_runA hx 4 (tb := [(213, .istore 9), (215, .iload_n 1), (216, .bipush 10), (218, .bipush 12)]) (jtb_ok (by decide +kernel)) (pc' := 220) (lv' := [(9, vI s0), (0, vR t), (1, vI a1), (2, vI a2), (3, vI a3), (4, vI a4), (5, vI l5)]) (st' := [vI (kI 12), vI (kI 10), vI a1]) rfl ?_
  refine j_TI (j_callS (av := [vI a1, vI (kI 10), vI (kI 12)]) (st := []) hx hr (Or.inr ⟨_, q3393⟩) q2964 q241 md_fmo_bits np_fmo_bits (cmo_bits a1 (kI 10) (kI 12) W) (by decide) (Nat.le_of_ble_eq_true rfl) (by decide +kernel)) ?_
  refine j_runA hx 4 (tb := [(223, .i2l), (224, .iload_n 1), (225, .bipush 22), (227, .iconst 1)]) (jtb_ok (by decide +kernel)) (pc' := 228) (lv' := [(9, vI s0), (0, vR t), (1, vI a1), (2, vI a2), (3, vI a3), (4, vI a4), (5, vI l5)]) (st' := [vI (kI 1), vI (kI 22), vI a1, vL ((fmo_bits a1 (kI 10) (kI 12)).toInt64)]) rfl ?_
  refine j_TI (j_callS (av := [vI a1, vI (kI 22), vI (kI 1)]) (st := [vL ((fmo_bits a1 (kI 10) (kI 12)).toInt64)]) hx hr (Or.inr ⟨_, q3393⟩) q2964 q241 md_fmo_bits np_fmo_bits (cmo_bits a1 (kI 22) (kI 1) W) (by decide) (Nat.le_of_ble_eq_true rfl) (by decide +kernel)) ?_
  refine j_runA hx 1 (tb := [(231, .iconst 1)]) (jtb_ok (by decide +kernel)) (pc' := 232) (lv' := [(9, vI s0), (0, vR t), (1, vI a1), (2, vI a2), (3, vI a3), (4, vI a4), (5, vI l5)]) (st' := [vI (kI 1), vI (fmo_bits a1 (kI 22) (kI 1)), vL ((fmo_bits a1 (kI 10) (kI 12)).toInt64)]) rfl ?_
  refine j_icmp_ne hx (off := 8) (tgt := 240) (by decide +kernel) (by decide) (fun _ => ?_) (fun _ => ?_)
  · refine j_runA hx 1 (tb := [(240, .iconst 0)]) (jtb_ok (by decide +kernel)) (pc' := 241) (lv' := [(9, vI s0), (0, vR t), (1, vI a1), (2, vI a2), (3, vI a3), (4, vI a4), (5, vI l5)]) (st' := [vI (kI 0), vL ((fmo_bits a1 (kI 10) (kI 12)).toInt64)]) rfl ?_
    refine j_lv (lv' := [(0, vR t), (1, vI a1), (2, vI a2), (3, vI a3), (4, vI a4), (5, vI l5), (9, vI s0)]) ⟨rfl, rfl, rfl, rfl, rfl, rfl, rfl, trivial⟩ ?_
    exact wrn_addNumber_241 h l5 s0 (kI 0) ((fmo_bits a1 (kI 10) (kI 12)).toInt64) W
  refine j_runA hx 1 (tb := [(235, .bipush 12)]) (jtb_ok (by decide +kernel)) (pc' := 237) (lv' := [(9, vI s0), (0, vR t), (1, vI a1), (2, vI a2), (3, vI a3), (4, vI a4), (5, vI l5)]) (st' := [vI (kI 12), vL ((fmo_bits a1 (kI 10) (kI 12)).toInt64)]) rfl ?_
  refine j_goto hx (off := 4) (by decide +kernel) (tgt := 241) (by decide) ?_
  refine j_lv (lv' := [(0, vR t), (1, vI a1), (2, vI a2), (3, vI a3), (4, vI a4), (5, vI l5), (9, vI s0)]) ⟨rfl, rfl, rfl, rfl, rfl, rfl, rfl, trivial⟩ ?_
  exact wrn_addNumber_241 h l5 s0 (kI 12) ((fmo_bits a1 (kI 10) (kI 12)).toInt64) W
theorem wrn_addNumber_194 {x : jCx} {en : (Int32 × jW) → Option (Outcome × jW)} {t : Nat} {a1 : Int32} {a2 : Int32} {a3 : Int32} {a4 : Int32} (h : hrn_addNumber x en t a1 a2 a3 a4) (l5 : Int32) (W : jW) : jJ x 14 194 [(0, vR t), (1, vI a1), (2, vI a2), (3, vI a3), (4, vI a4), (5, vI l5)] [] W (frn_addNumber_194 t a1 a2 a3 a4 l5 W) en := by
  have h0 := h
  obtain ⟨hx, hm, hr, he⟩ := h0
  unfold frn_addNumber_194
  refine j_runA hx 2 (tb := [(194, .aload_n 0), (195, .iload_n 3)]) (jtb_ok (by decide +kernel)) (pc' := 196) (lv' := [(0, vR t), (1, vI a1), (2, vI a2), (3, vI a3), (4, vI a4), (5, vI l5)]) (st' := [vI a3, vR t]) rfl ?_
  refine j_gd (fun h24 => ?_)
  refine j_OI (j_callV (av := [vI a3]) (st := []) hx hr (Or.inl q3402) q3404 qs192 rfl md_frn_isCodeOrStack np_frn_isCodeOrStack (crn_isCodeOrStack t a3 W) (by decide) (Nat.le_of_ble_eq_true rfl) h24 (by decide) (by decide +kernel)) (fun q25 _ => ?_)
  refine j_if_eq hx (off := 5) (tgt := 204) (by decide +kernel) (by decide) (fun _ => ?_) (fun _ => ?_)
  · refine j_runA hx 1 (tb := [(204, .iload_n 1)]) (jtb_ok (by decide +kernel)) (pc' := 205) (lv' := [(0, vR t), (1, vI a1), (2, vI a2), (3, vI a3), (4, vI a4), (5, vI l5)]) (st' := [vI a1]) rfl ?_
    refine j_if_ge hx (off := 7) (tgt := 212) (by decide +kernel) (by decide) (fun _ => ?_) (fun _ => ?_)
    · refine j_runA hx 1 (tb := [(212, .iconst 0)]) (jtb_ok (by decide +kernel)) (pc' := 213) (lv' := [(0, vR t), (1, vI a1), (2, vI a2), (3, vI a3), (4, vI a4), (5, vI l5)]) (st' := [vI (kI 0)]) rfl ?_
      exact wrn_addNumber_213 h l5 (kI 0) W
    refine j_runA hx 1 (tb := [(208, .iconst 1)]) (jtb_ok (by decide +kernel)) (pc' := 209) (lv' := [(0, vR t), (1, vI a1), (2, vI a2), (3, vI a3), (4, vI a4), (5, vI l5)]) (st' := [vI (kI 1)]) rfl ?_
    refine j_goto hx (off := 4) (by decide +kernel) (tgt := 213) (by decide) ?_
    exact wrn_addNumber_213 h l5 (kI 1) W
  refine j_runA hx 1 (tb := [(202, .iconst 3)]) (jtb_ok (by decide +kernel)) (pc' := 203) (lv' := [(0, vR t), (1, vI a1), (2, vI a2), (3, vI a3), (4, vI a4), (5, vI l5)]) (st' := [vI (kI 3)]) rfl ?_
  exact j_iret hx hm (by decide +kernel) rfl (he _)
theorem wrn_addNumber_98 {x : jCx} {en : (Int32 × jW) → Option (Outcome × jW)} {t : Nat} {a1 : Int32} {a2 : Int32} {a3 : Int32} {a4 : Int32} (h : hrn_addNumber x en t a1 a2 a3 a4) (l5 : Int32) (s0 : Int64) (W : jW) : jJ x 14 98 [(0, vR t), (1, vI a1), (2, vI a2), (3, vI a3), (4, vI a4), (5, vI l5)] [vL s0] W (frn_addNumber_98 t a1 a2 a3 a4 l5 s0 W) en := by
  have h0 := h
  obtain ⟨hx, hm, hr, he⟩ := h0
  unfold frn_addNumber_98
  refine j_runA hx 2 (tb := [(98, .lstore 7), (100, .aload_n 0)]) (jtb_ok (by decide +kernel)) (pc' := 101) (lv' := [(7, vL s0), (0, vR t), (1, vI a1), (2, vI a2), (3, vI a3), (4, vI a4), (5, vI l5)]) (st' := [vR t]) rfl ?_
  refine j_gd (fun h12 => ?_)
  refine j_getI hx flX11_46 kd1601 h12 (by decide) (by decide +kernel) ?_
  refine j_runA hx 1 (tb := [(104, .iconst 1)]) (jtb_ok (by decide +kernel)) (pc' := 105) (lv' := [(7, vL s0), (0, vR t), (1, vI a1), (2, vI a2), (3, vI a3), (4, vI a4), (5, vI l5)]) (st' := [vI (kI 1), vI (jI W 1601 t)]) rfl ?_
  refine j_icmp_ne hx (off := 89) (tgt := 194) (by decide +kernel) (by decide) (fun _ => ?_) (fun _ => ?_)
  · refine j_lv (lv' := [(0, vR t), (1, vI a1), (2, vI a2), (3, vI a3), (4, vI a4), (5, vI l5)]) ⟨rfl, rfl, rfl, rfl, rfl, rfl, trivial⟩ ?_
    exact wrn_addNumber_194 h l5 W
  refine j_runA hx 2 (tb := [(108, .lload 7), (110, .lconst 0)]) (jtb_ok (by decide +kernel)) (pc' := 111) (lv' := [(7, vL s0), (0, vR t), (1, vI a1), (2, vI a2), (3, vI a3), (4, vI a4), (5, vI l5)]) (st' := [vL (kJ 0), vL s0]) rfl ?_
  refine j_lcmp_eq hx (off := 82) (tgt := 194) (by decide +kernel) (by decide +kernel) (by decide) (fun _ => ?_) (fun _ => ?_)
  · refine j_lv (lv' := [(0, vR t), (1, vI a1), (2, vI a2), (3, vI a3), (4, vI a4), (5, vI l5)]) ⟨rfl, rfl, rfl, rfl, rfl, rfl, trivial⟩ ?_
    exact wrn_addNumber_194 h l5 W
  refine j_runA hx 1 (tb := [(115, .aload_n 0)]) (jtb_ok (by decide +kernel)) (pc' := 116) (lv' := [(7, vL s0), (0, vR t), (1, vI a1), (2, vI a2), (3, vI a3), (4, vI a4), (5, vI l5)]) (st' := [vR t]) rfl ?_
  refine j_getR hx flX11_42 kl1600 h12 (by decide) (by decide +kernel) ?_
  refine j_gd (fun h13 => ?_)
  refine j_getR hx flX11_95 kl1305 h13 (by decide) (by decide +kernel) ?_
  refine j_runA hx 1 (tb := [(122, .lload 7)]) (jtb_ok (by decide +kernel)) (pc' := 124) (lv' := [(7, vL s0), (0, vR t), (1, vI a1), (2, vI a2), (3, vI a3), (4, vI a4), (5, vI l5)]) (st' := [vL s0, vR (jR W 1305 (jR W 1600 t))]) rfl ?_
  refine j_gd (fun h14 => ?_)
  refine j_OI (j_callV (av := [vL s0]) (st := []) hx hr (Or.inl q3349) q2924 q2925 rfl md_fhd_isIn np_fhd_isIn (chd_isIn (jR W 1305 (jR W 1600 t)) s0 W) (by decide) (Nat.le_of_ble_eq_true rfl) h14 (by decide) (by decide +kernel)) (fun q15 _ => ?_)
  refine j_if_eq hx (off := 67) (tgt := 194) (by decide +kernel) (by decide) (fun _ => ?_) (fun _ => ?_)
  · refine j_lv (lv' := [(0, vR t), (1, vI a1), (2, vI a2), (3, vI a3), (4, vI a4), (5, vI l5)]) ⟨rfl, rfl, rfl, rfl, rfl, rfl, trivial⟩ ?_
    exact wrn_addNumber_194 h l5 W
  refine j_runA hx 1 (tb := [(130, .aload_n 0)]) (jtb_ok (by decide +kernel)) (pc' := 131) (lv' := [(7, vL s0), (0, vR t), (1, vI a1), (2, vI a2), (3, vI a3), (4, vI a4), (5, vI l5)]) (st' := [vR t]) rfl ?_
  refine j_getR hx flX11_42 kl1600 h12 (by decide) (by decide +kernel) ?_
  refine j_getR hx flX11_156 kl1317 h13 (by decide) (by decide +kernel) ?_
  refine j_runA hx 2 (tb := [(137, .lload 7), (139, .aload_n 0)]) (jtb_ok (by decide +kernel)) (pc' := 140) (lv' := [(7, vL s0), (0, vR t), (1, vI a1), (2, vI a2), (3, vI a3), (4, vI a4), (5, vI l5)]) (st' := [vR t, vL s0, vR (jR W 1317 (jR W 1600 t))]) rfl ?_
  refine j_getR hx flX11_42 kl1600 h12 (by decide) (by decide +kernel) ?_
  refine j_getL hx flX11_159 kd1313 h13 (by decide) (by decide +kernel) ?_
  refine j_runA hx 3 (tb := [(146, .lsub), (147, .l2i), (148, .iconst 4)]) (jtb_ok (by decide +kernel)) (pc' := 149) (lv' := [(7, vL s0), (0, vR t), (1, vI a1), (2, vI a2), (3, vI a3), (4, vI a4), (5, vI l5)]) (st' := [vI (kI 4), vI ((s0 - (jL W 1313 (jR W 1600 t))).toInt32), vR (jR W 1317 (jR W 1600 t))]) rfl ?_
  refine j_idiv hx (by decide +kernel) (by decide +kernel) ?_
  refine j_gd (fun h16 => ?_)
  refine j_iald hx (f := 1317) (o := (jR W 1600 t)) kd1317 rfl (by decide +kernel) h16 ?_
  refine j_runA hx 1 (tb := [(151, .istore 9)]) (jtb_ok (by decide +kernel)) (pc' := 153) (lv' := [(9, vI (jA W 1317 (jR W 1600 t) (ix (((s0 - (jL W 1313 (jR W 1600 t))).toInt32) / (kI 4))))), (7, vL s0), (0, vR t), (1, vI a1), (2, vI a2), (3, vI a3), (4, vI a4), (5, vI l5)]) (st' := []) rfl ?_
  refine j_let (v := (jA W 1317 (jR W 1600 t) (ix (((s0 - (jL W 1313 (jR W 1600 t))).toInt32) / (kI 4))))) (lv := fun v17 => [(9, vI v17), (7, vL s0), (0, vR t), (1, vI a1), (2, vI a2), (3, vI a3), (4, vI a4), (5, vI l5)]) (st := fun _ => []) (fun v17 => ?_)
  refine j_runA hx 1 (tb := [(153, .aload_n 0)]) (jtb_ok (by decide +kernel)) (pc' := 154) (lv' := [(9, vI v17), (7, vL s0), (0, vR t), (1, vI a1), (2, vI a2), (3, vI a3), (4, vI a4), (5, vI l5)]) (st' := [vR t]) rfl ?_
  refine j_getR hx flX11_15 kl1604 h12 (by decide) (by decide +kernel) ?_
  refine j_runA hx 1 (tb := [(157, .iload_n 3)]) (jtb_ok (by decide +kernel)) (pc' := 158) (lv' := [(9, vI v17), (7, vL s0), (0, vR t), (1, vI a1), (2, vI a2), (3, vI a3), (4, vI a4), (5, vI l5)]) (st' := [vI a3, vR (jR W 1604 t)]) rfl ?_
  refine j_gd (fun h18 => ?_)
  refine j_bald hx (f := 1604) (o := t) kd1604 rfl (by decide +kernel) h18 ?_
  refine j_runA hx 1 (tb := [(159, .iconst 3)]) (jtb_ok (by decide +kernel)) (pc' := 160) (lv' := [(9, vI v17), (7, vL s0), (0, vR t), (1, vI a1), (2, vI a2), (3, vI a3), (4, vI a4), (5, vI l5)]) (st' := [vI (kI 3), vI (jA W 1604 t (ix a3))]) rfl ?_
  refine j_icmp_ne hx (off := 20) (tgt := 180) (by decide +kernel) (by decide) (fun _ => ?_) (fun _ => ?_)
  · refine j_lv (lv' := [(0, vR t), (1, vI a1), (2, vI a2), (3, vI a3), (4, vI a4)]) ⟨rfl, rfl, rfl, rfl, rfl, trivial⟩ ?_
    exact wrn_addNumber_180 h W
  refine j_runA hx 2 (tb := [(163, .iload_n 3), (164, .bipush 31)]) (jtb_ok (by decide +kernel)) (pc' := 166) (lv' := [(9, vI v17), (7, vL s0), (0, vR t), (1, vI a1), (2, vI a2), (3, vI a3), (4, vI a4), (5, vI l5)]) (st' := [vI (kI 31), vI a3]) rfl ?_
  refine j_icmp_eq hx (off := 14) (tgt := 180) (by decide +kernel) (by decide) (fun _ => ?_) (fun _ => ?_)
  · refine j_lv (lv' := [(0, vR t), (1, vI a1), (2, vI a2), (3, vI a3), (4, vI a4)]) ⟨rfl, rfl, rfl, rfl, rfl, trivial⟩ ?_
    exact wrn_addNumber_180 h W
  refine j_runA hx 1 (tb := [(169, .aload_n 0)]) (jtb_ok (by decide +kernel)) (pc' := 170) (lv' := [(9, vI v17), (7, vL s0), (0, vR t), (1, vI a1), (2, vI a2), (3, vI a3), (4, vI a4), (5, vI l5)]) (st' := [vR t]) rfl ?_
  refine j_getR hx flX11_19 kl1605 h12 (by decide) (by decide +kernel) ?_
  refine j_runA hx 1 (tb := [(173, .iload_n 3)]) (jtb_ok (by decide +kernel)) (pc' := 174) (lv' := [(9, vI v17), (7, vL s0), (0, vR t), (1, vI a1), (2, vI a2), (3, vI a3), (4, vI a4), (5, vI l5)]) (st' := [vI a3, vR (jR W 1605 t)]) rfl ?_
  refine j_gd (fun h19 => ?_)
  refine j_iald hx (f := 1605) (o := t) kd1605 rfl (by decide +kernel) h19 ?_
  refine j_runA hx 1 (tb := [(175, .iload 9)]) (jtb_ok (by decide +kernel)) (pc' := 177) (lv' := [(9, vI v17), (7, vL s0), (0, vR t), (1, vI a1), (2, vI a2), (3, vI a3), (4, vI a4), (5, vI l5)]) (st' := [vI v17, vI (jA W 1605 t (ix a3))]) rfl ?_
  refine j_icmp_eq hx (off := 5) (tgt := 182) (by decide +kernel) (by decide) (fun _ => ?_) (fun _ => ?_)
  · refine j_runA hx 5 (tb := [(182, .aload_n 0), (183, .iload_n 2), (184, .iconst 1), (185, .iload 9), (187, .lload 7)]) (jtb_ok (by decide +kernel)) (pc' := 189) (lv' := [(9, vI v17), (7, vL s0), (0, vR t), (1, vI a1), (2, vI a2), (3, vI a3), (4, vI a4), (5, vI l5)]) (st' := [vL s0, vI v17, vI (kI 1), vI a2, vR t]) rfl ?_
    refine j_WV (j_callV (av := [vI a2, vI (kI 1), vI v17, vL s0]) (st := []) hx hr (Or.inl q3398) q3400 qs191 rfl md_frn_make np_frn_make (crn_make t a2 (kI 1) v17 s0 W) (by decide) (Nat.le_of_ble_eq_true rfl) h12 (by decide) (by decide +kernel)) (fun q20 _ => ?_)
    refine j_runA hx 1 (tb := [(192, .iconst (-1))]) (jtb_ok (by decide +kernel)) (pc' := 193) (lv' := [(9, vI v17), (7, vL s0), (0, vR t), (1, vI a1), (2, vI a2), (3, vI a3), (4, vI a4), (5, vI l5)]) (st' := [vI (kI (-1))]) rfl ?_
    exact j_iret hx hm (by decide +kernel) rfl (he _)
  refine j_lv (lv' := [(0, vR t), (1, vI a1), (2, vI a2), (3, vI a3), (4, vI a4)]) ⟨rfl, rfl, rfl, rfl, rfl, trivial⟩ ?_
  exact wrn_addNumber_180 h W
theorem wrn_addNumber_97 {x : jCx} {en : (Int32 × jW) → Option (Outcome × jW)} {t : Nat} {a1 : Int32} {a2 : Int32} {a3 : Int32} {a4 : Int32} (h : hrn_addNumber x en t a1 a2 a3 a4) (l5 : Int32) (W : jW) : jJ x 14 97 [(0, vR t), (1, vI a1), (2, vI a2), (3, vI a3), (4, vI a4), (5, vI l5)] [] W (frn_addNumber_97 t a1 a2 a3 a4 l5 W) en := by
  have h0 := h
  obtain ⟨hx, hm, hr, he⟩ := h0
  unfold frn_addNumber_97
  refine j_runA hx 1 (tb := [(97, .lconst 0)]) (jtb_ok (by decide +kernel)) (pc' := 98) (lv' := [(0, vR t), (1, vI a1), (2, vI a2), (3, vI a3), (4, vI a4), (5, vI l5)]) (st' := [vL (kJ 0)]) rfl ?_
  exact wrn_addNumber_98 h l5 (kJ 0) W
theorem wrn_addNumber_32 {x : jCx} {en : (Int32 × jW) → Option (Outcome × jW)} {t : Nat} {a1 : Int32} {a2 : Int32} {a3 : Int32} {a4 : Int32} (h : hrn_addNumber x en t a1 a2 a3 a4) (l5 : Int32) (s0 : Int32) (W : jW) : jJ x 14 32 [(0, vR t), (1, vI a1), (2, vI a2), (3, vI a3), (4, vI a4), (5, vI l5)] [vI s0] W (frn_addNumber_32 t a1 a2 a3 a4 l5 s0 W) en := by
  have h0 := h
  obtain ⟨hx, hm, hr, he⟩ := h0
  unfold frn_addNumber_32
  refine j_runA hx 2 (tb := [(32, .istore 6), (34, .iload 6)]) (jtb_ok (by decide +kernel)) (pc' := 36) (lv' := [(6, vI s0), (0, vR t), (1, vI a1), (2, vI a2), (3, vI a3), (4, vI a4), (5, vI l5)]) (st' := [vI s0]) rfl ?_
  refine j_if_lt hx (off := 61) (tgt := 97) (by decide +kernel) (by decide) (fun _ => ?_) (fun _ => ?_)
  · refine j_lv (lv' := [(0, vR t), (1, vI a1), (2, vI a2), (3, vI a3), (4, vI a4), (5, vI l5)]) ⟨rfl, rfl, rfl, rfl, rfl, rfl, trivial⟩ ?_
    exact wrn_addNumber_97 h l5 W
  refine j_runA hx 1 (tb := [(39, .aload_n 0)]) (jtb_ok (by decide +kernel)) (pc' := 40) (lv' := [(6, vI s0), (0, vR t), (1, vI a1), (2, vI a2), (3, vI a3), (4, vI a4), (5, vI l5)]) (st' := [vR t]) rfl ?_
  refine j_gd (fun h4 => ?_)
  refine j_getR hx flX11_42 kl1600 h4 (by decide) (by decide +kernel) ?_
  refine j_gd (fun h5 => ?_)
  refine j_getR hx flX11_336 kl1316 h5 (by decide) (by decide +kernel) ?_
  refine j_runA hx 1 (tb := [(46, .iload 6)]) (jtb_ok (by decide +kernel)) (pc' := 48) (lv' := [(6, vI s0), (0, vR t), (1, vI a1), (2, vI a2), (3, vI a3), (4, vI a4), (5, vI l5)]) (st' := [vI s0, vR (jR W 1316 (jR W 1600 t))]) rfl ?_
  refine j_gd (fun h6 => ?_)
  refine j_iald hx (f := 1316) (o := (jR W 1600 t)) kd1316 rfl (by decide +kernel) h6 ?_
  refine j_if_lt hx (off := 48) (tgt := 97) (by decide +kernel) (by decide) (fun _ => ?_) (fun _ => ?_)
  · refine j_lv (lv' := [(0, vR t), (1, vI a1), (2, vI a2), (3, vI a3), (4, vI a4), (5, vI l5)]) ⟨rfl, rfl, rfl, rfl, rfl, rfl, trivial⟩ ?_
    exact wrn_addNumber_97 h l5 W
  refine j_runA hx 1 (tb := [(52, .aload_n 0)]) (jtb_ok (by decide +kernel)) (pc' := 53) (lv' := [(6, vI s0), (0, vR t), (1, vI a1), (2, vI a2), (3, vI a3), (4, vI a4), (5, vI l5)]) (st' := [vR t]) rfl ?_
  refine j_getR hx flX11_42 kl1600 h4 (by decide) (by decide +kernel) ?_
  refine j_runA hx 1 (tb := [(56, .aload_n 0)]) (jtb_ok (by decide +kernel)) (pc' := 57) (lv' := [(6, vI s0), (0, vR t), (1, vI a1), (2, vI a2), (3, vI a3), (4, vI a4), (5, vI l5)]) (st' := [vR t, vR (jR W 1600 t)]) rfl ?_
  refine j_getR hx flX11_42 kl1600 h4 (by decide) (by decide +kernel) ?_
  refine j_getR hx flX11_336 kl1316 h5 (by decide) (by decide +kernel) ?_
  refine j_runA hx 1 (tb := [(63, .iload 6)]) (jtb_ok (by decide +kernel)) (pc' := 65) (lv' := [(6, vI s0), (0, vR t), (1, vI a1), (2, vI a2), (3, vI a3), (4, vI a4), (5, vI l5)]) (st' := [vI s0, vR (jR W 1316 (jR W 1600 t)), vR (jR W 1600 t)]) rfl ?_
  refine j_gd (fun h7 => ?_)
  refine j_iald hx (f := 1316) (o := (jR W 1600 t)) kd1316 rfl (by decide +kernel) h7 ?_
  refine j_runA hx 1 (tb := [(66, .i2l)]) (jtb_ok (by decide +kernel)) (pc' := 67) (lv' := [(6, vI s0), (0, vR t), (1, vI a1), (2, vI a2), (3, vI a3), (4, vI a4), (5, vI l5)]) (st' := [vL ((jA W 1316 (jR W 1600 t) (ix s0)).toInt64), vR (jR W 1600 t)]) rfl ?_
  refine j_OI (j_callV (av := [vL ((jA W 1316 (jR W 1600 t) (ix s0)).toInt64)]) (st := []) hx hr (Or.inr ⟨_, q3347⟩) q3012 qs139 rfl md_fmo_fixType np_fmo_fixType (cmo_fixType (jR W 1600 t) ((jA W 1316 (jR W 1600 t) (ix s0)).toInt64) W) (by decide) (Nat.le_of_ble_eq_true rfl) h5 (by decide) (by decide +kernel)) (fun q8 _ => ?_)
  refine j_runA hx 1 (tb := [(70, .sipush 277)]) (jtb_ok (by decide +kernel)) (pc' := 73) (lv' := [(6, vI s0), (0, vR t), (1, vI a1), (2, vI a2), (3, vI a3), (4, vI a4), (5, vI l5)]) (st' := [vI (kI 277), vI q8]) rfl ?_
  refine j_icmp_ne hx (off := 24) (tgt := 97) (by decide +kernel) (by decide) (fun _ => ?_) (fun _ => ?_)
  · refine j_lv (lv' := [(0, vR t), (1, vI a1), (2, vI a2), (3, vI a3), (4, vI a4), (5, vI l5)]) ⟨rfl, rfl, rfl, rfl, rfl, rfl, trivial⟩ ?_
    exact wrn_addNumber_97 h l5 W
  refine j_runA hx 1 (tb := [(76, .aload_n 0)]) (jtb_ok (by decide +kernel)) (pc' := 77) (lv' := [(6, vI s0), (0, vR t), (1, vI a1), (2, vI a2), (3, vI a3), (4, vI a4), (5, vI l5)]) (st' := [vR t]) rfl ?_
  refine j_getR hx flX11_42 kl1600 h4 (by decide) (by decide +kernel) ?_
  refine j_runA hx 1 (tb := [(80, .aload_n 0)]) (jtb_ok (by decide +kernel)) (pc' := 81) (lv' := [(6, vI s0), (0, vR t), (1, vI a1), (2, vI a2), (3, vI a3), (4, vI a4), (5, vI l5)]) (st' := [vR t, vR (jR W 1600 t)]) rfl ?_
  refine j_getR hx flX11_42 kl1600 h4 (by decide) (by decide +kernel) ?_
  refine j_getR hx flX11_336 kl1316 h5 (by decide) (by decide +kernel) ?_
  refine j_runA hx 1 (tb := [(87, .iload 6)]) (jtb_ok (by decide +kernel)) (pc' := 89) (lv' := [(6, vI s0), (0, vR t), (1, vI a1), (2, vI a2), (3, vI a3), (4, vI a4), (5, vI l5)]) (st' := [vI s0, vR (jR W 1316 (jR W 1600 t)), vR (jR W 1600 t)]) rfl ?_
  refine j_gd (fun h9 => ?_)
  refine j_iald hx (f := 1316) (o := (jR W 1600 t)) kd1316 rfl (by decide +kernel) h9 ?_
  refine j_runA hx 1 (tb := [(90, .i2l)]) (jtb_ok (by decide +kernel)) (pc' := 91) (lv' := [(6, vI s0), (0, vR t), (1, vI a1), (2, vI a2), (3, vI a3), (4, vI a4), (5, vI l5)]) (st' := [vL ((jA W 1316 (jR W 1600 t) (ix s0)).toInt64), vR (jR W 1600 t)]) rfl ?_
  refine j_OL (j_callV (av := [vL ((jA W 1316 (jR W 1600 t) (ix s0)).toInt64)]) (st := []) hx hr (Or.inr ⟨_, q3348⟩) q3016 qs140 rfl md_fmo_target np_fmo_target (cmo_target (jR W 1600 t) ((jA W 1316 (jR W 1600 t) (ix s0)).toInt64) W) (by decide) (Nat.le_of_ble_eq_true rfl) h5 (by decide) (by decide +kernel)) (fun q10 _ => ?_)
  refine j_goto hx (off := 4) (by decide +kernel) (tgt := 98) (by decide) ?_
  refine j_lv (lv' := [(0, vR t), (1, vI a1), (2, vI a2), (3, vI a3), (4, vI a4), (5, vI l5)]) ⟨rfl, rfl, rfl, rfl, rfl, rfl, trivial⟩ ?_
  exact wrn_addNumber_98 h l5 q10 W
theorem wrn_addNumber_16 {x : jCx} {en : (Int32 × jW) → Option (Outcome × jW)} {t : Nat} {a1 : Int32} {a2 : Int32} {a3 : Int32} {a4 : Int32} (h : hrn_addNumber x en t a1 a2 a3 a4) (s0 : Int32) (W : jW) : jJ x 14 16 [(0, vR t), (1, vI a1), (2, vI a2), (3, vI a3), (4, vI a4)] [vI s0] W (frn_addNumber_16 t a1 a2 a3 a4 s0 W) en := by
  have h0 := h
  obtain ⟨hx, hm, hr, he⟩ := h0
  unfold frn_addNumber_16
  refine j_runA hx 2 (tb := [(16, .istore 5), (18, .aload_n 0)]) (jtb_ok (by decide +kernel)) (pc' := 19) (lv' := [(5, vI s0), (0, vR t), (1, vI a1), (2, vI a2), (3, vI a3), (4, vI a4)]) (st' := [vR t]) rfl ?_
  refine j_gd (fun h2 => ?_)
  refine j_getI hx flX11_46 kd1601 h2 (by decide) (by decide +kernel) ?_
  refine j_runA hx 1 (tb := [(22, .iconst 2)]) (jtb_ok (by decide +kernel)) (pc' := 23) (lv' := [(5, vI s0), (0, vR t), (1, vI a1), (2, vI a2), (3, vI a3), (4, vI a4)]) (st' := [vI (kI 2), vI (jI W 1601 t)]) rfl ?_
  refine j_icmp_ne hx (off := 7) (tgt := 30) (by decide +kernel) (by decide) (fun _ => ?_) (fun _ => ?_)
  · refine j_runA hx 1 (tb := [(30, .iload 4)]) (jtb_ok (by decide +kernel)) (pc' := 32) (lv' := [(5, vI s0), (0, vR t), (1, vI a1), (2, vI a2), (3, vI a3), (4, vI a4)]) (st' := [vI a4]) rfl ?_
    refine j_lv (lv' := [(0, vR t), (1, vI a1), (2, vI a2), (3, vI a3), (4, vI a4), (5, vI s0)]) ⟨rfl, rfl, rfl, rfl, rfl, rfl, trivial⟩ ?_
    exact wrn_addNumber_32 h s0 a4 W
  refine j_runA hx 1 (tb := [(26, .iconst (-1))]) (jtb_ok (by decide +kernel)) (pc' := 27) (lv' := [(5, vI s0), (0, vR t), (1, vI a1), (2, vI a2), (3, vI a3), (4, vI a4)]) (st' := [vI (kI (-1))]) rfl ?_
  refine j_goto hx (off := 5) (by decide +kernel) (tgt := 32) (by decide) ?_
  refine j_lv (lv' := [(0, vR t), (1, vI a1), (2, vI a2), (3, vI a3), (4, vI a4), (5, vI s0)]) ⟨rfl, rfl, rfl, rfl, rfl, rfl, trivial⟩ ?_
  exact wrn_addNumber_32 h s0 (kI (-1)) W
theorem wrn_addNumber {x : jCx} {en : (Int32 × jW) → Option (Outcome × jW)} {t : Nat} {a1 : Int32} {a2 : Int32} {a3 : Int32} {a4 : Int32} (h : hrn_addNumber x en t a1 a2 a3 a4) (W : jW) : jJ x 14 0 [(0, vR t), (1, vI a1), (2, vI a2), (3, vI a3), (4, vI a4)] [] W (frn_addNumber t a1 a2 a3 a4 W) en := by
  have h0 := h
  obtain ⟨hx, hm, hr, he⟩ := h0
  unfold frn_addNumber
  refine j_runA hx 3 (tb := [(0, .iload_n 1), (1, .bipush 29), (3, .iconst 1)]) (jtb_ok (by decide +kernel)) (pc' := 4) (lv' := [(0, vR t), (1, vI a1), (2, vI a2), (3, vI a3), (4, vI a4)]) (st' := [vI (kI 1), vI (kI 29), vI a1]) rfl ?_
  refine j_TI (j_callS (av := [vI a1, vI (kI 29), vI (kI 1)]) (st := []) hx hr (Or.inr ⟨_, q3393⟩) q2964 q241 md_fmo_bits np_fmo_bits (cmo_bits a1 (kI 29) (kI 1) W) (by decide) (Nat.le_of_ble_eq_true rfl) (by decide +kernel)) ?_
  refine j_runA hx 1 (tb := [(7, .iconst 1)]) (jtb_ok (by decide +kernel)) (pc' := 8) (lv' := [(0, vR t), (1, vI a1), (2, vI a2), (3, vI a3), (4, vI a4)]) (st' := [vI (kI 1), vI (fmo_bits a1 (kI 29) (kI 1))]) rfl ?_
  refine j_icmp_ne hx (off := 7) (tgt := 15) (by decide +kernel) (by decide) (fun _ => ?_) (fun _ => ?_)
  · refine j_runA hx 1 (tb := [(15, .iconst 0)]) (jtb_ok (by decide +kernel)) (pc' := 16) (lv' := [(0, vR t), (1, vI a1), (2, vI a2), (3, vI a3), (4, vI a4)]) (st' := [vI (kI 0)]) rfl ?_
    exact wrn_addNumber_16 h (kI 0) W
  refine j_runA hx 1 (tb := [(11, .iconst 1)]) (jtb_ok (by decide +kernel)) (pc' := 12) (lv' := [(0, vR t), (1, vI a1), (2, vI a2), (3, vI a3), (4, vI a4)]) (st' := [vI (kI 1)]) rfl ?_
  refine j_goto hx (off := 4) (by decide +kernel) (tgt := 16) (by decide) ?_
  exact wrn_addNumber_16 h (kI 1) W
theorem crn_addNumber (t : Nat) (a1 : Int32) (a2 : Int32) (a3 : Int32) (a4 : Int32) (W : jW) : jM yX11_addNumber cX11_addNumber 14 (Option.some Jvm.ClassFile.FieldType.int) [] 2 43 [vR t, vI a1, vI a2, vI a3, vI a4] W ((frn_addNumber t a1 a2 a3 a4 W).bind (fun q => some (.returned (some (.int q.1)), q.2))) := 
  jM.of (Nat.le_of_ble_eq_true rfl) (fun x hx hm hr => wrn_addNumber ⟨hx, hm, hr, fun _ => rfl⟩ W)
def hrn_isCode (x : jCx) (en : (Int32) → Option (Outcome × jW)) (t : Nat) (a1 : Int32) (W : jW) : Prop :=
  jOK x RX11 cX11_isCode 2 ∧
  jMt x "isCode" (Option.some Jvm.ClassFile.FieldType.boolean) [] ∧
  jRm x 0 0 ∧
  (∀ q : Int32, en q = some (.returned (some (.int q)), W))
theorem wrn_isCode_27 {x : jCx} {en : (Int32) → Option (Outcome × jW)} {W : jW} {t : Nat} {a1 : Int32} (h : hrn_isCode x en t a1 W) : jJ x 2 27 [(0, vR t), (1, vI a1)] [] W (frn_isCode_27 t a1 W) en := by
  have h0 := h
  obtain ⟨hx, hm, hr, he⟩ := h0
  unfold frn_isCode_27
  refine j_runA hx 1 (tb := [(27, .iconst 0)]) (jtb_ok (by decide +kernel)) (pc' := 28) (lv' := [(0, vR t), (1, vI a1)]) (st' := [vI (kI 0)]) rfl ?_
  exact j_iret hx hm (by decide +kernel) jz0n (he _)
theorem wrn_isCode {x : jCx} {en : (Int32) → Option (Outcome × jW)} {W : jW} {t : Nat} {a1 : Int32} (h : hrn_isCode x en t a1 W) : jJ x 2 0 [(0, vR t), (1, vI a1)] [] W (frn_isCode t a1 W) en := by
  have h0 := h
  obtain ⟨hx, hm, hr, he⟩ := h0
  unfold frn_isCode
  refine j_runA hx 1 (tb := [(0, .aload_n 0)]) (jtb_ok (by decide +kernel)) (pc' := 1) (lv' := [(0, vR t), (1, vI a1)]) (st' := [vR t]) rfl ?_
  refine j_gd (fun h1 => ?_)
  refine j_getI hx flX11_46 kd1601 h1 (by decide) (by decide +kernel) ?_
  refine j_runA hx 1 (tb := [(4, .iconst 1)]) (jtb_ok (by decide +kernel)) (pc' := 5) (lv' := [(0, vR t), (1, vI a1)]) (st' := [vI (kI 1), vI (jI W 1601 t)]) rfl ?_
  refine j_icmp_ne hx (off := 22) (tgt := 27) (by decide +kernel) (by decide) (fun _ => ?_) (fun _ => ?_)
  · exact wrn_isCode_27 h
  refine j_runA hx 2 (tb := [(8, .iload_n 1), (9, .bipush 31)]) (jtb_ok (by decide +kernel)) (pc' := 11) (lv' := [(0, vR t), (1, vI a1)]) (st' := [vI (kI 31), vI a1]) rfl ?_
  refine j_icmp_ge hx (off := 16) (tgt := 27) (by decide +kernel) (by decide) (fun _ => ?_) (fun _ => ?_)
  · exact wrn_isCode_27 h
  refine j_runA hx 1 (tb := [(14, .aload_n 0)]) (jtb_ok (by decide +kernel)) (pc' := 15) (lv' := [(0, vR t), (1, vI a1)]) (st' := [vR t]) rfl ?_
  refine j_getR hx flX11_15 kl1604 h1 (by decide) (by decide +kernel) ?_
  refine j_runA hx 1 (tb := [(18, .iload_n 1)]) (jtb_ok (by decide +kernel)) (pc' := 19) (lv' := [(0, vR t), (1, vI a1)]) (st' := [vI a1, vR (jR W 1604 t)]) rfl ?_
  refine j_gd (fun h2 => ?_)
  refine j_bald hx (f := 1604) (o := t) kd1604 rfl (by decide +kernel) h2 ?_
  refine j_if_eq hx (off := 7) (tgt := 27) (by decide +kernel) (by decide) (fun _ => ?_) (fun _ => ?_)
  · exact wrn_isCode_27 h
  refine j_runA hx 1 (tb := [(23, .iconst 1)]) (jtb_ok (by decide +kernel)) (pc' := 24) (lv' := [(0, vR t), (1, vI a1)]) (st' := [vI (kI 1)]) rfl ?_
  refine j_goto hx (off := 4) (by decide +kernel) (tgt := 28) (by decide) ?_
  exact j_iret hx hm (by decide +kernel) jz1n (he _)
theorem crn_isCode (t : Nat) (a1 : Int32) (W : jW) : jM yX11_isCode cX11_isCode 2 (Option.some Jvm.ClassFile.FieldType.boolean) [] 0 0 [vR t, vI a1] W ((frn_isCode t a1 W).bind (fun q => some (.returned (some (.int q)), W))) := 
  jM.of (Nat.le_of_ble_eq_true rfl) (fun x hx hm hr => wrn_isCode ⟨hx, hm, hr, fun _ => rfl⟩)
def hrn_r (x : jCx) (en : (Int64) → Option (Outcome × jW)) (t : Nat) (a1 : Int32) (W : jW) : Prop :=
  jOK x RX11 cX11_r 2 ∧
  jMt x "\x72" (Option.some Jvm.ClassFile.FieldType.long) [] ∧
  jRm x 0 0 ∧
  (∀ q : Int64, en q = some (.returned (some (.long q)), W))
theorem wrn_r {x : jCx} {en : (Int64) → Option (Outcome × jW)} {W : jW} {t : Nat} {a1 : Int32} (h : hrn_r x en t a1 W) : jJ x 2 0 [(0, vR t), (1, vI a1)] [] W (frn_r t a1 W) en := by
  have h0 := h
  obtain ⟨hx, hm, hr, he⟩ := h0
  unfold frn_r
  refine j_runA hx 2 (tb := [(0, .iload_n 1), (1, .bipush 31)]) (jtb_ok (by decide +kernel)) (pc' := 3) (lv' := [(0, vR t), (1, vI a1)]) (st' := [vI (kI 31), vI a1]) rfl ?_
  refine j_icmp_ne hx (off := 7) (tgt := 10) (by decide +kernel) (by decide) (fun _ => ?_) (fun _ => ?_)
  · refine j_runA hx 1 (tb := [(10, .aload_n 0)]) (jtb_ok (by decide +kernel)) (pc' := 11) (lv' := [(0, vR t), (1, vI a1)]) (st' := [vR t]) rfl ?_
    refine j_gd (fun h1 => ?_)
    refine j_getR hx flX11_9 kl1603 h1 (by decide) (by decide +kernel) ?_
    refine j_runA hx 1 (tb := [(14, .iload_n 1)]) (jtb_ok (by decide +kernel)) (pc' := 15) (lv' := [(0, vR t), (1, vI a1)]) (st' := [vI a1, vR (jR W 1603 t)]) rfl ?_
    refine j_gd (fun h2 => ?_)
    refine j_lald hx (f := 1603) (o := t) kd1603 rfl (by decide +kernel) h2 ?_
    exact j_lret hx hm (by decide +kernel) (he _)
  refine j_runA hx 1 (tb := [(6, .lconst 0)]) (jtb_ok (by decide +kernel)) (pc' := 7) (lv' := [(0, vR t), (1, vI a1)]) (st' := [vL (kJ 0)]) rfl ?_
  refine j_goto hx (off := 9) (by decide +kernel) (tgt := 16) (by decide) ?_
  exact j_lret hx hm (by decide +kernel) (he _)
theorem crn_r (t : Nat) (a1 : Int32) (W : jW) : jM yX11_r cX11_r 2 (Option.some Jvm.ClassFile.FieldType.long) [] 0 0 [vR t, vI a1] W ((frn_r t a1 W).bind (fun q => some (.returned (some (.long q)), W))) := 
  jM.of (Nat.le_of_ble_eq_true rfl) (fun x hx hm hr => wrn_r ⟨hx, hm, hr, fun _ => rfl⟩)
def hrn_shifted (x : jCx) (en : (Int64) → Option (Outcome × jW)) (t : Nat) (a1 : Int32) (a2 : Int64) (W : jW) : Prop :=
  jOK x RX11 cX11_shifted 8 ∧
  jMt x "shifted" (Option.some Jvm.ClassFile.FieldType.long) [] ∧
  jRm x 1 14 ∧
  (∀ q : Int64, en q = some (.returned (some (.long q)), W))
theorem wrn_shifted_81 {x : jCx} {en : (Int64) → Option (Outcome × jW)} {W : jW} {t : Nat} {a1 : Int32} {a2 : Int64} (h : hrn_shifted x en t a1 a2 W) (s0 : Int64) (s1 : Int64) : jJ x 8 81 [(0, vR t), (1, vI a1), (2, vL a2)] [vL s0, vL s1] W (some (frn_shifted_81 t a1 a2 s0 s1)) en := by
  have h0 := h
  obtain ⟨hx, hm, hr, he⟩ := h0
  unfold frn_shifted_81
  refine j_runA hx 1 (tb := [(81, .lor)]) (jtb_ok (by decide +kernel)) (pc' := 82) (lv' := [(0, vR t), (1, vI a1), (2, vL a2)]) (st' := [vL (s1 ||| s0)]) rfl ?_
  exact j_lret hx hm (by decide +kernel) (he _)
theorem wrn_shifted_151 {x : jCx} {en : (Int64) → Option (Outcome × jW)} {W : jW} {t : Nat} {a1 : Int32} {a2 : Int64} (h : hrn_shifted x en t a1 a2 W) (s0 : Int32) : jJ x 8 151 [(0, vR t), (1, vI a1), (2, vL a2)] [vI s0] W (some (frn_shifted_151 t a1 a2 s0)) en := by
  have h0 := h
  obtain ⟨hx, hm, hr, he⟩ := h0
  unfold frn_shifted_151
  refine j_runA hx 3 (tb := [(151, .istore 7), (153, .iload 7), (155, .i2l)]) (jtb_ok (by decide +kernel)) (pc' := 156) (lv' := [(7, vI s0), (0, vR t), (1, vI a1), (2, vL a2)]) (st' := [vL s0.toInt64]) rfl ?_
  refine j_ldc2 hx (v := (kJ 4294967295)) (jkd2 q3406 (by decide +kernel)) (by decide +kernel) ?_
  refine j_runA hx 1 (tb := [(159, .land)]) (jtb_ok (by decide +kernel)) (pc' := 160) (lv' := [(7, vI s0), (0, vR t), (1, vI a1), (2, vL a2)]) (st' := [vL (s0.toInt64 &&& (kJ 4294967295))]) rfl ?_
  exact j_lret hx hm (by decide +kernel) (he _)
theorem wrn_shifted_150 {x : jCx} {en : (Int64) → Option (Outcome × jW)} {W : jW} {t : Nat} {a1 : Int32} {a2 : Int64} (h : hrn_shifted x en t a1 a2 W) (s0 : Int32) (s1 : Int32) : jJ x 8 150 [(0, vR t), (1, vI a1), (2, vL a2)] [vI s0, vI s1] W (some (frn_shifted_150 t a1 a2 s0 s1)) en := by
  have h0 := h
  obtain ⟨hx, hm, hr, he⟩ := h0
  unfold frn_shifted_150
  refine j_runA hx 1 (tb := [(150, .ior)]) (jtb_ok (by decide +kernel)) (pc' := 151) (lv' := [(0, vR t), (1, vI a1), (2, vL a2)]) (st' := [vI (s1 ||| s0)]) rfl ?_
  exact wrn_shifted_151 h (s1 ||| s0)
theorem wrn_shifted {x : jCx} {en : (Int64) → Option (Outcome × jW)} {W : jW} {t : Nat} {a1 : Int32} {a2 : Int64} (h : hrn_shifted x en t a1 a2 W) : jJ x 8 0 [(0, vR t), (1, vI a1), (2, vL a2)] [] W (some (frn_shifted t a1 a2)) en := by
  have h0 := h
  obtain ⟨hx, hm, hr, he⟩ := h0
  unfold frn_shifted
  refine j_runA hx 3 (tb := [(0, .iload_n 1), (1, .bipush 10), (3, .bipush 6)]) (jtb_ok (by decide +kernel)) (pc' := 5) (lv' := [(0, vR t), (1, vI a1), (2, vL a2)]) (st' := [vI (kI 6), vI (kI 10), vI a1]) rfl ?_
  refine j_TI (j_callS (av := [vI a1, vI (kI 10), vI (kI 6)]) (st := []) hx hr (Or.inr ⟨_, q3393⟩) q2964 q241 md_fmo_bits np_fmo_bits (cmo_bits a1 (kI 10) (kI 6) W) (by decide) (Nat.le_of_ble_eq_true rfl) (by decide +kernel)) ?_
  refine j_runA hx 1 (tb := [(8, .istore 4)]) (jtb_ok (by decide +kernel)) (pc' := 10) (lv' := [(4, vI (fmo_bits a1 (kI 10) (kI 6))), (0, vR t), (1, vI a1), (2, vL a2)]) (st' := []) rfl ?_
  refine j_letT (v := (fmo_bits a1 (kI 10) (kI 6))) (lv := fun v1 => [(4, vI v1), (0, vR t), (1, vI a1), (2, vL a2)]) (st := fun _ => []) (fun v1 => ?_)
  refine j_runA hx 3 (tb := [(10, .iload_n 1), (11, .bipush 22), (13, .iconst 2)]) (jtb_ok (by decide +kernel)) (pc' := 14) (lv' := [(4, vI v1), (0, vR t), (1, vI a1), (2, vL a2)]) (st' := [vI (kI 2), vI (kI 22), vI a1]) rfl ?_
  refine j_TI (j_callS (av := [vI a1, vI (kI 22), vI (kI 2)]) (st := []) hx hr (Or.inr ⟨_, q3393⟩) q2964 q241 md_fmo_bits np_fmo_bits (cmo_bits a1 (kI 22) (kI 2) W) (by decide) (Nat.le_of_ble_eq_true rfl) (by decide +kernel)) ?_
  refine j_runA hx 1 (tb := [(17, .istore 5)]) (jtb_ok (by decide +kernel)) (pc' := 19) (lv' := [(5, vI (fmo_bits a1 (kI 22) (kI 2))), (4, vI v1), (0, vR t), (1, vI a1), (2, vL a2)]) (st' := []) rfl ?_
  refine j_letT (v := (fmo_bits a1 (kI 22) (kI 2))) (lv := fun v2 => [(5, vI v2), (4, vI v1), (0, vR t), (1, vI a1), (2, vL a2)]) (st := fun _ => []) (fun v2 => ?_)
  refine j_runA hx 1 (tb := [(19, .iload_n 1)]) (jtb_ok (by decide +kernel)) (pc' := 20) (lv' := [(5, vI v2), (4, vI v1), (0, vR t), (1, vI a1), (2, vL a2)]) (st' := [vI a1]) rfl ?_
  refine j_tot (j_if_ge hx (off := 63) (tgt := 83) (by decide +kernel) (by decide) (fun _ => ?_) (fun _ => ?_))
  · refine j_runA hx 4 (tb := [(83, .lload_n 2), (84, .l2i), (85, .istore 6), (87, .iload 5)]) (jtb_ok (by decide +kernel)) (pc' := 89) (lv' := [(6, vI a2.toInt32), (5, vI v2), (4, vI v1), (0, vR t), (1, vI a1), (2, vL a2)]) (st' := [vI v2]) rfl ?_
    refine j_tot (j_if_ne hx (off := 11) (tgt := 100) (by decide +kernel) (by decide) (fun _ => ?_) (fun _ => ?_))
    · refine j_runA hx 2 (tb := [(100, .iload 5), (102, .iconst 1)]) (jtb_ok (by decide +kernel)) (pc' := 103) (lv' := [(6, vI a2.toInt32), (5, vI v2), (4, vI v1), (0, vR t), (1, vI a1), (2, vL a2)]) (st' := [vI (kI 1), vI v2]) rfl ?_
      refine j_tot (j_icmp_ne hx (off := 11) (tgt := 114) (by decide +kernel) (by decide) (fun _ => ?_) (fun _ => ?_))
      · refine j_runA hx 2 (tb := [(114, .iload 5), (116, .iconst 2)]) (jtb_ok (by decide +kernel)) (pc' := 117) (lv' := [(6, vI a2.toInt32), (5, vI v2), (4, vI v1), (0, vR t), (1, vI a1), (2, vL a2)]) (st' := [vI (kI 2), vI v2]) rfl ?_
        refine j_tot (j_icmp_ne hx (off := 11) (tgt := 128) (by decide +kernel) (by decide) (fun _ => ?_) (fun _ => ?_))
        · refine j_runA hx 4 (tb := [(128, .iload 6), (130, .iload 4), (132, .iushr), (133, .iload 4)]) (jtb_ok (by decide +kernel)) (pc' := 135) (lv' := [(6, vI a2.toInt32), (5, vI v2), (4, vI v1), (0, vR t), (1, vI a1), (2, vL a2)]) (st' := [vI v1, vI (ixu a2.toInt32 v1)]) rfl ?_
          refine j_tot (j_if_ne hx (off := 7) (tgt := 142) (by decide +kernel) (by decide) (fun _ => ?_) (fun _ => ?_))
          · refine j_runA hx 5 (tb := [(142, .iload 6), (144, .bipush 32), (146, .iload 4), (148, .isub), (149, .ishl)]) (jtb_ok (by decide +kernel)) (pc' := 150) (lv' := [(6, vI a2.toInt32), (5, vI v2), (4, vI v1), (0, vR t), (1, vI a1), (2, vL a2)]) (st' := [vI (ixl a2.toInt32 ((kI 32) - v1)), vI (ixu a2.toInt32 v1)]) rfl ?_
            refine j_lv (lv' := [(0, vR t), (1, vI a1), (2, vL a2)]) ⟨rfl, rfl, rfl, trivial⟩ ?_
            exact wrn_shifted_150 h (ixl a2.toInt32 ((kI 32) - v1)) (ixu a2.toInt32 v1)
          refine j_runA hx 1 (tb := [(138, .iconst 0)]) (jtb_ok (by decide +kernel)) (pc' := 139) (lv' := [(6, vI a2.toInt32), (5, vI v2), (4, vI v1), (0, vR t), (1, vI a1), (2, vL a2)]) (st' := [vI (kI 0), vI (ixu a2.toInt32 v1)]) rfl ?_
          refine j_goto hx (off := 11) (by decide +kernel) (tgt := 150) (by decide) ?_
          refine j_lv (lv' := [(0, vR t), (1, vI a1), (2, vL a2)]) ⟨rfl, rfl, rfl, trivial⟩ ?_
          exact wrn_shifted_150 h (kI 0) (ixu a2.toInt32 v1)
        refine j_runA hx 3 (tb := [(120, .iload 6), (122, .iload 4), (124, .ishr)]) (jtb_ok (by decide +kernel)) (pc' := 125) (lv' := [(6, vI a2.toInt32), (5, vI v2), (4, vI v1), (0, vR t), (1, vI a1), (2, vL a2)]) (st' := [vI (ixr a2.toInt32 v1)]) rfl ?_
        refine j_goto hx (off := 26) (by decide +kernel) (tgt := 151) (by decide) ?_
        refine j_lv (lv' := [(0, vR t), (1, vI a1), (2, vL a2)]) ⟨rfl, rfl, rfl, trivial⟩ ?_
        exact wrn_shifted_151 h (ixr a2.toInt32 v1)
      refine j_runA hx 3 (tb := [(106, .iload 6), (108, .iload 4), (110, .iushr)]) (jtb_ok (by decide +kernel)) (pc' := 111) (lv' := [(6, vI a2.toInt32), (5, vI v2), (4, vI v1), (0, vR t), (1, vI a1), (2, vL a2)]) (st' := [vI (ixu a2.toInt32 v1)]) rfl ?_
      refine j_goto hx (off := 40) (by decide +kernel) (tgt := 151) (by decide) ?_
      refine j_lv (lv' := [(0, vR t), (1, vI a1), (2, vL a2)]) ⟨rfl, rfl, rfl, trivial⟩ ?_
      exact wrn_shifted_151 h (ixu a2.toInt32 v1)
    refine j_runA hx 3 (tb := [(92, .iload 6), (94, .iload 4), (96, .ishl)]) (jtb_ok (by decide +kernel)) (pc' := 97) (lv' := [(6, vI a2.toInt32), (5, vI v2), (4, vI v1), (0, vR t), (1, vI a1), (2, vL a2)]) (st' := [vI (ixl a2.toInt32 v1)]) rfl ?_
    refine j_goto hx (off := 54) (by decide +kernel) (tgt := 151) (by decide) ?_
    refine j_lv (lv' := [(0, vR t), (1, vI a1), (2, vL a2)]) ⟨rfl, rfl, rfl, trivial⟩ ?_
    exact wrn_shifted_151 h (ixl a2.toInt32 v1)
  refine j_runA hx 1 (tb := [(23, .iload 5)]) (jtb_ok (by decide +kernel)) (pc' := 25) (lv' := [(5, vI v2), (4, vI v1), (0, vR t), (1, vI a1), (2, vL a2)]) (st' := [vI v2]) rfl ?_
  refine j_tot (j_if_ne hx (off := 10) (tgt := 35) (by decide +kernel) (by decide) (fun _ => ?_) (fun _ => ?_))
  · refine j_runA hx 2 (tb := [(35, .iload 5), (37, .iconst 1)]) (jtb_ok (by decide +kernel)) (pc' := 38) (lv' := [(5, vI v2), (4, vI v1), (0, vR t), (1, vI a1), (2, vL a2)]) (st' := [vI (kI 1), vI v2]) rfl ?_
    refine j_tot (j_icmp_ne hx (off := 10) (tgt := 48) (by decide +kernel) (by decide) (fun _ => ?_) (fun _ => ?_))
    · refine j_runA hx 2 (tb := [(48, .iload 5), (50, .iconst 2)]) (jtb_ok (by decide +kernel)) (pc' := 51) (lv' := [(5, vI v2), (4, vI v1), (0, vR t), (1, vI a1), (2, vL a2)]) (st' := [vI (kI 2), vI v2]) rfl ?_
      refine j_tot (j_icmp_ne hx (off := 10) (tgt := 61) (by decide +kernel) (by decide) (fun _ => ?_) (fun _ => ?_))
      · refine j_runA hx 4 (tb := [(61, .lload_n 2), (62, .iload 4), (64, .lushr), (65, .iload 4)]) (jtb_ok (by decide +kernel)) (pc' := 67) (lv' := [(5, vI v2), (4, vI v1), (0, vR t), (1, vI a1), (2, vL a2)]) (st' := [vI v1, vL (lxu a2 v1)]) rfl ?_
        refine j_tot (j_if_ne hx (off := 7) (tgt := 74) (by decide +kernel) (by decide) (fun _ => ?_) (fun _ => ?_))
        · refine j_runA hx 5 (tb := [(74, .lload_n 2), (75, .bipush 64), (77, .iload 4), (79, .isub), (80, .lshl)]) (jtb_ok (by decide +kernel)) (pc' := 81) (lv' := [(5, vI v2), (4, vI v1), (0, vR t), (1, vI a1), (2, vL a2)]) (st' := [vL (lxl a2 ((kI 64) - v1)), vL (lxu a2 v1)]) rfl ?_
          refine j_lv (lv' := [(0, vR t), (1, vI a1), (2, vL a2)]) ⟨rfl, rfl, rfl, trivial⟩ ?_
          exact wrn_shifted_81 h (lxl a2 ((kI 64) - v1)) (lxu a2 v1)
        refine j_runA hx 1 (tb := [(70, .lconst 0)]) (jtb_ok (by decide +kernel)) (pc' := 71) (lv' := [(5, vI v2), (4, vI v1), (0, vR t), (1, vI a1), (2, vL a2)]) (st' := [vL (kJ 0), vL (lxu a2 v1)]) rfl ?_
        refine j_goto hx (off := 10) (by decide +kernel) (tgt := 81) (by decide) ?_
        refine j_lv (lv' := [(0, vR t), (1, vI a1), (2, vL a2)]) ⟨rfl, rfl, rfl, trivial⟩ ?_
        exact wrn_shifted_81 h (kJ 0) (lxu a2 v1)
      refine j_runA hx 3 (tb := [(54, .lload_n 2), (55, .iload 4), (57, .lshr)]) (jtb_ok (by decide +kernel)) (pc' := 58) (lv' := [(5, vI v2), (4, vI v1), (0, vR t), (1, vI a1), (2, vL a2)]) (st' := [vL (lxr a2 v1)]) rfl ?_
      refine j_goto hx (off := 24) (by decide +kernel) (tgt := 82) (by decide) ?_
      exact j_lret hx hm (by decide +kernel) (he _)
    refine j_runA hx 3 (tb := [(41, .lload_n 2), (42, .iload 4), (44, .lushr)]) (jtb_ok (by decide +kernel)) (pc' := 45) (lv' := [(5, vI v2), (4, vI v1), (0, vR t), (1, vI a1), (2, vL a2)]) (st' := [vL (lxu a2 v1)]) rfl ?_
    refine j_goto hx (off := 37) (by decide +kernel) (tgt := 82) (by decide) ?_
    exact j_lret hx hm (by decide +kernel) (he _)
  refine j_runA hx 3 (tb := [(28, .lload_n 2), (29, .iload 4), (31, .lshl)]) (jtb_ok (by decide +kernel)) (pc' := 32) (lv' := [(5, vI v2), (4, vI v1), (0, vR t), (1, vI a1), (2, vL a2)]) (st' := [vL (lxl a2 v1)]) rfl ?_
  refine j_goto hx (off := 50) (by decide +kernel) (tgt := 82) (by decide) ?_
  exact j_lret hx hm (by decide +kernel) (he _)
theorem crn_shifted (t : Nat) (a1 : Int32) (a2 : Int64) (W : jW) : jM yX11_shifted cX11_shifted 8 (Option.some Jvm.ClassFile.FieldType.long) [] 1 14 [vR t, vI a1, vL a2] W (some (.returned (some (.long (frn_shifted t a1 a2))), W)) := 
  jM.of (mm := some (frn_shifted t a1 a2)) (en := fun q => some (.returned (some (.long q)), W)) (Nat.le_of_ble_eq_true rfl) (fun x hx hm hr => wrn_shifted ⟨hx, hm, hr, fun _ => rfl⟩)
def hrn_set (x : jCx) (en : (jW) → Option (Outcome × jW)) (t : Nat) (a1 : Int32) (a2 : Int64) : Prop :=
  jOK x RX11 cX11_set 4 ∧
  jMt x "set" (Option.none : Option Jvm.ClassFile.FieldType) [] ∧
  jRm x 0 0 ∧
  (∀ q : jW, en q = some (.returned none, q))
theorem wrn_set {x : jCx} {en : (jW) → Option (Outcome × jW)} {t : Nat} {a1 : Int32} {a2 : Int64} (h : hrn_set x en t a1 a2) (W : jW) : jJ x 4 0 [(0, vR t), (1, vI a1), (2, vL a2)] [] W (frn_set t a1 a2 W) en := by
  have h0 := h
  obtain ⟨hx, hm, hr, he⟩ := h0
  unfold frn_set
  refine j_runA hx 2 (tb := [(0, .iload_n 1), (1, .bipush 31)]) (jtb_ok (by decide +kernel)) (pc' := 3) (lv' := [(0, vR t), (1, vI a1), (2, vL a2)]) (st' := [vI (kI 31), vI a1]) rfl ?_
  refine j_icmp_ne hx (off := 4) (tgt := 7) (by decide +kernel) (by decide) (fun _ => ?_) (fun _ => ?_)
  · refine j_runA hx 1 (tb := [(7, .aload_n 0)]) (jtb_ok (by decide +kernel)) (pc' := 8) (lv' := [(0, vR t), (1, vI a1), (2, vL a2)]) (st' := [vR t]) rfl ?_
    refine j_gd (fun h1 => ?_)
    refine j_getR hx flX11_9 kl1603 h1 (by decide) (by decide +kernel) ?_
    refine j_runA hx 2 (tb := [(11, .iload_n 1), (12, .lload_n 2)]) (jtb_ok (by decide +kernel)) (pc' := 13) (lv' := [(0, vR t), (1, vI a1), (2, vL a2)]) (st' := [vL a2, vI a1, vR (jR W 1603 t)]) rfl ?_
    refine j_gd (fun h2 => ?_)
    refine j_last hx (f := 1603) (o := t) kd1603 rfl (by decide +kernel) h2 ?_
    refine j_ltw rfl (fun W3 hc4 => ?_)
    have h5 : jC W3 t = 16 := (congrFun hc4 _).trans h1
    refine j_runA hx 1 (tb := [(14, .aload_n 0)]) (jtb_ok (by decide +kernel)) (pc' := 15) (lv' := [(0, vR t), (1, vI a1), (2, vL a2)]) (st' := [vR t]) rfl ?_
    refine j_getR hx flX11_15 kl1604 h5 (by decide) (by decide +kernel) ?_
    refine j_runA hx 2 (tb := [(18, .iload_n 1), (19, .iconst 0)]) (jtb_ok (by decide +kernel)) (pc' := 20) (lv' := [(0, vR t), (1, vI a1), (2, vL a2)]) (st' := [vI (kI 0), vI a1, vR (jR W3 1604 t)]) rfl ?_
    refine j_gd (fun h7 => ?_)
    refine j_bast hx (f := 1604) (o := t) kd1604 rfl (by decide +kernel) h7 ?_
    refine j_ltw rfl (fun W8 hc9 => ?_)
    have h10 : jC W8 t = 16 := (congrFun hc9 _).trans h5
    exact j_vret hx hm (by decide +kernel) (he _)
  exact j_vret hx hm (by decide +kernel) (he _)
theorem crn_set (t : Nat) (a1 : Int32) (a2 : Int64) (W : jW) : jM yX11_set cX11_set 4 (Option.none : Option Jvm.ClassFile.FieldType) [] 0 0 [vR t, vI a1, vL a2] W ((frn_set t a1 a2 W).bind (fun q => some (.returned none, q))) := 
  jM.of (Nat.le_of_ble_eq_true rfl) (fun x hx hm hr => wrn_set ⟨hx, hm, hr, fun _ => rfl⟩ W)
def hrn_copy (x : jCx) (en : (jW) → Option (Outcome × jW)) (t : Nat) (a1 : Int32) (a2 : Int32) : Prop :=
  jOK x RX11 cX11_copy 3 ∧
  jMt x "copy" (Option.none : Option Jvm.ClassFile.FieldType) [] ∧
  jRm x 1 17 ∧
  (∀ q : jW, en q = some (.returned none, q))
theorem wrn_copy {x : jCx} {en : (jW) → Option (Outcome × jW)} {t : Nat} {a1 : Int32} {a2 : Int32} (h : hrn_copy x en t a1 a2) (W : jW) : jJ x 3 0 [(0, vR t), (1, vI a1), (2, vI a2)] [] W (frn_copy t a1 a2 W) en := by
  have h0 := h
  obtain ⟨hx, hm, hr, he⟩ := h0
  unfold frn_copy
  refine j_runA hx 2 (tb := [(0, .iload_n 1), (1, .bipush 31)]) (jtb_ok (by decide +kernel)) (pc' := 3) (lv' := [(0, vR t), (1, vI a1), (2, vI a2)]) (st' := [vI (kI 31), vI a1]) rfl ?_
  refine j_icmp_ge hx (off := 26) (tgt := 29) (by decide +kernel) (by decide) (fun _ => ?_) (fun _ => ?_)
  · exact j_vret hx hm (by decide +kernel) (he _)
  refine j_runA hx 3 (tb := [(6, .aload_n 0), (7, .iload_n 1), (8, .aload_n 0)]) (jtb_ok (by decide +kernel)) (pc' := 9) (lv' := [(0, vR t), (1, vI a1), (2, vI a2)]) (st' := [vR t, vI a1, vR t]) rfl ?_
  refine j_gd (fun h1 => ?_)
  refine j_getR hx flX11_15 kl1604 h1 (by decide) (by decide +kernel) ?_
  refine j_runA hx 1 (tb := [(12, .iload_n 2)]) (jtb_ok (by decide +kernel)) (pc' := 13) (lv' := [(0, vR t), (1, vI a1), (2, vI a2)]) (st' := [vI a2, vR (jR W 1604 t), vI a1, vR t]) rfl ?_
  refine j_gd (fun h2 => ?_)
  refine j_bald hx (f := 1604) (o := t) kd1604 rfl (by decide +kernel) h2 ?_
  refine j_runA hx 1 (tb := [(14, .aload_n 0)]) (jtb_ok (by decide +kernel)) (pc' := 15) (lv' := [(0, vR t), (1, vI a1), (2, vI a2)]) (st' := [vR t, vI (jA W 1604 t (ix a2)), vI a1, vR t]) rfl ?_
  refine j_getR hx flX11_19 kl1605 h1 (by decide) (by decide +kernel) ?_
  refine j_runA hx 1 (tb := [(18, .iload_n 2)]) (jtb_ok (by decide +kernel)) (pc' := 19) (lv' := [(0, vR t), (1, vI a1), (2, vI a2)]) (st' := [vI a2, vR (jR W 1605 t), vI (jA W 1604 t (ix a2)), vI a1, vR t]) rfl ?_
  refine j_gd (fun h3 => ?_)
  refine j_iald hx (f := 1605) (o := t) kd1605 rfl (by decide +kernel) h3 ?_
  refine j_runA hx 1 (tb := [(20, .aload_n 0)]) (jtb_ok (by decide +kernel)) (pc' := 21) (lv' := [(0, vR t), (1, vI a1), (2, vI a2)]) (st' := [vR t, vI (jA W 1605 t (ix a2)), vI (jA W 1604 t (ix a2)), vI a1, vR t]) rfl ?_
  refine j_getR hx flX11_9 kl1603 h1 (by decide) (by decide +kernel) ?_
  refine j_runA hx 1 (tb := [(24, .iload_n 2)]) (jtb_ok (by decide +kernel)) (pc' := 25) (lv' := [(0, vR t), (1, vI a1), (2, vI a2)]) (st' := [vI a2, vR (jR W 1603 t), vI (jA W 1605 t (ix a2)), vI (jA W 1604 t (ix a2)), vI a1, vR t]) rfl ?_
  refine j_gd (fun h4 => ?_)
  refine j_lald hx (f := 1603) (o := t) kd1603 rfl (by decide +kernel) h4 ?_
  refine j_WV (j_callV (av := [vI a1, vI (jA W 1604 t (ix a2)), vI (jA W 1605 t (ix a2)), vL (jB W 1603 t (ix a2))]) (st := []) hx hr (Or.inl q3398) q3400 qs191 rfl md_frn_make np_frn_make (crn_make t a1 (jA W 1604 t (ix a2)) (jA W 1605 t (ix a2)) (jB W 1603 t (ix a2)) W) (by decide) (Nat.le_of_ble_eq_true rfl) h1 (by decide) (by decide +kernel)) (fun q5 _ => ?_)
  exact j_vret hx hm (by decide +kernel) (he _)
theorem crn_copy (t : Nat) (a1 : Int32) (a2 : Int32) (W : jW) : jM yX11_copy cX11_copy 3 (Option.none : Option Jvm.ClassFile.FieldType) [] 1 17 [vR t, vI a1, vI a2] W ((frn_copy t a1 a2 W).bind (fun q => some (.returned none, q))) := 
  jM.of (Nat.le_of_ble_eq_true rfl) (fun x hx hm hr => wrn_copy ⟨hx, hm, hr, fun _ => rfl⟩ W)
def hrn_and (x : jCx) (en : (Int32 × jW) → Option (Outcome × jW)) (t : Nat) (a1 : Int32) (a2 : Int32) (a3 : Int32) (a4 : Int32) : Prop :=
  jOK x RX11 cX11_and 13 ∧
  jMt x "and" (Option.some Jvm.ClassFile.FieldType.int) [] ∧
  jRm x 2 33 ∧
  (∀ q : Int32 × jW, en q = some (.returned (some (.int q.1)), q.2))
theorem wrn_and_114 {x : jCx} {en : (Int32 × jW) → Option (Outcome × jW)} {t : Nat} {a1 : Int32} {a2 : Int32} {a3 : Int32} {a4 : Int32} (h : hrn_and x en t a1 a2 a3 a4) (W : jW) : jJ x 13 114 [(0, vR t), (1, vI a1), (2, vI a2), (3, vI a3), (4, vI a4)] [] W (frn_and_114 t a1 a2 a3 a4 W) en := by
  have h0 := h
  obtain ⟨hx, hm, hr, he⟩ := h0
  unfold frn_and_114
  refine j_runA hx 1 (tb := [(114, .iconst 3)]) (jtb_ok (by decide +kernel)) (pc' := 115) (lv' := [(0, vR t), (1, vI a1), (2, vI a2), (3, vI a3), (4, vI a4)]) (st' := [vI (kI 3)]) rfl ?_
  exact j_iret hx hm (by decide +kernel) rfl (he _)
theorem wrn_and_292 {x : jCx} {en : (Int32 × jW) → Option (Outcome × jW)} {t : Nat} {a1 : Int32} {a2 : Int32} {a3 : Int32} {a4 : Int32} (h : hrn_and x en t a1 a2 a3 a4) (l11 : Int64) (W : jW) : jJ x 13 292 [(0, vR t), (1, vI a1), (2, vI a2), (3, vI a3), (4, vI a4), (11, vL l11)] [] W (frn_and_292 t a1 a2 a3 a4 l11 W) en := by
  have h0 := h
  obtain ⟨hx, hm, hr, he⟩ := h0
  unfold frn_and_292
  refine j_runA hx 3 (tb := [(292, .aload_n 0), (293, .iload_n 2), (294, .lload 11)]) (jtb_ok (by decide +kernel)) (pc' := 296) (lv' := [(0, vR t), (1, vI a1), (2, vI a2), (3, vI a3), (4, vI a4), (11, vL l11)]) (st' := [vL l11, vI a2, vR t]) rfl ?_
  refine j_gd (fun h47 => ?_)
  refine j_WV (j_callV (av := [vI a2, vL l11]) (st := []) hx hr (Or.inl q3427) q3429 qs197 rfl md_frn_set np_frn_set (crn_set t a2 l11 W) (by decide) (Nat.le_of_ble_eq_true rfl) h47 (by decide) (by decide +kernel)) (fun q48 _ => ?_)
  refine j_runA hx 1 (tb := [(299, .iconst (-1))]) (jtb_ok (by decide +kernel)) (pc' := 300) (lv' := [(0, vR t), (1, vI a1), (2, vI a2), (3, vI a3), (4, vI a4), (11, vL l11)]) (st' := [vI (kI (-1))]) rfl ?_
  exact j_iret hx hm (by decide +kernel) rfl (he _)
theorem wrn_and_279 {x : jCx} {en : (Int32 × jW) → Option (Outcome × jW)} {t : Nat} {a1 : Int32} {a2 : Int32} {a3 : Int32} {a4 : Int32} (h : hrn_and x en t a1 a2 a3 a4) (l11 : Int64) (s0 : Int32) (s1 : Nat) (W : jW) : jJ x 13 279 [(0, vR t), (1, vI a1), (2, vI a2), (3, vI a3), (4, vI a4), (11, vL l11)] [vI s0, vR s1] W (frn_and_279 t a1 a2 a3 a4 l11 s0 s1 W) en := by
  have h0 := h
  obtain ⟨hx, hm, hr, he⟩ := h0
  unfold frn_and_279
  refine j_gd (fun h29 => ?_)
  refine j_gd (fun h30 => ?_)
  refine j_putI hx fwX11_59 wf1607 kd1607 h29 (by decide) (by decide +kernel) (nz1607 h30) (fz1607 h30) ?_
  refine j_ltw rfl (fun W31 hc32 => ?_)
  have h33 : jC W31 s1 = 16 := (congrFun hc32 _).trans h29
  refine j_runA hx 2 (tb := [(282, .aload_n 0), (283, .iconst 0)]) (jtb_ok (by decide +kernel)) (pc' := 284) (lv' := [(0, vR t), (1, vI a1), (2, vI a2), (3, vI a3), (4, vI a4), (11, vL l11)]) (st' := [vI (kI 0), vR t]) rfl ?_
  refine j_gd (fun h35 => ?_)
  refine j_putI hx fwX11_62 wf1608 kd1608 h35 (by decide) (by decide +kernel) (nz1608 jz0) (fz1608 jz0) ?_
  refine j_ltw rfl (fun W36 hc37 => ?_)
  have h38 : jC W36 s1 = 16 := (congrFun hc37 _).trans h33
  have h39 : jC W36 t = 16 := (congrFun hc37 _).trans h35
  refine j_runA hx 2 (tb := [(287, .aload_n 0), (288, .iconst 0)]) (jtb_ok (by decide +kernel)) (pc' := 289) (lv' := [(0, vR t), (1, vI a1), (2, vI a2), (3, vI a3), (4, vI a4), (11, vL l11)]) (st' := [vI (kI 0), vR t]) rfl ?_
  refine j_putI hx fwX11_65 wf1609 kd1609 h39 (by decide) (by decide +kernel) (nz1609 jz0) (fz1609 jz0) ?_
  refine j_ltw rfl (fun W41 hc42 => ?_)
  have h43 : jC W41 s1 = 16 := (congrFun hc42 _).trans h38
  have h44 : jC W41 t = 16 := (congrFun hc42 _).trans h39
  exact wrn_and_292 h l11 W41
theorem wrn_and_263 {x : jCx} {en : (Int32 × jW) → Option (Outcome × jW)} {t : Nat} {a1 : Int32} {a2 : Int32} {a3 : Int32} {a4 : Int32} (h : hrn_and x en t a1 a2 a3 a4) (l11 : Int64) (s0 : Int32) (s1 : Nat) (W : jW) : jJ x 13 263 [(0, vR t), (1, vI a1), (2, vI a2), (3, vI a3), (4, vI a4), (11, vL l11)] [vI s0, vR s1] W (frn_and_263 t a1 a2 a3 a4 l11 s0 s1 W) en := by
  have h0 := h
  obtain ⟨hx, hm, hr, he⟩ := h0
  unfold frn_and_263
  refine j_gd (fun h22 => ?_)
  refine j_gd (fun h23 => ?_)
  refine j_putI hx fwX11_56 wf1606 kd1606 h22 (by decide) (by decide +kernel) (nz1606 h23) (fz1606 h23) ?_
  refine j_ltw rfl (fun W24 hc25 => ?_)
  have h26 : jC W24 s1 = 16 := (congrFun hc25 _).trans h22
  refine j_runA hx 3 (tb := [(266, .aload_n 0), (267, .lload 11), (269, .lconst 0)]) (jtb_ok (by decide +kernel)) (pc' := 270) (lv' := [(0, vR t), (1, vI a1), (2, vI a2), (3, vI a3), (4, vI a4), (11, vL l11)]) (st' := [vL (kJ 0), vL l11, vR t]) rfl ?_
  refine j_lcmp_ne hx (off := 7) (tgt := 278) (by decide +kernel) (by decide +kernel) (by decide) (fun _ => ?_) (fun _ => ?_)
  · refine j_runA hx 1 (tb := [(278, .iconst 0)]) (jtb_ok (by decide +kernel)) (pc' := 279) (lv' := [(0, vR t), (1, vI a1), (2, vI a2), (3, vI a3), (4, vI a4), (11, vL l11)]) (st' := [vI (kI 0), vR t]) rfl ?_
    exact wrn_and_279 h l11 (kI 0) t W24
  refine j_runA hx 1 (tb := [(274, .iconst 1)]) (jtb_ok (by decide +kernel)) (pc' := 275) (lv' := [(0, vR t), (1, vI a1), (2, vI a2), (3, vI a3), (4, vI a4), (11, vL l11)]) (st' := [vI (kI 1), vR t]) rfl ?_
  refine j_goto hx (off := 4) (by decide +kernel) (tgt := 279) (by decide) ?_
  exact wrn_and_279 h l11 (kI 1) t W24
theorem wrn_and_223 {x : jCx} {en : (Int32 × jW) → Option (Outcome × jW)} {t : Nat} {a1 : Int32} {a2 : Int32} {a3 : Int32} {a4 : Int32} (h : hrn_and x en t a1 a2 a3 a4) (l5 : Int32) (l6 : Int32) (s0 : Int64) (W : jW) : jJ x 13 223 [(0, vR t), (1, vI a1), (2, vI a2), (3, vI a3), (4, vI a4), (5, vI l5), (6, vI l6)] [vL s0] W (frn_and_223 t a1 a2 a3 a4 l5 l6 s0 W) en := by
  have h0 := h
  obtain ⟨hx, hm, hr, he⟩ := h0
  unfold frn_and_223
  refine j_runA hx 3 (tb := [(223, .lstore 11), (225, .iload 6), (227, .iconst 3)]) (jtb_ok (by decide +kernel)) (pc' := 228) (lv' := [(11, vL s0), (0, vR t), (1, vI a1), (2, vI a2), (3, vI a3), (4, vI a4), (5, vI l5), (6, vI l6)]) (st' := [vI (kI 3), vI l6]) rfl ?_
  refine j_icmp_ne hx (off := 64) (tgt := 292) (by decide +kernel) (by decide) (fun _ => ?_) (fun _ => ?_)
  · refine j_lv (lv' := [(0, vR t), (1, vI a1), (2, vI a2), (3, vI a3), (4, vI a4), (11, vL s0)]) ⟨rfl, rfl, rfl, rfl, rfl, rfl, trivial⟩ ?_
    exact wrn_and_292 h s0 W
  refine j_runA hx 2 (tb := [(231, .aload_n 0), (232, .iload 5)]) (jtb_ok (by decide +kernel)) (pc' := 234) (lv' := [(11, vL s0), (0, vR t), (1, vI a1), (2, vI a2), (3, vI a3), (4, vI a4), (5, vI l5), (6, vI l6)]) (st' := [vI l5, vR t]) rfl ?_
  refine j_if_eq hx (off := 18) (tgt := 252) (by decide +kernel) (by decide) (fun _ => ?_) (fun _ => ?_)
  · refine j_runA hx 2 (tb := [(252, .lload 11), (254, .l2i)]) (jtb_ok (by decide +kernel)) (pc' := 255) (lv' := [(11, vL s0), (0, vR t), (1, vI a1), (2, vI a2), (3, vI a3), (4, vI a4), (5, vI l5), (6, vI l6)]) (st' := [vI s0.toInt32, vR t]) rfl ?_
    refine j_if_ge hx (off := 7) (tgt := 262) (by decide +kernel) (by decide) (fun _ => ?_) (fun _ => ?_)
    · refine j_runA hx 1 (tb := [(262, .iconst 0)]) (jtb_ok (by decide +kernel)) (pc' := 263) (lv' := [(11, vL s0), (0, vR t), (1, vI a1), (2, vI a2), (3, vI a3), (4, vI a4), (5, vI l5), (6, vI l6)]) (st' := [vI (kI 0), vR t]) rfl ?_
      refine j_lv (lv' := [(0, vR t), (1, vI a1), (2, vI a2), (3, vI a3), (4, vI a4), (11, vL s0)]) ⟨rfl, rfl, rfl, rfl, rfl, rfl, trivial⟩ ?_
      exact wrn_and_263 h s0 (kI 0) t W
    refine j_runA hx 1 (tb := [(258, .iconst 1)]) (jtb_ok (by decide +kernel)) (pc' := 259) (lv' := [(11, vL s0), (0, vR t), (1, vI a1), (2, vI a2), (3, vI a3), (4, vI a4), (5, vI l5), (6, vI l6)]) (st' := [vI (kI 1), vR t]) rfl ?_
    refine j_goto hx (off := 4) (by decide +kernel) (tgt := 263) (by decide) ?_
    refine j_lv (lv' := [(0, vR t), (1, vI a1), (2, vI a2), (3, vI a3), (4, vI a4), (11, vL s0)]) ⟨rfl, rfl, rfl, rfl, rfl, rfl, trivial⟩ ?_
    exact wrn_and_263 h s0 (kI 1) t W
  refine j_runA hx 2 (tb := [(237, .lload 11), (239, .lconst 0)]) (jtb_ok (by decide +kernel)) (pc' := 240) (lv' := [(11, vL s0), (0, vR t), (1, vI a1), (2, vI a2), (3, vI a3), (4, vI a4), (5, vI l5), (6, vI l6)]) (st' := [vL (kJ 0), vL s0, vR t]) rfl ?_
  refine j_lcmp_ge hx (off := 7) (tgt := 248) (by decide +kernel) (by decide +kernel) (by decide) (fun _ => ?_) (fun _ => ?_)
  · refine j_runA hx 1 (tb := [(248, .iconst 0)]) (jtb_ok (by decide +kernel)) (pc' := 249) (lv' := [(11, vL s0), (0, vR t), (1, vI a1), (2, vI a2), (3, vI a3), (4, vI a4), (5, vI l5), (6, vI l6)]) (st' := [vI (kI 0), vR t]) rfl ?_
    refine j_goto hx (off := 14) (by decide +kernel) (tgt := 263) (by decide) ?_
    refine j_lv (lv' := [(0, vR t), (1, vI a1), (2, vI a2), (3, vI a3), (4, vI a4), (11, vL s0)]) ⟨rfl, rfl, rfl, rfl, rfl, rfl, trivial⟩ ?_
    exact wrn_and_263 h s0 (kI 0) t W
  refine j_runA hx 1 (tb := [(244, .iconst 1)]) (jtb_ok (by decide +kernel)) (pc' := 245) (lv' := [(11, vL s0), (0, vR t), (1, vI a1), (2, vI a2), (3, vI a3), (4, vI a4), (5, vI l5), (6, vI l6)]) (st' := [vI (kI 1), vR t]) rfl ?_
  refine j_goto hx (off := 18) (by decide +kernel) (tgt := 263) (by decide) ?_
  refine j_lv (lv' := [(0, vR t), (1, vI a1), (2, vI a2), (3, vI a3), (4, vI a4), (11, vL s0)]) ⟨rfl, rfl, rfl, rfl, rfl, rfl, trivial⟩ ?_
  exact wrn_and_263 h s0 (kI 1) t W
theorem wrn_and_190 {x : jCx} {en : (Int32 × jW) → Option (Outcome × jW)} {t : Nat} {a1 : Int32} {a2 : Int32} {a3 : Int32} {a4 : Int32} (h : hrn_and x en t a1 a2 a3 a4) (l5 : Int32) (l6 : Int32) (l7 : Int64) (l9 : Int64) (W : jW) : jJ x 13 190 [(0, vR t), (1, vI a1), (2, vI a2), (3, vI a3), (4, vI a4), (5, vI l5), (6, vI l6), (7, vL l7), (9, vL l9)] [] W (frn_and_190 t a1 a2 a3 a4 l5 l6 l7 l9 W) en := by
  have h0 := h
  obtain ⟨hx, hm, hr, he⟩ := h0
  unfold frn_and_190
  refine j_runA hx 2 (tb := [(190, .iload 6), (192, .iconst 1)]) (jtb_ok (by decide +kernel)) (pc' := 193) (lv' := [(0, vR t), (1, vI a1), (2, vI a2), (3, vI a3), (4, vI a4), (5, vI l5), (6, vI l6), (7, vL l7), (9, vL l9)]) (st' := [vI (kI 1), vI l6]) rfl ?_
  refine j_icmp_ne hx (off := 11) (tgt := 204) (by decide +kernel) (by decide) (fun _ => ?_) (fun _ => ?_)
  · refine j_runA hx 2 (tb := [(204, .iload 6), (206, .iconst 2)]) (jtb_ok (by decide +kernel)) (pc' := 207) (lv' := [(0, vR t), (1, vI a1), (2, vI a2), (3, vI a3), (4, vI a4), (5, vI l5), (6, vI l6), (7, vL l7), (9, vL l9)]) (st' := [vI (kI 2), vI l6]) rfl ?_
    refine j_icmp_ne hx (off := 11) (tgt := 218) (by decide +kernel) (by decide) (fun _ => ?_) (fun _ => ?_)
    · refine j_runA hx 3 (tb := [(218, .lload 7), (220, .lload 9), (222, .land)]) (jtb_ok (by decide +kernel)) (pc' := 223) (lv' := [(0, vR t), (1, vI a1), (2, vI a2), (3, vI a3), (4, vI a4), (5, vI l5), (6, vI l6), (7, vL l7), (9, vL l9)]) (st' := [vL (l7 &&& l9)]) rfl ?_
      refine j_lv (lv' := [(0, vR t), (1, vI a1), (2, vI a2), (3, vI a3), (4, vI a4), (5, vI l5), (6, vI l6)]) ⟨rfl, rfl, rfl, rfl, rfl, rfl, rfl, trivial⟩ ?_
      exact wrn_and_223 h l5 l6 (l7 &&& l9) W
    refine j_runA hx 3 (tb := [(210, .lload 7), (212, .lload 9), (214, .lxor)]) (jtb_ok (by decide +kernel)) (pc' := 215) (lv' := [(0, vR t), (1, vI a1), (2, vI a2), (3, vI a3), (4, vI a4), (5, vI l5), (6, vI l6), (7, vL l7), (9, vL l9)]) (st' := [vL (l7 ^^^ l9)]) rfl ?_
    refine j_goto hx (off := 8) (by decide +kernel) (tgt := 223) (by decide) ?_
    refine j_lv (lv' := [(0, vR t), (1, vI a1), (2, vI a2), (3, vI a3), (4, vI a4), (5, vI l5), (6, vI l6)]) ⟨rfl, rfl, rfl, rfl, rfl, rfl, rfl, trivial⟩ ?_
    exact wrn_and_223 h l5 l6 (l7 ^^^ l9) W
  refine j_runA hx 3 (tb := [(196, .lload 7), (198, .lload 9), (200, .lor)]) (jtb_ok (by decide +kernel)) (pc' := 201) (lv' := [(0, vR t), (1, vI a1), (2, vI a2), (3, vI a3), (4, vI a4), (5, vI l5), (6, vI l6), (7, vL l7), (9, vL l9)]) (st' := [vL (l7 ||| l9)]) rfl ?_
  refine j_goto hx (off := 22) (by decide +kernel) (tgt := 223) (by decide) ?_
  refine j_lv (lv' := [(0, vR t), (1, vI a1), (2, vI a2), (3, vI a3), (4, vI a4), (5, vI l5), (6, vI l6)]) ⟨rfl, rfl, rfl, rfl, rfl, rfl, rfl, trivial⟩ ?_
  exact wrn_and_223 h l5 l6 (l7 ||| l9) W
theorem wrn_and_188 {x : jCx} {en : (Int32 × jW) → Option (Outcome × jW)} {t : Nat} {a1 : Int32} {a2 : Int32} {a3 : Int32} {a4 : Int32} (h : hrn_and x en t a1 a2 a3 a4) (l5 : Int32) (l6 : Int32) (l7 : Int64) (s0 : Int64) (W : jW) : jJ x 13 188 [(0, vR t), (1, vI a1), (2, vI a2), (3, vI a3), (4, vI a4), (5, vI l5), (6, vI l6), (7, vL l7)] [vL s0] W (frn_and_188 t a1 a2 a3 a4 l5 l6 l7 s0 W) en := by
  have h0 := h
  obtain ⟨hx, hm, hr, he⟩ := h0
  unfold frn_and_188
  refine j_runA hx 1 (tb := [(188, .lstore 9)]) (jtb_ok (by decide +kernel)) (pc' := 190) (lv' := [(9, vL s0), (0, vR t), (1, vI a1), (2, vI a2), (3, vI a3), (4, vI a4), (5, vI l5), (6, vI l6), (7, vL l7)]) (st' := []) rfl ?_
  refine j_lv (lv' := [(0, vR t), (1, vI a1), (2, vI a2), (3, vI a3), (4, vI a4), (5, vI l5), (6, vI l6), (7, vL l7), (9, vL s0)]) ⟨rfl, rfl, rfl, rfl, rfl, rfl, rfl, rfl, rfl, trivial⟩ ?_
  exact wrn_and_190 h l5 l6 l7 s0 W
theorem wrn_and_138 {x : jCx} {en : (Int32 × jW) → Option (Outcome × jW)} {t : Nat} {a1 : Int32} {a2 : Int32} {a3 : Int32} {a4 : Int32} (h : hrn_and x en t a1 a2 a3 a4) (l5 : Int32) (l6 : Int32) (s0 : Int64) (W : jW) : jJ x 13 138 [(0, vR t), (1, vI a1), (2, vI a2), (3, vI a3), (4, vI a4), (5, vI l5), (6, vI l6)] [vL s0] W (frn_and_138 t a1 a2 a3 a4 l5 l6 s0 W) en := by
  have h0 := h
  obtain ⟨hx, hm, hr, he⟩ := h0
  unfold frn_and_138
  refine j_runA hx 5 (tb := [(138, .lstore 7), (140, .aload_n 0), (141, .iload_n 1), (142, .aload_n 0), (143, .iload 4)]) (jtb_ok (by decide +kernel)) (pc' := 145) (lv' := [(7, vL s0), (0, vR t), (1, vI a1), (2, vI a2), (3, vI a3), (4, vI a4), (5, vI l5), (6, vI l6)]) (st' := [vI a4, vR t, vI a1, vR t]) rfl ?_
  refine j_gd (fun h15 => ?_)
  refine j_OL (j_callV (av := [vI a4]) (st := [vI a1, vR t]) hx hr (Or.inl q3419) q3421 qs195 rfl md_frn_r np_frn_r (crn_r t a4 W) (by decide) (Nat.le_of_ble_eq_true rfl) h15 (by decide) (by decide +kernel)) (fun q16 _ => ?_)
  refine j_TL (j_callV (av := [vI a1, vL q16]) (st := []) hx hr (Or.inl q3423) q3425 qs196 rfl md_frn_shifted np_frn_shifted (crn_shifted t a1 q16 W) (by decide) (Nat.le_of_ble_eq_true rfl) h15 (by decide) (by decide +kernel)) ?_
  refine j_runA hx 1 (tb := [(151, .lstore 9)]) (jtb_ok (by decide +kernel)) (pc' := 153) (lv' := [(9, vL (frn_shifted t a1 q16)), (7, vL s0), (0, vR t), (1, vI a1), (2, vI a2), (3, vI a3), (4, vI a4), (5, vI l5), (6, vI l6)]) (st' := []) rfl ?_
  refine j_let (v := (frn_shifted t a1 q16)) (lv := fun v17 => [(9, vL v17), (7, vL s0), (0, vR t), (1, vI a1), (2, vI a2), (3, vI a3), (4, vI a4), (5, vI l5), (6, vI l6)]) (st := fun _ => []) (fun v17 => ?_)
  refine j_runA hx 3 (tb := [(153, .iload_n 1), (154, .bipush 21), (156, .iconst 1)]) (jtb_ok (by decide +kernel)) (pc' := 157) (lv' := [(9, vL v17), (7, vL s0), (0, vR t), (1, vI a1), (2, vI a2), (3, vI a3), (4, vI a4), (5, vI l5), (6, vI l6)]) (st' := [vI (kI 1), vI (kI 21), vI a1]) rfl ?_
  refine j_TI (j_callS (av := [vI a1, vI (kI 21), vI (kI 1)]) (st := []) hx hr (Or.inr ⟨_, q3393⟩) q2964 q241 md_fmo_bits np_fmo_bits (cmo_bits a1 (kI 21) (kI 1) W) (by decide) (Nat.le_of_ble_eq_true rfl) (by decide +kernel)) ?_
  refine j_runA hx 1 (tb := [(160, .iconst 1)]) (jtb_ok (by decide +kernel)) (pc' := 161) (lv' := [(9, vL v17), (7, vL s0), (0, vR t), (1, vI a1), (2, vI a2), (3, vI a3), (4, vI a4), (5, vI l5), (6, vI l6)]) (st' := [vI (kI 1), vI (fmo_bits a1 (kI 21) (kI 1))]) rfl ?_
  refine j_icmp_ne hx (off := 29) (tgt := 190) (by decide +kernel) (by decide) (fun _ => ?_) (fun _ => ?_)
  · refine j_lv (lv' := [(0, vR t), (1, vI a1), (2, vI a2), (3, vI a3), (4, vI a4), (5, vI l5), (6, vI l6), (7, vL s0), (9, vL v17)]) ⟨rfl, rfl, rfl, rfl, rfl, rfl, rfl, rfl, rfl, trivial⟩ ?_
    exact wrn_and_190 h l5 l6 s0 v17 W
  refine j_runA hx 1 (tb := [(164, .iload 5)]) (jtb_ok (by decide +kernel)) (pc' := 166) (lv' := [(9, vL v17), (7, vL s0), (0, vR t), (1, vI a1), (2, vI a2), (3, vI a3), (4, vI a4), (5, vI l5), (6, vI l6)]) (st' := [vI l5]) rfl ?_
  refine j_if_eq hx (off := 12) (tgt := 178) (by decide +kernel) (by decide) (fun _ => ?_) (fun _ => ?_)
  · refine j_runA hx 1 (tb := [(178, .lload 9)]) (jtb_ok (by decide +kernel)) (pc' := 180) (lv' := [(9, vL v17), (7, vL s0), (0, vR t), (1, vI a1), (2, vI a2), (3, vI a3), (4, vI a4), (5, vI l5), (6, vI l6)]) (st' := [vL v17]) rfl ?_
    refine j_ldc2 hx (v := (kJ (-1))) (jkd2 q3370 (by decide +kernel)) (by decide +kernel) ?_
    refine j_runA hx 1 (tb := [(183, .lxor)]) (jtb_ok (by decide +kernel)) (pc' := 184) (lv' := [(9, vL v17), (7, vL s0), (0, vR t), (1, vI a1), (2, vI a2), (3, vI a3), (4, vI a4), (5, vI l5), (6, vI l6)]) (st' := [vL (v17 ^^^ (kJ (-1)))]) rfl ?_
    refine j_ldc2 hx (v := (kJ 4294967295)) (jkd2 q3406 (by decide +kernel)) (by decide +kernel) ?_
    refine j_runA hx 1 (tb := [(187, .land)]) (jtb_ok (by decide +kernel)) (pc' := 188) (lv' := [(9, vL v17), (7, vL s0), (0, vR t), (1, vI a1), (2, vI a2), (3, vI a3), (4, vI a4), (5, vI l5), (6, vI l6)]) (st' := [vL ((v17 ^^^ (kJ (-1))) &&& (kJ 4294967295))]) rfl ?_
    refine j_lv (lv' := [(0, vR t), (1, vI a1), (2, vI a2), (3, vI a3), (4, vI a4), (5, vI l5), (6, vI l6), (7, vL s0)]) ⟨rfl, rfl, rfl, rfl, rfl, rfl, rfl, rfl, trivial⟩ ?_
    exact wrn_and_188 h l5 l6 s0 ((v17 ^^^ (kJ (-1))) &&& (kJ 4294967295)) W
  refine j_runA hx 1 (tb := [(169, .lload 9)]) (jtb_ok (by decide +kernel)) (pc' := 171) (lv' := [(9, vL v17), (7, vL s0), (0, vR t), (1, vI a1), (2, vI a2), (3, vI a3), (4, vI a4), (5, vI l5), (6, vI l6)]) (st' := [vL v17]) rfl ?_
  refine j_ldc2 hx (v := (kJ (-1))) (jkd2 q3370 (by decide +kernel)) (by decide +kernel) ?_
  refine j_runA hx 1 (tb := [(174, .lxor)]) (jtb_ok (by decide +kernel)) (pc' := 175) (lv' := [(9, vL v17), (7, vL s0), (0, vR t), (1, vI a1), (2, vI a2), (3, vI a3), (4, vI a4), (5, vI l5), (6, vI l6)]) (st' := [vL (v17 ^^^ (kJ (-1)))]) rfl ?_
  refine j_goto hx (off := 13) (by decide +kernel) (tgt := 188) (by decide) ?_
  refine j_lv (lv' := [(0, vR t), (1, vI a1), (2, vI a2), (3, vI a3), (4, vI a4), (5, vI l5), (6, vI l6), (7, vL s0)]) ⟨rfl, rfl, rfl, rfl, rfl, rfl, rfl, rfl, trivial⟩ ?_
  exact wrn_and_188 h l5 l6 s0 (v17 ^^^ (kJ (-1))) W
theorem wrn_and_97 {x : jCx} {en : (Int32 × jW) → Option (Outcome × jW)} {t : Nat} {a1 : Int32} {a2 : Int32} {a3 : Int32} {a4 : Int32} (h : hrn_and x en t a1 a2 a3 a4) (l5 : Int32) (l6 : Int32) (W : jW) : jJ x 13 97 [(0, vR t), (1, vI a1), (2, vI a2), (3, vI a3), (4, vI a4), (5, vI l5), (6, vI l6)] [] W (frn_and_97 t a1 a2 a3 a4 l5 l6 W) en := by
  have h0 := h
  obtain ⟨hx, hm, hr, he⟩ := h0
  unfold frn_and_97
  refine j_runA hx 2 (tb := [(97, .aload_n 0), (98, .iload_n 3)]) (jtb_ok (by decide +kernel)) (pc' := 99) (lv' := [(0, vR t), (1, vI a1), (2, vI a2), (3, vI a3), (4, vI a4), (5, vI l5), (6, vI l6)]) (st' := [vI a3, vR t]) rfl ?_
  refine j_gd (fun h9 => ?_)
  refine j_OI (j_callV (av := [vI a3]) (st := []) hx hr (Or.inl q3415) q3417 qs194 rfl md_frn_isCode np_frn_isCode (crn_isCode t a3 W) (by decide) (Nat.le_of_ble_eq_true rfl) h9 (by decide) (by decide +kernel)) (fun q10 _ => ?_)
  refine j_if_ne hx (off := 12) (tgt := 114) (by decide +kernel) (by decide) (fun _ => ?_) (fun _ => ?_)
  · refine j_lv (lv' := [(0, vR t), (1, vI a1), (2, vI a2), (3, vI a3), (4, vI a4)]) ⟨rfl, rfl, rfl, rfl, rfl, trivial⟩ ?_
    exact wrn_and_114 h W
  refine j_runA hx 2 (tb := [(105, .aload_n 0), (106, .iload 4)]) (jtb_ok (by decide +kernel)) (pc' := 108) (lv' := [(0, vR t), (1, vI a1), (2, vI a2), (3, vI a3), (4, vI a4), (5, vI l5), (6, vI l6)]) (st' := [vI a4, vR t]) rfl ?_
  refine j_OI (j_callV (av := [vI a4]) (st := []) hx hr (Or.inl q3415) q3417 qs194 rfl md_frn_isCode np_frn_isCode (crn_isCode t a4 W) (by decide) (Nat.le_of_ble_eq_true rfl) h9 (by decide) (by decide +kernel)) (fun q11 _ => ?_)
  refine j_if_eq hx (off := 5) (tgt := 116) (by decide +kernel) (by decide) (fun _ => ?_) (fun _ => ?_)
  · refine j_runA hx 1 (tb := [(116, .iload 5)]) (jtb_ok (by decide +kernel)) (pc' := 118) (lv' := [(0, vR t), (1, vI a1), (2, vI a2), (3, vI a3), (4, vI a4), (5, vI l5), (6, vI l6)]) (st' := [vI l5]) rfl ?_
    refine j_if_eq hx (off := 11) (tgt := 129) (by decide +kernel) (by decide) (fun _ => ?_) (fun _ => ?_)
    · refine j_runA hx 2 (tb := [(129, .aload_n 0), (130, .iload_n 3)]) (jtb_ok (by decide +kernel)) (pc' := 131) (lv' := [(0, vR t), (1, vI a1), (2, vI a2), (3, vI a3), (4, vI a4), (5, vI l5), (6, vI l6)]) (st' := [vI a3, vR t]) rfl ?_
      refine j_OL (j_callV (av := [vI a3]) (st := []) hx hr (Or.inl q3419) q3421 qs195 rfl md_frn_r np_frn_r (crn_r t a3 W) (by decide) (Nat.le_of_ble_eq_true rfl) h9 (by decide) (by decide +kernel)) (fun q12 _ => ?_)
      refine j_ldc2 hx (v := (kJ 4294967295)) (jkd2 q3406 (by decide +kernel)) (by decide +kernel) ?_
      refine j_runA hx 1 (tb := [(137, .land)]) (jtb_ok (by decide +kernel)) (pc' := 138) (lv' := [(0, vR t), (1, vI a1), (2, vI a2), (3, vI a3), (4, vI a4), (5, vI l5), (6, vI l6)]) (st' := [vL (q12 &&& (kJ 4294967295))]) rfl ?_
      exact wrn_and_138 h l5 l6 (q12 &&& (kJ 4294967295)) W
    refine j_runA hx 2 (tb := [(121, .aload_n 0), (122, .iload_n 3)]) (jtb_ok (by decide +kernel)) (pc' := 123) (lv' := [(0, vR t), (1, vI a1), (2, vI a2), (3, vI a3), (4, vI a4), (5, vI l5), (6, vI l6)]) (st' := [vI a3, vR t]) rfl ?_
    refine j_OL (j_callV (av := [vI a3]) (st := []) hx hr (Or.inl q3419) q3421 qs195 rfl md_frn_r np_frn_r (crn_r t a3 W) (by decide) (Nat.le_of_ble_eq_true rfl) h9 (by decide) (by decide +kernel)) (fun q13 _ => ?_)
    refine j_goto hx (off := 12) (by decide +kernel) (tgt := 138) (by decide) ?_
    exact wrn_and_138 h l5 l6 q13 W
  refine j_lv (lv' := [(0, vR t), (1, vI a1), (2, vI a2), (3, vI a3), (4, vI a4)]) ⟨rfl, rfl, rfl, rfl, rfl, trivial⟩ ?_
  exact wrn_and_114 h W
theorem wrn_and_9 {x : jCx} {en : (Int32 × jW) → Option (Outcome × jW)} {t : Nat} {a1 : Int32} {a2 : Int32} {a3 : Int32} {a4 : Int32} (h : hrn_and x en t a1 a2 a3 a4) (s0 : Int32) (W : jW) : jJ x 13 9 [(0, vR t), (1, vI a1), (2, vI a2), (3, vI a3), (4, vI a4)] [vI s0] W (frn_and_9 t a1 a2 a3 a4 s0 W) en := by
  have h0 := h
  obtain ⟨hx, hm, hr, he⟩ := h0
  unfold frn_and_9
  refine j_runA hx 4 (tb := [(9, .istore 5), (11, .iload_n 1), (12, .bipush 29), (14, .iconst 2)]) (jtb_ok (by decide +kernel)) (pc' := 15) (lv' := [(5, vI s0), (0, vR t), (1, vI a1), (2, vI a2), (3, vI a3), (4, vI a4)]) (st' := [vI (kI 2), vI (kI 29), vI a1]) rfl ?_
  refine j_TI (j_callS (av := [vI a1, vI (kI 29), vI (kI 2)]) (st := []) hx hr (Or.inr ⟨_, q3393⟩) q2964 q241 md_fmo_bits np_fmo_bits (cmo_bits a1 (kI 29) (kI 2) W) (by decide) (Nat.le_of_ble_eq_true rfl) (by decide +kernel)) ?_
  refine j_runA hx 1 (tb := [(18, .istore 6)]) (jtb_ok (by decide +kernel)) (pc' := 20) (lv' := [(6, vI (fmo_bits a1 (kI 29) (kI 2))), (5, vI s0), (0, vR t), (1, vI a1), (2, vI a2), (3, vI a3), (4, vI a4)]) (st' := []) rfl ?_
  refine j_let (v := (fmo_bits a1 (kI 29) (kI 2))) (lv := fun v2 => [(6, vI v2), (5, vI s0), (0, vR t), (1, vI a1), (2, vI a2), (3, vI a3), (4, vI a4)]) (st := fun _ => []) (fun v2 => ?_)
  refine j_runA hx 1 (tb := [(20, .aload_n 0)]) (jtb_ok (by decide +kernel)) (pc' := 21) (lv' := [(6, vI v2), (5, vI s0), (0, vR t), (1, vI a1), (2, vI a2), (3, vI a3), (4, vI a4)]) (st' := [vR t]) rfl ?_
  refine j_gd (fun h3 => ?_)
  refine j_getI hx flX11_46 kd1601 h3 (by decide) (by decide +kernel) ?_
  refine j_runA hx 1 (tb := [(24, .iconst 1)]) (jtb_ok (by decide +kernel)) (pc' := 25) (lv' := [(6, vI v2), (5, vI s0), (0, vR t), (1, vI a1), (2, vI a2), (3, vI a3), (4, vI a4)]) (st' := [vI (kI 1), vI (jI W 1601 t)]) rfl ?_
  refine j_icmp_ne hx (off := 72) (tgt := 97) (by decide +kernel) (by decide) (fun _ => ?_) (fun _ => ?_)
  · refine j_lv (lv' := [(0, vR t), (1, vI a1), (2, vI a2), (3, vI a3), (4, vI a4), (5, vI s0), (6, vI v2)]) ⟨rfl, rfl, rfl, rfl, rfl, rfl, rfl, trivial⟩ ?_
    exact wrn_and_97 h s0 v2 W
  refine j_runA hx 2 (tb := [(28, .iload_n 3), (29, .bipush 31)]) (jtb_ok (by decide +kernel)) (pc' := 31) (lv' := [(6, vI v2), (5, vI s0), (0, vR t), (1, vI a1), (2, vI a2), (3, vI a3), (4, vI a4)]) (st' := [vI (kI 31), vI a3]) rfl ?_
  refine j_icmp_ne hx (off := 66) (tgt := 97) (by decide +kernel) (by decide) (fun _ => ?_) (fun _ => ?_)
  · refine j_lv (lv' := [(0, vR t), (1, vI a1), (2, vI a2), (3, vI a3), (4, vI a4), (5, vI s0), (6, vI v2)]) ⟨rfl, rfl, rfl, rfl, rfl, rfl, rfl, trivial⟩ ?_
    exact wrn_and_97 h s0 v2 W
  refine j_runA hx 1 (tb := [(34, .iload 5)]) (jtb_ok (by decide +kernel)) (pc' := 36) (lv' := [(6, vI v2), (5, vI s0), (0, vR t), (1, vI a1), (2, vI a2), (3, vI a3), (4, vI a4)]) (st' := [vI s0]) rfl ?_
  refine j_if_eq hx (off := 61) (tgt := 97) (by decide +kernel) (by decide) (fun _ => ?_) (fun _ => ?_)
  · refine j_lv (lv' := [(0, vR t), (1, vI a1), (2, vI a2), (3, vI a3), (4, vI a4), (5, vI s0), (6, vI v2)]) ⟨rfl, rfl, rfl, rfl, rfl, rfl, rfl, trivial⟩ ?_
    exact wrn_and_97 h s0 v2 W
  refine j_runA hx 2 (tb := [(39, .iload 6), (41, .iconst 1)]) (jtb_ok (by decide +kernel)) (pc' := 42) (lv' := [(6, vI v2), (5, vI s0), (0, vR t), (1, vI a1), (2, vI a2), (3, vI a3), (4, vI a4)]) (st' := [vI (kI 1), vI v2]) rfl ?_
  refine j_icmp_ne hx (off := 55) (tgt := 97) (by decide +kernel) (by decide) (fun _ => ?_) (fun _ => ?_)
  · refine j_lv (lv' := [(0, vR t), (1, vI a1), (2, vI a2), (3, vI a3), (4, vI a4), (5, vI s0), (6, vI v2)]) ⟨rfl, rfl, rfl, rfl, rfl, rfl, rfl, trivial⟩ ?_
    exact wrn_and_97 h s0 v2 W
  refine j_runA hx 3 (tb := [(45, .iload_n 1), (46, .bipush 10), (48, .bipush 6)]) (jtb_ok (by decide +kernel)) (pc' := 50) (lv' := [(6, vI v2), (5, vI s0), (0, vR t), (1, vI a1), (2, vI a2), (3, vI a3), (4, vI a4)]) (st' := [vI (kI 6), vI (kI 10), vI a1]) rfl ?_
  refine j_TI (j_callS (av := [vI a1, vI (kI 10), vI (kI 6)]) (st := []) hx hr (Or.inr ⟨_, q3393⟩) q2964 q241 md_fmo_bits np_fmo_bits (cmo_bits a1 (kI 10) (kI 6) W) (by decide) (Nat.le_of_ble_eq_true rfl) (by decide +kernel)) ?_
  refine j_if_ne hx (off := 44) (tgt := 97) (by decide +kernel) (by decide) (fun _ => ?_) (fun _ => ?_)
  · refine j_lv (lv' := [(0, vR t), (1, vI a1), (2, vI a2), (3, vI a3), (4, vI a4), (5, vI s0), (6, vI v2)]) ⟨rfl, rfl, rfl, rfl, rfl, rfl, rfl, trivial⟩ ?_
    exact wrn_and_97 h s0 v2 W
  refine j_runA hx 3 (tb := [(56, .iload_n 1), (57, .bipush 21), (59, .iconst 1)]) (jtb_ok (by decide +kernel)) (pc' := 60) (lv' := [(6, vI v2), (5, vI s0), (0, vR t), (1, vI a1), (2, vI a2), (3, vI a3), (4, vI a4)]) (st' := [vI (kI 1), vI (kI 21), vI a1]) rfl ?_
  refine j_TI (j_callS (av := [vI a1, vI (kI 21), vI (kI 1)]) (st := []) hx hr (Or.inr ⟨_, q3393⟩) q2964 q241 md_fmo_bits np_fmo_bits (cmo_bits a1 (kI 21) (kI 1) W) (by decide) (Nat.le_of_ble_eq_true rfl) (by decide +kernel)) ?_
  refine j_if_ne hx (off := 34) (tgt := 97) (by decide +kernel) (by decide) (fun _ => ?_) (fun _ => ?_)
  · refine j_lv (lv' := [(0, vR t), (1, vI a1), (2, vI a2), (3, vI a3), (4, vI a4), (5, vI s0), (6, vI v2)]) ⟨rfl, rfl, rfl, rfl, rfl, rfl, rfl, trivial⟩ ?_
    exact wrn_and_97 h s0 v2 W
  refine j_runA hx 2 (tb := [(66, .aload_n 0), (67, .iload 4)]) (jtb_ok (by decide +kernel)) (pc' := 69) (lv' := [(6, vI v2), (5, vI s0), (0, vR t), (1, vI a1), (2, vI a2), (3, vI a3), (4, vI a4)]) (st' := [vI a4, vR t]) rfl ?_
  refine j_OI (j_callV (av := [vI a4]) (st := []) hx hr (Or.inl q3415) q3417 qs194 rfl md_frn_isCode np_frn_isCode (crn_isCode t a4 W) (by decide) (Nat.le_of_ble_eq_true rfl) h3 (by decide) (by decide +kernel)) (fun q4 _ => ?_)
  refine j_if_eq hx (off := 25) (tgt := 97) (by decide +kernel) (by decide) (fun _ => ?_) (fun _ => ?_)
  · refine j_lv (lv' := [(0, vR t), (1, vI a1), (2, vI a2), (3, vI a3), (4, vI a4), (5, vI s0), (6, vI v2)]) ⟨rfl, rfl, rfl, rfl, rfl, rfl, rfl, trivial⟩ ?_
    exact wrn_and_97 h s0 v2 W
  refine j_runA hx 1 (tb := [(75, .aload_n 0)]) (jtb_ok (by decide +kernel)) (pc' := 76) (lv' := [(6, vI v2), (5, vI s0), (0, vR t), (1, vI a1), (2, vI a2), (3, vI a3), (4, vI a4)]) (st' := [vR t]) rfl ?_
  refine j_getR hx flX11_15 kl1604 h3 (by decide) (by decide +kernel) ?_
  refine j_runA hx 1 (tb := [(79, .iload 4)]) (jtb_ok (by decide +kernel)) (pc' := 81) (lv' := [(6, vI v2), (5, vI s0), (0, vR t), (1, vI a1), (2, vI a2), (3, vI a3), (4, vI a4)]) (st' := [vI a4, vR (jR W 1604 t)]) rfl ?_
  refine j_gd (fun h5 => ?_)
  refine j_bald hx (f := 1604) (o := t) kd1604 rfl (by decide +kernel) h5 ?_
  refine j_runA hx 1 (tb := [(82, .iconst 3)]) (jtb_ok (by decide +kernel)) (pc' := 83) (lv' := [(6, vI v2), (5, vI s0), (0, vR t), (1, vI a1), (2, vI a2), (3, vI a3), (4, vI a4)]) (st' := [vI (kI 3), vI (jA W 1604 t (ix a4))]) rfl ?_
  refine j_icmp_ne hx (off := 5) (tgt := 88) (by decide +kernel) (by decide) (fun _ => ?_) (fun _ => ?_)
  · refine j_runA hx 3 (tb := [(88, .aload_n 0), (89, .iload_n 2), (90, .iload 4)]) (jtb_ok (by decide +kernel)) (pc' := 92) (lv' := [(6, vI v2), (5, vI s0), (0, vR t), (1, vI a1), (2, vI a2), (3, vI a3), (4, vI a4)]) (st' := [vI a4, vI a2, vR t]) rfl ?_
    refine j_WV (j_callV (av := [vI a2, vI a4]) (st := []) hx hr (Or.inl q3435) q3437 qs199 rfl md_frn_copy np_frn_copy (crn_copy t a2 a4 W) (by decide) (Nat.le_of_ble_eq_true rfl) h3 (by decide) (by decide +kernel)) (fun q6 _ => ?_)
    refine j_runA hx 1 (tb := [(95, .iconst (-1))]) (jtb_ok (by decide +kernel)) (pc' := 96) (lv' := [(6, vI v2), (5, vI s0), (0, vR t), (1, vI a1), (2, vI a2), (3, vI a3), (4, vI a4)]) (st' := [vI (kI (-1))]) rfl ?_
    exact j_iret hx hm (by decide +kernel) rfl (he _)
  refine j_runA hx 1 (tb := [(86, .iconst 3)]) (jtb_ok (by decide +kernel)) (pc' := 87) (lv' := [(6, vI v2), (5, vI s0), (0, vR t), (1, vI a1), (2, vI a2), (3, vI a3), (4, vI a4)]) (st' := [vI (kI 3)]) rfl ?_
  exact j_iret hx hm (by decide +kernel) rfl (he _)
theorem wrn_and {x : jCx} {en : (Int32 × jW) → Option (Outcome × jW)} {t : Nat} {a1 : Int32} {a2 : Int32} {a3 : Int32} {a4 : Int32} (h : hrn_and x en t a1 a2 a3 a4) (W : jW) : jJ x 13 0 [(0, vR t), (1, vI a1), (2, vI a2), (3, vI a3), (4, vI a4)] [] W (frn_and t a1 a2 a3 a4 W) en := by
  have h0 := h
  obtain ⟨hx, hm, hr, he⟩ := h0
  unfold frn_and
  refine j_runA hx 1 (tb := [(0, .iload_n 1)]) (jtb_ok (by decide +kernel)) (pc' := 1) (lv' := [(0, vR t), (1, vI a1), (2, vI a2), (3, vI a3), (4, vI a4)]) (st' := [vI a1]) rfl ?_
  refine j_if_ge hx (off := 7) (tgt := 8) (by decide +kernel) (by decide) (fun _ => ?_) (fun _ => ?_)
  · refine j_runA hx 1 (tb := [(8, .iconst 0)]) (jtb_ok (by decide +kernel)) (pc' := 9) (lv' := [(0, vR t), (1, vI a1), (2, vI a2), (3, vI a3), (4, vI a4)]) (st' := [vI (kI 0)]) rfl ?_
    exact wrn_and_9 h (kI 0) W
  refine j_runA hx 1 (tb := [(4, .iconst 1)]) (jtb_ok (by decide +kernel)) (pc' := 5) (lv' := [(0, vR t), (1, vI a1), (2, vI a2), (3, vI a3), (4, vI a4)]) (st' := [vI (kI 1)]) rfl ?_
  refine j_goto hx (off := 4) (by decide +kernel) (tgt := 9) (by decide) ?_
  exact wrn_and_9 h (kI 1) W
theorem crn_and (t : Nat) (a1 : Int32) (a2 : Int32) (a3 : Int32) (a4 : Int32) (W : jW) : jM yX11_and cX11_and 13 (Option.some Jvm.ClassFile.FieldType.int) [] 2 33 [vR t, vI a1, vI a2, vI a3, vI a4] W ((frn_and t a1 a2 a3 a4 W).bind (fun q => some (.returned (some (.int q.1)), q.2))) := 
  jM.of (Nat.le_of_ble_eq_true rfl) (fun x hx hm hr => wrn_and ⟨hx, hm, hr, fun _ => rfl⟩ W)
def hrn_move (x : jCx) (en : (Int32 × jW) → Option (Outcome × jW)) (t : Nat) (a1 : Int32) (a2 : Int32) : Prop :=
  jOK x RX11 cX11_move 7 ∧
  jMt x "move" (Option.some Jvm.ClassFile.FieldType.int) [] ∧
  jRm x 1 15 ∧
  (∀ q : Int32 × jW, en q = some (.returned (some (.int q.1)), q.2))
theorem wrn_move_101 {x : jCx} {en : (Int32 × jW) → Option (Outcome × jW)} {t : Nat} {a1 : Int32} {a2 : Int32} (h : hrn_move x en t a1 a2) (s0 : Int64) (s1 : Int32) (s2 : Nat) (W : jW) : jJ x 7 101 [(0, vR t), (1, vI a1), (2, vI a2)] [vL s0, vI s1, vR s2] W (frn_move_101 t a1 a2 s0 s1 s2 W) en := by
  have h0 := h
  obtain ⟨hx, hm, hr, he⟩ := h0
  unfold frn_move_101
  refine j_gd (fun h11 => ?_)
  refine j_WV (j_callV (av := [vI s1, vL s0]) (st := []) hx hr (Or.inl q3427) q3429 qs197 rfl md_frn_set np_frn_set (crn_set s2 s1 s0 W) (by decide) (Nat.le_of_ble_eq_true rfl) h11 (by decide) (by decide +kernel)) (fun q12 _ => ?_)
  refine j_runA hx 1 (tb := [(104, .iconst (-1))]) (jtb_ok (by decide +kernel)) (pc' := 105) (lv' := [(0, vR t), (1, vI a1), (2, vI a2)]) (st' := [vI (kI (-1))]) rfl ?_
  exact j_iret hx hm (by decide +kernel) rfl (he _)
theorem wrn_move_84 {x : jCx} {en : (Int32 × jW) → Option (Outcome × jW)} {t : Nat} {a1 : Int32} {a2 : Int32} (h : hrn_move x en t a1 a2) (l4 : Int64) (W : jW) : jJ x 7 84 [(0, vR t), (1, vI a1), (2, vI a2), (4, vL l4)] [] W (frn_move_84 t a1 a2 l4 W) en := by
  have h0 := h
  obtain ⟨hx, hm, hr, he⟩ := h0
  unfold frn_move_84
  refine j_runA hx 3 (tb := [(84, .aload_n 0), (85, .iload_n 2), (86, .iload_n 1)]) (jtb_ok (by decide +kernel)) (pc' := 87) (lv' := [(0, vR t), (1, vI a1), (2, vI a2), (4, vL l4)]) (st' := [vI a1, vI a2, vR t]) rfl ?_
  refine j_if_ge hx (off := 8) (tgt := 95) (by decide +kernel) (by decide) (fun _ => ?_) (fun _ => ?_)
  · refine j_runA hx 1 (tb := [(95, .lload 4)]) (jtb_ok (by decide +kernel)) (pc' := 97) (lv' := [(0, vR t), (1, vI a1), (2, vI a2), (4, vL l4)]) (st' := [vL l4, vI a2, vR t]) rfl ?_
    refine j_ldc2 hx (v := (kJ 4294967295)) (jkd2 q3406 (by decide +kernel)) (by decide +kernel) ?_
    refine j_runA hx 1 (tb := [(100, .land)]) (jtb_ok (by decide +kernel)) (pc' := 101) (lv' := [(0, vR t), (1, vI a1), (2, vI a2), (4, vL l4)]) (st' := [vL (l4 &&& (kJ 4294967295)), vI a2, vR t]) rfl ?_
    refine j_lv (lv' := [(0, vR t), (1, vI a1), (2, vI a2)]) ⟨rfl, rfl, rfl, trivial⟩ ?_
    exact wrn_move_101 h (l4 &&& (kJ 4294967295)) a2 t W
  refine j_runA hx 1 (tb := [(90, .lload 4)]) (jtb_ok (by decide +kernel)) (pc' := 92) (lv' := [(0, vR t), (1, vI a1), (2, vI a2), (4, vL l4)]) (st' := [vL l4, vI a2, vR t]) rfl ?_
  refine j_goto hx (off := 9) (by decide +kernel) (tgt := 101) (by decide) ?_
  refine j_lv (lv' := [(0, vR t), (1, vI a1), (2, vI a2)]) ⟨rfl, rfl, rfl, trivial⟩ ?_
  exact wrn_move_101 h l4 a2 t W
theorem wrn_move {x : jCx} {en : (Int32 × jW) → Option (Outcome × jW)} {t : Nat} {a1 : Int32} {a2 : Int32} (h : hrn_move x en t a1 a2) (W : jW) : jJ x 7 0 [(0, vR t), (1, vI a1), (2, vI a2)] [] W (frn_move t a1 a2 W) en := by
  have h0 := h
  obtain ⟨hx, hm, hr, he⟩ := h0
  unfold frn_move
  refine j_runA hx 4 (tb := [(0, .bipush 16), (2, .iload_n 1), (3, .bipush 21), (5, .iconst 2)]) (jtb_ok (by decide +kernel)) (pc' := 6) (lv' := [(0, vR t), (1, vI a1), (2, vI a2)]) (st' := [vI (kI 2), vI (kI 21), vI a1, vI (kI 16)]) rfl ?_
  refine j_TI (j_callS (av := [vI a1, vI (kI 21), vI (kI 2)]) (st := [vI (kI 16)]) hx hr (Or.inr ⟨_, q3393⟩) q2964 q241 md_fmo_bits np_fmo_bits (cmo_bits a1 (kI 21) (kI 2) W) (by decide) (Nat.le_of_ble_eq_true rfl) (by decide +kernel)) ?_
  refine j_runA hx 2 (tb := [(9, .imul), (10, .istore_n 3)]) (jtb_ok (by decide +kernel)) (pc' := 11) (lv' := [(3, vI ((kI 16) * (fmo_bits a1 (kI 21) (kI 2)))), (0, vR t), (1, vI a1), (2, vI a2)]) (st' := []) rfl ?_
  refine j_let (v := ((kI 16) * (fmo_bits a1 (kI 21) (kI 2)))) (lv := fun v1 => [(3, vI v1), (0, vR t), (1, vI a1), (2, vI a2)]) (st := fun _ => []) (fun v1 => ?_)
  refine j_runA hx 3 (tb := [(11, .iload_n 1), (12, .iconst 5), (13, .bipush 16)]) (jtb_ok (by decide +kernel)) (pc' := 15) (lv' := [(3, vI v1), (0, vR t), (1, vI a1), (2, vI a2)]) (st' := [vI (kI 16), vI (kI 5), vI a1]) rfl ?_
  refine j_TI (j_callS (av := [vI a1, vI (kI 5), vI (kI 16)]) (st := []) hx hr (Or.inr ⟨_, q3393⟩) q2964 q241 md_fmo_bits np_fmo_bits (cmo_bits a1 (kI 5) (kI 16) W) (by decide) (Nat.le_of_ble_eq_true rfl) (by decide +kernel)) ?_
  refine j_runA hx 4 (tb := [(18, .i2l), (19, .iload_n 3), (20, .lshl), (21, .lstore 4)]) (jtb_ok (by decide +kernel)) (pc' := 23) (lv' := [(4, vL (lxl ((fmo_bits a1 (kI 5) (kI 16)).toInt64) v1)), (3, vI v1), (0, vR t), (1, vI a1), (2, vI a2)]) (st' := []) rfl ?_
  refine j_let (v := (lxl ((fmo_bits a1 (kI 5) (kI 16)).toInt64) v1)) (lv := fun v2 => [(4, vL v2), (3, vI v1), (0, vR t), (1, vI a1), (2, vI a2)]) (st := fun _ => []) (fun v2 => ?_)
  refine j_runA hx 3 (tb := [(23, .iload_n 1), (24, .bipush 29), (26, .iconst 2)]) (jtb_ok (by decide +kernel)) (pc' := 27) (lv' := [(4, vL v2), (3, vI v1), (0, vR t), (1, vI a1), (2, vI a2)]) (st' := [vI (kI 2), vI (kI 29), vI a1]) rfl ?_
  refine j_TI (j_callS (av := [vI a1, vI (kI 29), vI (kI 2)]) (st := []) hx hr (Or.inr ⟨_, q3393⟩) q2964 q241 md_fmo_bits np_fmo_bits (cmo_bits a1 (kI 29) (kI 2) W) (by decide) (Nat.le_of_ble_eq_true rfl) (by decide +kernel)) ?_
  refine j_runA hx 1 (tb := [(30, .istore 6)]) (jtb_ok (by decide +kernel)) (pc' := 32) (lv' := [(6, vI (fmo_bits a1 (kI 29) (kI 2))), (4, vL v2), (3, vI v1), (0, vR t), (1, vI a1), (2, vI a2)]) (st' := []) rfl ?_
  refine j_let (v := (fmo_bits a1 (kI 29) (kI 2))) (lv := fun v3 => [(6, vI v3), (4, vL v2), (3, vI v1), (0, vR t), (1, vI a1), (2, vI a2)]) (st := fun _ => []) (fun v3 => ?_)
  refine j_runA hx 2 (tb := [(32, .iload 6), (34, .iconst 3)]) (jtb_ok (by decide +kernel)) (pc' := 35) (lv' := [(6, vI v3), (4, vL v2), (3, vI v1), (0, vR t), (1, vI a1), (2, vI a2)]) (st' := [vI (kI 3), vI v3]) rfl ?_
  refine j_icmp_ne hx (off := 36) (tgt := 71) (by decide +kernel) (by decide) (fun _ => ?_) (fun _ => ?_)
  · refine j_runA hx 1 (tb := [(71, .iload 6)]) (jtb_ok (by decide +kernel)) (pc' := 73) (lv' := [(6, vI v3), (4, vL v2), (3, vI v1), (0, vR t), (1, vI a1), (2, vI a2)]) (st' := [vI v3]) rfl ?_
    refine j_if_ne hx (off := 11) (tgt := 84) (by decide +kernel) (by decide) (fun _ => ?_) (fun _ => ?_)
    · refine j_lv (lv' := [(0, vR t), (1, vI a1), (2, vI a2), (4, vL v2)]) ⟨rfl, rfl, rfl, rfl, trivial⟩ ?_
      exact wrn_move_84 h v2 W
    refine j_runA hx 1 (tb := [(76, .lload 4)]) (jtb_ok (by decide +kernel)) (pc' := 78) (lv' := [(6, vI v3), (4, vL v2), (3, vI v1), (0, vR t), (1, vI a1), (2, vI a2)]) (st' := [vL v2]) rfl ?_
    refine j_ldc2 hx (v := (kJ (-1))) (jkd2 q3370 (by decide +kernel)) (by decide +kernel) ?_
    refine j_runA hx 2 (tb := [(81, .lxor), (82, .lstore 4)]) (jtb_ok (by decide +kernel)) (pc' := 84) (lv' := [(4, vL (v2 ^^^ (kJ (-1)))), (6, vI v3), (3, vI v1), (0, vR t), (1, vI a1), (2, vI a2)]) (st' := []) rfl ?_
    refine j_let (v := (v2 ^^^ (kJ (-1)))) (lv := fun v4 => [(4, vL v4), (6, vI v3), (3, vI v1), (0, vR t), (1, vI a1), (2, vI a2)]) (st := fun _ => []) (fun v4 => ?_)
    refine j_lv (lv' := [(0, vR t), (1, vI a1), (2, vI a2), (4, vL v4)]) ⟨rfl, rfl, rfl, rfl, trivial⟩ ?_
    exact wrn_move_84 h v4 W
  refine j_runA hx 2 (tb := [(38, .aload_n 0), (39, .iload_n 2)]) (jtb_ok (by decide +kernel)) (pc' := 40) (lv' := [(6, vI v3), (4, vL v2), (3, vI v1), (0, vR t), (1, vI a1), (2, vI a2)]) (st' := [vI a2, vR t]) rfl ?_
  refine j_gd (fun h5 => ?_)
  refine j_OI (j_callV (av := [vI a2]) (st := []) hx hr (Or.inl q3415) q3417 qs194 rfl md_frn_isCode np_frn_isCode (crn_isCode t a2 W) (by decide) (Nat.le_of_ble_eq_true rfl) h5 (by decide) (by decide +kernel)) (fun q6 _ => ?_)
  refine j_if_eq hx (off := 5) (tgt := 48) (by decide +kernel) (by decide) (fun _ => ?_) (fun _ => ?_)
  · refine j_runA hx 2 (tb := [(48, .aload_n 0), (49, .iload_n 2)]) (jtb_ok (by decide +kernel)) (pc' := 50) (lv' := [(6, vI v3), (4, vL v2), (3, vI v1), (0, vR t), (1, vI a1), (2, vI a2)]) (st' := [vI a2, vR t]) rfl ?_
    refine j_OL (j_callV (av := [vI a2]) (st := []) hx hr (Or.inl q3419) q3421 qs195 rfl md_frn_r np_frn_r (crn_r t a2 W) (by decide) (Nat.le_of_ble_eq_true rfl) h5 (by decide) (by decide +kernel)) (fun q7 _ => ?_)
    refine j_ldc2 hx (v := (kJ 65535)) (jkd2 q3443 (by decide +kernel)) (by decide +kernel) ?_
    refine j_runA hx 2 (tb := [(56, .iload_n 3), (57, .lshl)]) (jtb_ok (by decide +kernel)) (pc' := 58) (lv' := [(6, vI v3), (4, vL v2), (3, vI v1), (0, vR t), (1, vI a1), (2, vI a2)]) (st' := [vL (lxl (kJ 65535) v1), vL q7]) rfl ?_
    refine j_ldc2 hx (v := (kJ (-1))) (jkd2 q3370 (by decide +kernel)) (by decide +kernel) ?_
    refine j_runA hx 5 (tb := [(61, .lxor), (62, .land), (63, .lload 4), (65, .lor), (66, .lstore 4)]) (jtb_ok (by decide +kernel)) (pc' := 68) (lv' := [(4, vL ((q7 &&& ((lxl (kJ 65535) v1) ^^^ (kJ (-1)))) ||| v2)), (6, vI v3), (3, vI v1), (0, vR t), (1, vI a1), (2, vI a2)]) (st' := []) rfl ?_
    refine j_let (v := ((q7 &&& ((lxl (kJ 65535) v1) ^^^ (kJ (-1)))) ||| v2)) (lv := fun v8 => [(4, vL v8), (6, vI v3), (3, vI v1), (0, vR t), (1, vI a1), (2, vI a2)]) (st := fun _ => []) (fun v8 => ?_)
    refine j_goto hx (off := 16) (by decide +kernel) (tgt := 84) (by decide) ?_
    refine j_lv (lv' := [(0, vR t), (1, vI a1), (2, vI a2), (4, vL v8)]) ⟨rfl, rfl, rfl, rfl, trivial⟩ ?_
    exact wrn_move_84 h v8 W
  refine j_runA hx 1 (tb := [(46, .iconst 3)]) (jtb_ok (by decide +kernel)) (pc' := 47) (lv' := [(6, vI v3), (4, vL v2), (3, vI v1), (0, vR t), (1, vI a1), (2, vI a2)]) (st' := [vI (kI 3)]) rfl ?_
  exact j_iret hx hm (by decide +kernel) rfl (he _)
theorem crn_move (t : Nat) (a1 : Int32) (a2 : Int32) (W : jW) : jM yX11_move cX11_move 7 (Option.some Jvm.ClassFile.FieldType.int) [] 1 15 [vR t, vI a1, vI a2] W ((frn_move t a1 a2 W).bind (fun q => some (.returned (some (.int q.1)), q.2))) := 
  jM.of (Nat.le_of_ble_eq_true rfl) (fun x hx hm hr => wrn_move ⟨hx, hm, hr, fun _ => rfl⟩ W)
def hmo_page (x : jCx) (en : (Int64) → Option (Outcome × jW)) (a0 : Int32) (a1 : Int64) (W : jW) : Prop :=
  jOK x RX8 cX8_page 3 ∧
  jMt x "page" (Option.some Jvm.ClassFile.FieldType.long) [] ∧
  jRm x 1 18 ∧
  (∀ q : Int64, en q = some (.returned (some (.long q)), W))
theorem wmo_page {x : jCx} {en : (Int64) → Option (Outcome × jW)} {W : jW} {a0 : Int32} {a1 : Int64} (h : hmo_page x en a0 a1 W) : jJ x 3 0 [(0, vI a0), (1, vL a1)] [] W (some (fmo_page a0 a1)) en := by
  have h0 := h
  obtain ⟨hx, hm, hr, he⟩ := h0
  unfold fmo_page
  refine j_runA hx 1 (tb := [(0, .lload_n 1)]) (jtb_ok (by decide +kernel)) (pc' := 1) (lv' := [(0, vI a0), (1, vL a1)]) (st' := [vL a1]) rfl ?_
  refine j_ldc2 hx (v := (kJ (-4096))) (jkd2 q3025 (by decide +kernel)) (by decide +kernel) ?_
  refine j_runA hx 4 (tb := [(4, .land), (5, .iload_n 0), (6, .iconst 5), (7, .bipush 19)]) (jtb_ok (by decide +kernel)) (pc' := 9) (lv' := [(0, vI a0), (1, vL a1)]) (st' := [vI (kI 19), vI (kI 5), vI a0, vL (a1 &&& (kJ (-4096)))]) rfl ?_
  refine j_TI (j_callS (av := [vI a0, vI (kI 5), vI (kI 19)]) (st := [vL (a1 &&& (kJ (-4096)))]) hx hr (Or.inl q3026) q3027 q241 md_fmo_signed np_fmo_signed (cmo_signed a0 (kI 5) (kI 19) W) (by decide) (Nat.le_of_ble_eq_true rfl) (by decide +kernel)) ?_
  refine j_runA hx 1 (tb := [(12, .i2l)]) (jtb_ok (by decide +kernel)) (pc' := 13) (lv' := [(0, vI a0), (1, vL a1)]) (st' := [vL ((fmo_signed a0 (kI 5) (kI 19)).toInt64), vL (a1 &&& (kJ (-4096)))]) rfl ?_
  refine j_ldc2 hx (v := (kJ 4)) (jkd2 q2931 (by decide +kernel)) (by decide +kernel) ?_
  refine j_runA hx 4 (tb := [(16, .lmul), (17, .iload_n 0), (18, .bipush 29), (20, .iconst 2)]) (jtb_ok (by decide +kernel)) (pc' := 21) (lv' := [(0, vI a0), (1, vL a1)]) (st' := [vI (kI 2), vI (kI 29), vI a0, vL (((fmo_signed a0 (kI 5) (kI 19)).toInt64) * (kJ 4)), vL (a1 &&& (kJ (-4096)))]) rfl ?_
  refine j_TI (j_callS (av := [vI a0, vI (kI 29), vI (kI 2)]) (st := [vL (((fmo_signed a0 (kI 5) (kI 19)).toInt64) * (kJ 4)), vL (a1 &&& (kJ (-4096)))]) hx hr (Or.inl q2963) q2964 q241 md_fmo_bits np_fmo_bits (cmo_bits a0 (kI 29) (kI 2) W) (by decide) (Nat.le_of_ble_eq_true rfl) (by decide +kernel)) ?_
  refine j_runA hx 2 (tb := [(24, .i2l), (25, .ladd)]) (jtb_ok (by decide +kernel)) (pc' := 26) (lv' := [(0, vI a0), (1, vL a1)]) (st' := [vL ((((fmo_signed a0 (kI 5) (kI 19)).toInt64) * (kJ 4)) + ((fmo_bits a0 (kI 29) (kI 2)).toInt64)), vL (a1 &&& (kJ (-4096)))]) rfl ?_
  refine j_ldc2 hx (v := (kJ 4096)) (jkd2 q3029 (by decide +kernel)) (by decide +kernel) ?_
  refine j_runA hx 2 (tb := [(29, .lmul), (30, .ladd)]) (jtb_ok (by decide +kernel)) (pc' := 31) (lv' := [(0, vI a0), (1, vL a1)]) (st' := [vL ((a1 &&& (kJ (-4096))) + (((((fmo_signed a0 (kI 5) (kI 19)).toInt64) * (kJ 4)) + ((fmo_bits a0 (kI 29) (kI 2)).toInt64)) * (kJ 4096)))]) rfl ?_
  exact j_lret hx hm (by decide +kernel) (he _)
theorem cmo_page (a0 : Int32) (a1 : Int64) (W : jW) : jM yX8_page cX8_page 3 (Option.some Jvm.ClassFile.FieldType.long) [] 1 18 [vI a0, vL a1] W (some (.returned (some (.long (fmo_page a0 a1))), W)) := 
  jM.of (mm := some (fmo_page a0 a1)) (en := fun q => some (.returned (some (.long q)), W)) (Nat.le_of_ble_eq_true rfl) (fun x hx hm hr => wmo_page ⟨hx, hm, hr, fun _ => rfl⟩)
def hrn_adrp (x : jCx) (en : (jW) → Option (Outcome × jW)) (t : Nat) (a1 : Int32) (a2 : Int32) (a3 : Int32) : Prop :=
  jOK x RX11 cX11_adrp 6 ∧
  jMt x "adrp" (Option.none : Option Jvm.ClassFile.FieldType) [] ∧
  jRm x 2 34 ∧
  (∀ q : jW, en q = some (.returned none, q))
theorem wrn_adrp_77 {x : jCx} {en : (jW) → Option (Outcome × jW)} {t : Nat} {a1 : Int32} {a2 : Int32} {a3 : Int32} (h : hrn_adrp x en t a1 a2 a3) (W : jW) : jJ x 6 77 [(0, vR t), (1, vI a1), (2, vI a2), (3, vI a3)] [] W (frn_adrp_77 t a1 a2 a3 W) en := by
  have h0 := h
  obtain ⟨hx, hm, hr, he⟩ := h0
  unfold frn_adrp_77
  refine j_runA hx 4 (tb := [(77, .aload_n 0), (78, .iload_n 2), (79, .iload_n 1), (80, .aload_n 0)]) (jtb_ok (by decide +kernel)) (pc' := 81) (lv' := [(0, vR t), (1, vI a1), (2, vI a2), (3, vI a3)]) (st' := [vR t, vI a1, vI a2, vR t]) rfl ?_
  refine j_gd (fun h11 => ?_)
  refine j_getL hx flX11_107 kd1623 h11 (by decide) (by decide +kernel) ?_
  refine j_TL (j_callS (av := [vI a1, vL (jL W 1623 t)]) (st := [vI a2, vR t]) hx hr (Or.inr ⟨_, q3448⟩) q3023 q241 md_fmo_page np_fmo_page (cmo_page a1 (jL W 1623 t) W) (by decide) (Nat.le_of_ble_eq_true rfl) (by decide +kernel)) ?_
  refine j_WV (j_callV (av := [vI a2, vL (fmo_page a1 (jL W 1623 t))]) (st := []) hx hr (Or.inl q3427) q3429 qs197 rfl md_frn_set np_frn_set (crn_set t a2 (fmo_page a1 (jL W 1623 t)) W) (by decide) (Nat.le_of_ble_eq_true rfl) h11 (by decide) (by decide +kernel)) (fun q12 _ => ?_)
  exact j_vret hx hm (by decide +kernel) (he _)
theorem wrn_adrp {x : jCx} {en : (jW) → Option (Outcome × jW)} {t : Nat} {a1 : Int32} {a2 : Int32} {a3 : Int32} (h : hrn_adrp x en t a1 a2 a3) (W : jW) : jJ x 6 0 [(0, vR t), (1, vI a1), (2, vI a2), (3, vI a3)] [] W (frn_adrp t a1 a2 a3 W) en := by
  have h0 := h
  obtain ⟨hx, hm, hr, he⟩ := h0
  unfold frn_adrp
  refine j_runA hx 1 (tb := [(0, .aload_n 0)]) (jtb_ok (by decide +kernel)) (pc' := 1) (lv' := [(0, vR t), (1, vI a1), (2, vI a2), (3, vI a3)]) (st' := [vR t]) rfl ?_
  refine j_gd (fun h1 => ?_)
  refine j_getI hx flX11_46 kd1601 h1 (by decide) (by decide +kernel) ?_
  refine j_runA hx 1 (tb := [(4, .iconst 1)]) (jtb_ok (by decide +kernel)) (pc' := 5) (lv' := [(0, vR t), (1, vI a1), (2, vI a2), (3, vI a3)]) (st' := [vI (kI 1), vI (jI W 1601 t)]) rfl ?_
  refine j_icmp_ne hx (off := 72) (tgt := 77) (by decide +kernel) (by decide) (fun _ => ?_) (fun _ => ?_)
  · exact wrn_adrp_77 h W
  refine j_runA hx 1 (tb := [(8, .aload_n 0)]) (jtb_ok (by decide +kernel)) (pc' := 9) (lv' := [(0, vR t), (1, vI a1), (2, vI a2), (3, vI a3)]) (st' := [vR t]) rfl ?_
  refine j_getR hx flX11_42 kl1600 h1 (by decide) (by decide +kernel) ?_
  refine j_runA hx 1 (tb := [(12, .aload_n 0)]) (jtb_ok (by decide +kernel)) (pc' := 13) (lv' := [(0, vR t), (1, vI a1), (2, vI a2), (3, vI a3)]) (st' := [vR t, vR (jR W 1600 t)]) rfl ?_
  refine j_getR hx flX11_42 kl1600 h1 (by decide) (by decide +kernel) ?_
  refine j_gd (fun h2 => ?_)
  refine j_getR hx flX11_336 kl1316 h2 (by decide) (by decide +kernel) ?_
  refine j_runA hx 1 (tb := [(19, .iload_n 3)]) (jtb_ok (by decide +kernel)) (pc' := 20) (lv' := [(0, vR t), (1, vI a1), (2, vI a2), (3, vI a3)]) (st' := [vI a3, vR (jR W 1316 (jR W 1600 t)), vR (jR W 1600 t)]) rfl ?_
  refine j_gd (fun h3 => ?_)
  refine j_iald hx (f := 1316) (o := (jR W 1600 t)) kd1316 rfl (by decide +kernel) h3 ?_
  refine j_runA hx 1 (tb := [(21, .i2l)]) (jtb_ok (by decide +kernel)) (pc' := 22) (lv' := [(0, vR t), (1, vI a1), (2, vI a2), (3, vI a3)]) (st' := [vL ((jA W 1316 (jR W 1600 t) (ix a3)).toInt64), vR (jR W 1600 t)]) rfl ?_
  refine j_OL (j_callV (av := [vL ((jA W 1316 (jR W 1600 t) (ix a3)).toInt64)]) (st := []) hx hr (Or.inr ⟨_, q3348⟩) q3016 qs140 rfl md_fmo_target np_fmo_target (cmo_target (jR W 1600 t) ((jA W 1316 (jR W 1600 t) (ix a3)).toInt64) W) (by decide) (Nat.le_of_ble_eq_true rfl) h2 (by decide) (by decide +kernel)) (fun q4 _ => ?_)
  refine j_runA hx 2 (tb := [(25, .lstore 4), (27, .aload_n 0)]) (jtb_ok (by decide +kernel)) (pc' := 28) (lv' := [(4, vL q4), (0, vR t), (1, vI a1), (2, vI a2), (3, vI a3)]) (st' := [vR t]) rfl ?_
  refine j_getR hx flX11_42 kl1600 h1 (by decide) (by decide +kernel) ?_
  refine j_getR hx flX11_95 kl1305 h2 (by decide) (by decide +kernel) ?_
  refine j_runA hx 1 (tb := [(34, .lload 4)]) (jtb_ok (by decide +kernel)) (pc' := 36) (lv' := [(4, vL q4), (0, vR t), (1, vI a1), (2, vI a2), (3, vI a3)]) (st' := [vL q4, vR (jR W 1305 (jR W 1600 t))]) rfl ?_
  refine j_gd (fun h5 => ?_)
  refine j_OI (j_callV (av := [vL q4]) (st := []) hx hr (Or.inl q3349) q2924 q2925 rfl md_fhd_isIn np_fhd_isIn (chd_isIn (jR W 1305 (jR W 1600 t)) q4 W) (by decide) (Nat.le_of_ble_eq_true rfl) h5 (by decide) (by decide +kernel)) (fun q6 _ => ?_)
  refine j_if_eq hx (off := 38) (tgt := 77) (by decide +kernel) (by decide) (fun _ => ?_) (fun _ => ?_)
  · refine j_lv (lv' := [(0, vR t), (1, vI a1), (2, vI a2), (3, vI a3)]) ⟨rfl, rfl, rfl, rfl, trivial⟩ ?_
    exact wrn_adrp_77 h W
  refine j_runA hx 2 (tb := [(42, .iload_n 2), (43, .bipush 31)]) (jtb_ok (by decide +kernel)) (pc' := 45) (lv' := [(4, vL q4), (0, vR t), (1, vI a1), (2, vI a2), (3, vI a3)]) (st' := [vI (kI 31), vI a2]) rfl ?_
  refine j_icmp_ge hx (off := 31) (tgt := 76) (by decide +kernel) (by decide) (fun _ => ?_) (fun _ => ?_)
  · exact j_vret hx hm (by decide +kernel) (he _)
  refine j_runA hx 4 (tb := [(48, .aload_n 0), (49, .iload_n 2), (50, .iconst 3), (51, .aload_n 0)]) (jtb_ok (by decide +kernel)) (pc' := 52) (lv' := [(4, vL q4), (0, vR t), (1, vI a1), (2, vI a2), (3, vI a3)]) (st' := [vR t, vI (kI 3), vI a2, vR t]) rfl ?_
  refine j_getR hx flX11_42 kl1600 h1 (by decide) (by decide +kernel) ?_
  refine j_getR hx flX11_156 kl1317 h2 (by decide) (by decide +kernel) ?_
  refine j_runA hx 2 (tb := [(58, .lload 4), (60, .aload_n 0)]) (jtb_ok (by decide +kernel)) (pc' := 61) (lv' := [(4, vL q4), (0, vR t), (1, vI a1), (2, vI a2), (3, vI a3)]) (st' := [vR t, vL q4, vR (jR W 1317 (jR W 1600 t)), vI (kI 3), vI a2, vR t]) rfl ?_
  refine j_getR hx flX11_42 kl1600 h1 (by decide) (by decide +kernel) ?_
  refine j_getL hx flX11_159 kd1313 h2 (by decide) (by decide +kernel) ?_
  refine j_runA hx 3 (tb := [(67, .lsub), (68, .l2i), (69, .iconst 4)]) (jtb_ok (by decide +kernel)) (pc' := 70) (lv' := [(4, vL q4), (0, vR t), (1, vI a1), (2, vI a2), (3, vI a3)]) (st' := [vI (kI 4), vI ((q4 - (jL W 1313 (jR W 1600 t))).toInt32), vR (jR W 1317 (jR W 1600 t)), vI (kI 3), vI a2, vR t]) rfl ?_
  refine j_idiv hx (by decide +kernel) (by decide +kernel) ?_
  refine j_gd (fun h7 => ?_)
  refine j_iald hx (f := 1317) (o := (jR W 1600 t)) kd1317 rfl (by decide +kernel) h7 ?_
  refine j_runA hx 1 (tb := [(72, .lconst 0)]) (jtb_ok (by decide +kernel)) (pc' := 73) (lv' := [(4, vL q4), (0, vR t), (1, vI a1), (2, vI a2), (3, vI a3)]) (st' := [vL (kJ 0), vI (jA W 1317 (jR W 1600 t) (ix (((q4 - (jL W 1313 (jR W 1600 t))).toInt32) / (kI 4)))), vI (kI 3), vI a2, vR t]) rfl ?_
  refine j_WV (j_callV (av := [vI a2, vI (kI 3), vI (jA W 1317 (jR W 1600 t) (ix (((q4 - (jL W 1313 (jR W 1600 t))).toInt32) / (kI 4)))), vL (kJ 0)]) (st := []) hx hr (Or.inl q3398) q3400 qs191 rfl md_frn_make np_frn_make (crn_make t a2 (kI 3) (jA W 1317 (jR W 1600 t) (ix (((q4 - (jL W 1313 (jR W 1600 t))).toInt32) / (kI 4)))) (kJ 0) W) (by decide) (Nat.le_of_ble_eq_true rfl) h1 (by decide) (by decide +kernel)) (fun q8 _ => ?_)
  exact j_vret hx hm (by decide +kernel) (he _)
theorem crn_adrp (t : Nat) (a1 : Int32) (a2 : Int32) (a3 : Int32) (W : jW) : jM yX11_adrp cX11_adrp 6 (Option.none : Option Jvm.ClassFile.FieldType) [] 2 34 [vR t, vI a1, vI a2, vI a3] W ((frn_adrp t a1 a2 a3 W).bind (fun q => some (.returned none, q))) := 
  jM.of (Nat.le_of_ble_eq_true rfl) (fun x hx hm hr => wrn_adrp ⟨hx, hm, hr, fun _ => rfl⟩ W)
def hrn_two (x : jCx) (en : (Int64) → Option (Outcome × jW)) (a0 : Int32) (a1 : Int64) (a3 : Int64) (W : jW) : Prop :=
  jOK x RX11 cX11_two 6 ∧
  jMt x "two" (Option.some Jvm.ClassFile.FieldType.long) [] ∧
  jRm x 1 19 ∧
  (∀ q : Int64, en q = some (.returned (some (.long q)), W))
theorem wrn_two_109 {x : jCx} {en : (Int64) → Option (Outcome × jW)} {W : jW} {a0 : Int32} {a1 : Int64} {a3 : Int64} (h : hrn_two x en a0 a1 a3 W) (l5 : Int32) : jJ x 6 109 [(0, vI a0), (1, vL a1), (3, vL a3), (5, vI l5)] [] W (frn_two_109 a0 a1 a3 l5 W) en := by
  have h0 := h
  obtain ⟨hx, hm, hr, he⟩ := h0
  unfold frn_two_109
  refine j_runA hx 3 (tb := [(109, .lload_n 1), (110, .iload 5), (112, .lshr)]) (jtb_ok (by decide +kernel)) (pc' := 113) (lv' := [(0, vI a0), (1, vL a1), (3, vL a3), (5, vI l5)]) (st' := [vL (lxr a1 l5)]) rfl ?_
  exact j_lret hx hm (by decide +kernel) (he _)
theorem wrn_two {x : jCx} {en : (Int64) → Option (Outcome × jW)} {W : jW} {a0 : Int32} {a1 : Int64} {a3 : Int64} (h : hrn_two x en a0 a1 a3 W) : jJ x 6 0 [(0, vI a0), (1, vL a1), (3, vL a3)] [] W (frn_two a0 a1 a3 W) en := by
  have h0 := h
  obtain ⟨hx, hm, hr, he⟩ := h0
  unfold frn_two
  refine j_runA hx 5 (tb := [(0, .lload_n 3), (1, .l2i), (2, .bipush 63), (4, .iand), (5, .istore 5)]) (jtb_ok (by decide +kernel)) (pc' := 7) (lv' := [(5, vI (a3.toInt32 &&& (kI 63))), (0, vI a0), (1, vL a1), (3, vL a3)]) (st' := []) rfl ?_
  refine j_let (v := (a3.toInt32 &&& (kI 63))) (lv := fun v1 => [(5, vI v1), (0, vI a0), (1, vL a1), (3, vL a3)]) (st := fun _ => []) (fun v1 => ?_)
  refine j_runA hx 1 (tb := [(7, .iload_n 0)]) (jtb_ok (by decide +kernel)) (pc' := 8) (lv' := [(5, vI v1), (0, vI a0), (1, vL a1), (3, vL a3)]) (st' := [vI a0]) rfl ?_
  refine j_tab hx (dflt := 101) (lo := 2) (hi := 9) (offs := #[48, 64, 101, 101, 101, 101, 91, 96]) (len := 48) (k := 2) (off := 48) (tgt := 56) (by decide +kernel) (by decide) (by decide) (by decide) rfl (by decide) (fun _ => ?_) (fun h2 => ?_)
  · refine j_runA hx 2 (tb := [(56, .lload_n 3), (57, .lconst 0)]) (jtb_ok (by decide +kernel)) (pc' := 58) (lv' := [(5, vI v1), (0, vI a0), (1, vL a1), (3, vL a3)]) (st' := [vL (kJ 0), vL a3]) rfl ?_
    refine j_lcmp_ne hx (off := 7) (tgt := 66) (by decide +kernel) (by decide +kernel) (by decide) (fun _ => ?_) (fun _ => ?_)
    · refine j_runA hx 2 (tb := [(66, .lload_n 1), (67, .lload_n 3)]) (jtb_ok (by decide +kernel)) (pc' := 68) (lv' := [(5, vI v1), (0, vI a0), (1, vL a1), (3, vL a3)]) (st' := [vL a3, vL a1]) rfl ?_
      refine j_OL (j_callS (av := [vL a1, vL a3]) (st := []) hx hr (Or.inl q3452) q3453 q257 md_fjl_divideUnsigned np_fjl_divideUnsigned (cjl_divideUnsigned a1 a3 W) (by decide) (Nat.le_of_ble_eq_true rfl) (by decide +kernel)) (fun q3 _ => ?_)
      exact j_lret hx hm (by decide +kernel) (he _)
    refine j_runA hx 1 (tb := [(62, .lconst 0)]) (jtb_ok (by decide +kernel)) (pc' := 63) (lv' := [(5, vI v1), (0, vI a0), (1, vL a1), (3, vL a3)]) (st' := [vL (kJ 0)]) rfl ?_
    refine j_goto hx (off := 8) (by decide +kernel) (tgt := 71) (by decide) ?_
    exact j_lret hx hm (by decide +kernel) (he _)
  refine j_tab hx (dflt := 101) (lo := 2) (hi := 9) (offs := #[48, 64, 101, 101, 101, 101, 91, 96]) (len := 48) (k := 3) (off := 64) (tgt := 72) (by decide +kernel) (by decide) (by decide) (by decide) rfl (by decide) (fun _ => ?_) (fun h4 => ?_)
  · refine j_runA hx 2 (tb := [(72, .lload_n 3), (73, .lconst 0)]) (jtb_ok (by decide +kernel)) (pc' := 74) (lv' := [(5, vI v1), (0, vI a0), (1, vL a1), (3, vL a3)]) (st' := [vL (kJ 0), vL a3]) rfl ?_
    refine j_lcmp_ne hx (off := 7) (tgt := 82) (by decide +kernel) (by decide +kernel) (by decide) (fun _ => ?_) (fun _ => ?_)
    · refine j_runA hx 1 (tb := [(82, .lload_n 3)]) (jtb_ok (by decide +kernel)) (pc' := 83) (lv' := [(5, vI v1), (0, vI a0), (1, vL a1), (3, vL a3)]) (st' := [vL a3]) rfl ?_
      refine j_ldc2 hx (v := (kJ (-1))) (jkd2 q3370 (by decide +kernel)) (by decide +kernel) ?_
      refine j_lcmp_ne hx (off := 8) (tgt := 95) (by decide +kernel) (by decide +kernel) (by decide) (fun _ => ?_) (fun _ => ?_)
      · refine j_runA hx 2 (tb := [(95, .lload_n 1), (96, .lload_n 3)]) (jtb_ok (by decide +kernel)) (pc' := 97) (lv' := [(5, vI v1), (0, vI a0), (1, vL a1), (3, vL a3)]) (st' := [vL a3, vL a1]) rfl ?_
        refine j_gd (fun h5 => ?_)
        refine j_ldiv hx (by decide +kernel) h5 ?_
        exact j_lret hx hm (by decide +kernel) (he _)
      refine j_runA hx 2 (tb := [(90, .lload_n 1), (91, .lneg)]) (jtb_ok (by decide +kernel)) (pc' := 92) (lv' := [(5, vI v1), (0, vI a0), (1, vL a1), (3, vL a3)]) (st' := [vL (-a1)]) rfl ?_
      refine j_goto hx (off := 6) (by decide +kernel) (tgt := 98) (by decide) ?_
      exact j_lret hx hm (by decide +kernel) (he _)
    refine j_runA hx 1 (tb := [(78, .lconst 0)]) (jtb_ok (by decide +kernel)) (pc' := 79) (lv' := [(5, vI v1), (0, vI a0), (1, vL a1), (3, vL a3)]) (st' := [vL (kJ 0)]) rfl ?_
    refine j_goto hx (off := 19) (by decide +kernel) (tgt := 98) (by decide) ?_
    exact j_lret hx hm (by decide +kernel) (he _)
  refine j_tab hx (dflt := 101) (lo := 2) (hi := 9) (offs := #[48, 64, 101, 101, 101, 101, 91, 96]) (len := 48) (k := 8) (off := 91) (tgt := 99) (by decide +kernel) (by decide) (by decide) (by decide) rfl (by decide) (fun _ => ?_) (fun h6 => ?_)
  · refine j_runA hx 3 (tb := [(99, .lload_n 1), (100, .iload 5), (102, .lshl)]) (jtb_ok (by decide +kernel)) (pc' := 103) (lv' := [(5, vI v1), (0, vI a0), (1, vL a1), (3, vL a3)]) (st' := [vL (lxl a1 v1)]) rfl ?_
    exact j_lret hx hm (by decide +kernel) (he _)
  refine j_tab hx (dflt := 101) (lo := 2) (hi := 9) (offs := #[48, 64, 101, 101, 101, 101, 91, 96]) (len := 48) (k := 9) (off := 96) (tgt := 104) (by decide +kernel) (by decide) (by decide) (by decide) rfl (by decide) (fun _ => ?_) (fun h7 => ?_)
  · refine j_runA hx 3 (tb := [(104, .lload_n 1), (105, .iload 5), (107, .lushr)]) (jtb_ok (by decide +kernel)) (pc' := 108) (lv' := [(5, vI v1), (0, vI a0), (1, vL a1), (3, vL a3)]) (st' := [vL (lxu a1 v1)]) rfl ?_
    exact j_lret hx hm (by decide +kernel) (he _)
  refine j_tabD hx (dflt := 101) (lo := 2) (hi := 9) (offs := #[48, 64, 101, 101, 101, 101, 91, 96]) (len := 48) (tgt := 109) (by decide +kernel) (by decide) (fun i hi => by
    match i, hi with
    | 0, _ => exact Or.inr h2
    | 1, _ => exact Or.inr h4
    | 2, _ => exact Or.inl rfl
    | 3, _ => exact Or.inl rfl
    | 4, _ => exact Or.inl rfl
    | 5, _ => exact Or.inl rfl
    | 6, _ => exact Or.inr h6
    | 7, _ => exact Or.inr h7
    | n + 8, h => exact absurd h (by omega)) ?_
  refine j_lv (lv' := [(0, vI a0), (1, vL a1), (3, vL a3), (5, vI v1)]) ⟨rfl, rfl, rfl, rfl, trivial⟩ ?_
  exact wrn_two_109 h v1
theorem crn_two (a0 : Int32) (a1 : Int64) (a3 : Int64) (W : jW) : jM yX11_two cX11_two 6 (Option.some Jvm.ClassFile.FieldType.long) [] 1 19 [vI a0, vL a1, vL a3] W ((frn_two a0 a1 a3 W).bind (fun q => some (.returned (some (.long q)), W))) := 
  jM.of (Nat.le_of_ble_eq_true rfl) (fun x hx hm hr => wrn_two ⟨hx, hm, hr, fun _ => rfl⟩)
