/-! ===== walks: frn_store frn_pair frn_moveOne frn_work frn_returnHere ===== -/
set_option maxRecDepth 100000
def hrn_store (x : jCx) (en : (jW) → Option (Outcome × jW)) (t : Nat) (a1 : Int32) (a2 : Int64) (a4 : Int32) : Prop :=
  jOK x RX11 cX11_store 6 ∧
  jMt x "store" (Option.none : Option Jvm.ClassFile.FieldType) [] ∧
  jRm x 1 18 ∧
  (∀ q : jW, en q = some (.returned none, q))
theorem wrn_store_82 {x : jCx} {en : (jW) → Option (Outcome × jW)} {t : Nat} {a1 : Int32} {a2 : Int64} {a4 : Int32} (h : hrn_store x en t a1 a2 a4) (l5 : Int32) (s0 : Int32) (s1 : Int32) (s2 : Nat) (W : jW) : jJ x 6 82 [(0, vR t), (1, vI a1), (2, vL a2), (4, vI a4), (5, vI l5)] [vI s0, vI s1, vR s2] W (frn_store_82 t a1 a2 a4 l5 s0 s1 s2 W) en := by
  have h0 := h
  obtain ⟨hx, hm, hr, he⟩ := h0
  unfold frn_store_82
  refine j_gd (fun h11 => ?_)
  refine j_gd (fun h12 => ?_)
  refine j_bast hx (f := 1611) (o := t) kd1611 h11 (by decide +kernel) h12 ?_
  refine j_ltw rfl (fun W13 hc14 => ?_)
  refine j_runA hx 2 (tb := [(83, .iload_n 1), (84, .bipush 31)]) (jtb_ok (by decide +kernel)) (pc' := 86) (lv' := [(0, vR t), (1, vI a1), (2, vL a2), (4, vI a4), (5, vI l5)]) (st' := [vI (kI 31), vI a1]) rfl ?_
  refine j_icmp_ge hx (off := 19) (tgt := 105) (by decide +kernel) (by decide) (fun _ => ?_) (fun _ => ?_)
  · exact j_vret hx hm (by decide +kernel) (he _)
  refine j_runA hx 1 (tb := [(89, .aload_n 0)]) (jtb_ok (by decide +kernel)) (pc' := 90) (lv' := [(0, vR t), (1, vI a1), (2, vL a2), (4, vI a4), (5, vI l5)]) (st' := [vR t]) rfl ?_
  refine j_gd (fun h16 => ?_)
  refine j_getR hx flX11_30 kl1612 h16 (by decide) (by decide +kernel) ?_
  refine j_runA hx 2 (tb := [(93, .iload 5), (95, .bipush 8)]) (jtb_ok (by decide +kernel)) (pc' := 97) (lv' := [(0, vR t), (1, vI a1), (2, vL a2), (4, vI a4), (5, vI l5)]) (st' := [vI (kI 8), vI l5, vR (jR W13 1612 t)]) rfl ?_
  refine j_idiv hx (by decide +kernel) (by decide +kernel) ?_
  refine j_runA hx 1 (tb := [(98, .aload_n 0)]) (jtb_ok (by decide +kernel)) (pc' := 99) (lv' := [(0, vR t), (1, vI a1), (2, vL a2), (4, vI a4), (5, vI l5)]) (st' := [vR t, vI (l5 / (kI 8)), vR (jR W13 1612 t)]) rfl ?_
  refine j_getR hx flX11_19 kl1605 h16 (by decide) (by decide +kernel) ?_
  refine j_runA hx 1 (tb := [(102, .iload_n 1)]) (jtb_ok (by decide +kernel)) (pc' := 103) (lv' := [(0, vR t), (1, vI a1), (2, vL a2), (4, vI a4), (5, vI l5)]) (st' := [vI a1, vR (jR W13 1605 t), vI (l5 / (kI 8)), vR (jR W13 1612 t)]) rfl ?_
  refine j_gd (fun h17 => ?_)
  refine j_iald hx (f := 1605) (o := t) kd1605 rfl (by decide +kernel) h17 ?_
  refine j_gd (fun h18 => ?_)
  refine j_iast hx (f := 1612) (o := t) kd1612 rfl (by decide +kernel) h18 ?_
  refine j_ltw rfl (fun W19 hc20 => ?_)
  have h21 : jC W19 t = 16 := (congrFun hc20 _).trans h16
  exact j_vret hx hm (by decide +kernel) (he _)
theorem wrn_store_30 {x : jCx} {en : (jW) → Option (Outcome × jW)} {t : Nat} {a1 : Int32} {a2 : Int64} {a4 : Int32} (h : hrn_store x en t a1 a2 a4) (l5 : Int32) (s0 : Int64) (s1 : Int32) (s2 : Int32) (s3 : Nat) (W : jW) : jJ x 6 30 [(0, vR t), (1, vI a1), (2, vL a2), (4, vI a4), (5, vI l5)] [vL s0, vI s1, vI s2, vR s3] W (frn_store_30 t a1 a2 a4 l5 s0 s1 s2 s3 W) en := by
  have h0 := h
  obtain ⟨hx, hm, hr, he⟩ := h0
  unfold frn_store_30
  refine j_gd (fun h5 => ?_)
  refine j_WV (j_callV (av := [vI s2, vI s1, vL s0]) (st := []) hx hr (Or.inl q3352) q3354 qs181 rfl md_frn_put np_frn_put (crn_put s3 s2 s1 s0 W) (by decide) (Nat.le_of_ble_eq_true rfl) h5 (by decide) (by decide +kernel)) (fun q6 _ => ?_)
  refine j_runA hx 1 (tb := [(33, .aload_n 0)]) (jtb_ok (by decide +kernel)) (pc' := 34) (lv' := [(0, vR t), (1, vI a1), (2, vL a2), (4, vI a4), (5, vI l5)]) (st' := [vR t]) rfl ?_
  refine j_gd (fun h8 => ?_)
  refine j_getI hx flX11_46 kd1601 h8 (by decide) (by decide +kernel) ?_
  refine j_runA hx 1 (tb := [(37, .iconst 1)]) (jtb_ok (by decide +kernel)) (pc' := 38) (lv' := [(0, vR t), (1, vI a1), (2, vL a2), (4, vI a4), (5, vI l5)]) (st' := [vI (kI 1), vI (jI q6 1601 t)]) rfl ?_
  refine j_icmp_ne hx (off := 18) (tgt := 56) (by decide +kernel) (by decide) (fun _ => ?_) (fun _ => ?_)
  · exact j_vret hx hm (by decide +kernel) (he _)
  refine j_runA hx 2 (tb := [(41, .iload 4), (43, .bipush 8)]) (jtb_ok (by decide +kernel)) (pc' := 45) (lv' := [(0, vR t), (1, vI a1), (2, vL a2), (4, vI a4), (5, vI l5)]) (st' := [vI (kI 8), vI a4]) rfl ?_
  refine j_icmp_lt hx (off := 11) (tgt := 56) (by decide +kernel) (by decide) (fun _ => ?_) (fun _ => ?_)
  · exact j_vret hx hm (by decide +kernel) (he _)
  refine j_runA hx 2 (tb := [(48, .iload 5), (50, .bipush 8)]) (jtb_ok (by decide +kernel)) (pc' := 52) (lv' := [(0, vR t), (1, vI a1), (2, vL a2), (4, vI a4), (5, vI l5)]) (st' := [vI (kI 8), vI l5]) rfl ?_
  refine j_irem hx (by decide +kernel) (by decide +kernel) ?_
  refine j_if_eq hx (off := 4) (tgt := 57) (by decide +kernel) (by decide) (fun _ => ?_) (fun _ => ?_)
  · refine j_runA hx 1 (tb := [(57, .aload_n 0)]) (jtb_ok (by decide +kernel)) (pc' := 58) (lv' := [(0, vR t), (1, vI a1), (2, vL a2), (4, vI a4), (5, vI l5)]) (st' := [vR t]) rfl ?_
    refine j_getR hx flX11_27 kl1611 h8 (by decide) (by decide +kernel) ?_
    refine j_runA hx 2 (tb := [(61, .iload 5), (63, .bipush 8)]) (jtb_ok (by decide +kernel)) (pc' := 65) (lv' := [(0, vR t), (1, vI a1), (2, vL a2), (4, vI a4), (5, vI l5)]) (st' := [vI (kI 8), vI l5, vR (jR q6 1611 t)]) rfl ?_
    refine j_idiv hx (by decide +kernel) (by decide +kernel) ?_
    refine j_runA hx 2 (tb := [(66, .iload_n 1), (67, .bipush 31)]) (jtb_ok (by decide +kernel)) (pc' := 69) (lv' := [(0, vR t), (1, vI a1), (2, vL a2), (4, vI a4), (5, vI l5)]) (st' := [vI (kI 31), vI a1, vI (l5 / (kI 8)), vR (jR q6 1611 t)]) rfl ?_
    refine j_icmp_ne hx (off := 7) (tgt := 76) (by decide +kernel) (by decide) (fun _ => ?_) (fun _ => ?_)
    · refine j_runA hx 1 (tb := [(76, .aload_n 0)]) (jtb_ok (by decide +kernel)) (pc' := 77) (lv' := [(0, vR t), (1, vI a1), (2, vL a2), (4, vI a4), (5, vI l5)]) (st' := [vR t, vI (l5 / (kI 8)), vR (jR q6 1611 t)]) rfl ?_
      refine j_getR hx flX11_15 kl1604 h8 (by decide) (by decide +kernel) ?_
      refine j_runA hx 1 (tb := [(80, .iload_n 1)]) (jtb_ok (by decide +kernel)) (pc' := 81) (lv' := [(0, vR t), (1, vI a1), (2, vL a2), (4, vI a4), (5, vI l5)]) (st' := [vI a1, vR (jR q6 1604 t), vI (l5 / (kI 8)), vR (jR q6 1611 t)]) rfl ?_
      refine j_gd (fun h9 => ?_)
      refine j_bald hx (f := 1604) (o := t) kd1604 rfl (by decide +kernel) h9 ?_
      exact wrn_store_82 h l5 (jA q6 1604 t (ix a1)) (l5 / (kI 8)) (jR q6 1611 t) q6
    refine j_runA hx 1 (tb := [(72, .iconst 0)]) (jtb_ok (by decide +kernel)) (pc' := 73) (lv' := [(0, vR t), (1, vI a1), (2, vL a2), (4, vI a4), (5, vI l5)]) (st' := [vI (kI 0), vI (l5 / (kI 8)), vR (jR q6 1611 t)]) rfl ?_
    refine j_goto hx (off := 9) (by decide +kernel) (tgt := 82) (by decide) ?_
    exact wrn_store_82 h l5 (kI 0) (l5 / (kI 8)) (jR q6 1611 t) q6
  exact j_vret hx hm (by decide +kernel) (he _)
theorem wrn_store {x : jCx} {en : (jW) → Option (Outcome × jW)} {t : Nat} {a1 : Int32} {a2 : Int64} {a4 : Int32} (h : hrn_store x en t a1 a2 a4) (W : jW) : jJ x 6 0 [(0, vR t), (1, vI a1), (2, vL a2), (4, vI a4)] [] W (frn_store t a1 a2 a4 W) en := by
  have h0 := h
  obtain ⟨hx, hm, hr, he⟩ := h0
  unfold frn_store
  refine j_runA hx 3 (tb := [(0, .aload_n 0), (1, .lload_n 2), (2, .iload 4)]) (jtb_ok (by decide +kernel)) (pc' := 4) (lv' := [(0, vR t), (1, vI a1), (2, vL a2), (4, vI a4)]) (st' := [vI a4, vL a2, vR t]) rfl ?_
  refine j_gd (fun h1 => ?_)
  refine j_OI (j_callV (av := [vL a2, vI a4]) (st := []) hx hr (Or.inl q3491) q3492 q3493 rfl md_frn_at np_frn_at (crn_at t a2 a4 W) (by decide) (Nat.le_of_ble_eq_true rfl) h1 (by decide) (by decide +kernel)) (fun q2 _ => ?_)
  refine j_runA hx 6 (tb := [(7, .istore 5), (9, .aload_n 0), (10, .iload 5), (12, .iload 4), (14, .iload_n 1), (15, .bipush 31)]) (jtb_ok (by decide +kernel)) (pc' := 17) (lv' := [(5, vI q2), (0, vR t), (1, vI a1), (2, vL a2), (4, vI a4)]) (st' := [vI (kI 31), vI a1, vI a4, vI q2, vR t]) rfl ?_
  refine j_icmp_ne hx (off := 7) (tgt := 24) (by decide +kernel) (by decide) (fun _ => ?_) (fun _ => ?_)
  · refine j_runA hx 1 (tb := [(24, .aload_n 0)]) (jtb_ok (by decide +kernel)) (pc' := 25) (lv' := [(5, vI q2), (0, vR t), (1, vI a1), (2, vL a2), (4, vI a4)]) (st' := [vR t, vI a4, vI q2, vR t]) rfl ?_
    refine j_getR hx flX11_9 kl1603 h1 (by decide) (by decide +kernel) ?_
    refine j_runA hx 1 (tb := [(28, .iload_n 1)]) (jtb_ok (by decide +kernel)) (pc' := 29) (lv' := [(5, vI q2), (0, vR t), (1, vI a1), (2, vL a2), (4, vI a4)]) (st' := [vI a1, vR (jR W 1603 t), vI a4, vI q2, vR t]) rfl ?_
    refine j_gd (fun h3 => ?_)
    refine j_lald hx (f := 1603) (o := t) kd1603 rfl (by decide +kernel) h3 ?_
    refine j_lv (lv' := [(0, vR t), (1, vI a1), (2, vL a2), (4, vI a4), (5, vI q2)]) ⟨rfl, rfl, rfl, rfl, rfl, trivial⟩ ?_
    exact wrn_store_30 h q2 (jB W 1603 t (ix a1)) a4 q2 t W
  refine j_runA hx 1 (tb := [(20, .lconst 0)]) (jtb_ok (by decide +kernel)) (pc' := 21) (lv' := [(5, vI q2), (0, vR t), (1, vI a1), (2, vL a2), (4, vI a4)]) (st' := [vL (kJ 0), vI a4, vI q2, vR t]) rfl ?_
  refine j_goto hx (off := 9) (by decide +kernel) (tgt := 30) (by decide) ?_
  refine j_lv (lv' := [(0, vR t), (1, vI a1), (2, vL a2), (4, vI a4), (5, vI q2)]) ⟨rfl, rfl, rfl, rfl, rfl, trivial⟩ ?_
  exact wrn_store_30 h q2 (kJ 0) a4 q2 t W
theorem crn_store (t : Nat) (a1 : Int32) (a2 : Int64) (a4 : Int32) (W : jW) : jM yX11_store cX11_store 6 (Option.none : Option Jvm.ClassFile.FieldType) [] 1 18 [vR t, vI a1, vL a2, vI a4] W ((frn_store t a1 a2 a4 W).bind (fun q => some (.returned none, q))) := 
  jM.of (Nat.le_of_ble_eq_true rfl) (fun x hx hm hr => wrn_store ⟨hx, hm, hr, fun _ => rfl⟩ W)
def hrn_pair (x : jCx) (en : (Int32 × jW) → Option (Outcome × jW)) (t : Nat) (a1 : Int32) (a2 : Int32) (a3 : Int32) : Prop :=
  jOK x RX11 cX11_pair 11 ∧
  jMt x "pair" (Option.some Jvm.ClassFile.FieldType.int) [] ∧
  jRm x 4 74 ∧
  (∀ q : Int32 × jW, en q = some (.returned (some (.int q.1)), q.2))
theorem wrn_pair_150 {x : jCx} {en : (Int32 × jW) → Option (Outcome × jW)} {t : Nat} {a1 : Int32} {a2 : Int32} {a3 : Int32} (h : hrn_pair x en t a1 a2 a3) (W : jW) : jJ x 11 150 [(0, vR t), (1, vI a1), (2, vI a2), (3, vI a3)] [] W (frn_pair_150 t a1 a2 a3 W) en := by
  have h0 := h
  obtain ⟨hx, hm, hr, he⟩ := h0
  unfold frn_pair_150
  refine j_runA hx 1 (tb := [(150, .iconst 3)]) (jtb_ok (by decide +kernel)) (pc' := 151) (lv' := [(0, vR t), (1, vI a1), (2, vI a2), (3, vI a3)]) (st' := [vI (kI 3)]) rfl ?_
  exact j_iret hx hm (by decide +kernel) rfl (he _)
theorem wrn_pair_212 {x : jCx} {en : (Int32 × jW) → Option (Outcome × jW)} {t : Nat} {a1 : Int32} {a2 : Int32} {a3 : Int32} (h : hrn_pair x en t a1 a2 a3) (W : jW) : jJ x 11 212 [(0, vR t), (1, vI a1), (2, vI a2), (3, vI a3)] [] W (frn_pair_212 t a1 a2 a3 W) en := by
  have h0 := h
  obtain ⟨hx, hm, hr, he⟩ := h0
  unfold frn_pair_212
  refine j_runA hx 1 (tb := [(212, .iconst 2)]) (jtb_ok (by decide +kernel)) (pc' := 213) (lv' := [(0, vR t), (1, vI a1), (2, vI a2), (3, vI a3)]) (st' := [vI (kI 2)]) rfl ?_
  exact j_iret hx hm (by decide +kernel) rfl (he _)
theorem wrn_pair_302 {x : jCx} {en : (Int32 × jW) → Option (Outcome × jW)} {t : Nat} {a1 : Int32} {a2 : Int32} {a3 : Int32} (h : hrn_pair x en t a1 a2 a3) (W : jW) : jJ x 11 302 [(0, vR t), (1, vI a1), (2, vI a2), (3, vI a3)] [] W (frn_pair_302 t a1 a2 a3 W) en := by
  have h0 := h
  obtain ⟨hx, hm, hr, he⟩ := h0
  unfold frn_pair_302
  refine j_runA hx 1 (tb := [(302, .iconst (-1))]) (jtb_ok (by decide +kernel)) (pc' := 303) (lv' := [(0, vR t), (1, vI a1), (2, vI a2), (3, vI a3)]) (st' := [vI (kI (-1))]) rfl ?_
  exact j_iret hx hm (by decide +kernel) rfl (he _)
theorem wrn_pair_301 {x : jCx} {en : (Int32 × jW) → Option (Outcome × jW)} {t : Nat} {a1 : Int32} {a2 : Int32} {a3 : Int32} (h : hrn_pair x en t a1 a2 a3) (s0 : Int64) (s1 : Int32) (s2 : Nat) (W : jW) : jJ x 11 301 [(0, vR t), (1, vI a1), (2, vI a2), (3, vI a3)] [vL s0, vI s1, vR s2] W (frn_pair_301 t a1 a2 a3 s0 s1 s2 W) en := by
  have h0 := h
  obtain ⟨hx, hm, hr, he⟩ := h0
  unfold frn_pair_301
  refine j_gd (fun h40 => ?_)
  refine j_gd (fun h41 => ?_)
  refine j_last hx (f := 1603) (o := t) kd1603 h40 (by decide +kernel) h41 ?_
  refine j_ltw rfl (fun W42 hc43 => ?_)
  exact wrn_pair_302 h W42
theorem wrn_pair_270 {x : jCx} {en : (Int32 × jW) → Option (Outcome × jW)} {t : Nat} {a1 : Int32} {a2 : Int32} {a3 : Int32} (h : hrn_pair x en t a1 a2 a3) (l5 : Int32) (l7 : Int64) (l9 : Int64) (W : jW) : jJ x 11 270 [(0, vR t), (1, vI a1), (2, vI a2), (3, vI a3), (5, vI l5), (7, vL l7), (9, vL l9)] [] W (frn_pair_270 t a1 a2 a3 l5 l7 l9 W) en := by
  have h0 := h
  obtain ⟨hx, hm, hr, he⟩ := h0
  unfold frn_pair_270
  refine j_runA hx 2 (tb := [(270, .iload 5), (272, .iconst 2)]) (jtb_ok (by decide +kernel)) (pc' := 273) (lv' := [(0, vR t), (1, vI a1), (2, vI a2), (3, vI a3), (5, vI l5), (7, vL l7), (9, vL l9)]) (st' := [vI (kI 2), vI l5]) rfl ?_
  refine j_icmp_eq hx (off := 29) (tgt := 302) (by decide +kernel) (by decide) (fun _ => ?_) (fun _ => ?_)
  · refine j_lv (lv' := [(0, vR t), (1, vI a1), (2, vI a2), (3, vI a3)]) ⟨rfl, rfl, rfl, rfl, trivial⟩ ?_
    exact wrn_pair_302 h W
  refine j_runA hx 1 (tb := [(276, .aload_n 0)]) (jtb_ok (by decide +kernel)) (pc' := 277) (lv' := [(0, vR t), (1, vI a1), (2, vI a2), (3, vI a3), (5, vI l5), (7, vL l7), (9, vL l9)]) (st' := [vR t]) rfl ?_
  refine j_gd (fun h37 => ?_)
  refine j_getR hx flX11_9 kl1603 h37 (by decide) (by decide +kernel) ?_
  refine j_runA hx 3 (tb := [(280, .iload_n 3), (281, .iload 5), (283, .iconst 1)]) (jtb_ok (by decide +kernel)) (pc' := 284) (lv' := [(0, vR t), (1, vI a1), (2, vI a2), (3, vI a3), (5, vI l5), (7, vL l7), (9, vL l9)]) (st' := [vI (kI 1), vI l5, vI a3, vR (jR W 1603 t)]) rfl ?_
  refine j_icmp_ne hx (off := 15) (tgt := 299) (by decide +kernel) (by decide) (fun _ => ?_) (fun _ => ?_)
  · refine j_runA hx 1 (tb := [(299, .lload 9)]) (jtb_ok (by decide +kernel)) (pc' := 301) (lv' := [(0, vR t), (1, vI a1), (2, vI a2), (3, vI a3), (5, vI l5), (7, vL l7), (9, vL l9)]) (st' := [vL l9, vI a3, vR (jR W 1603 t)]) rfl ?_
    refine j_lv (lv' := [(0, vR t), (1, vI a1), (2, vI a2), (3, vI a3)]) ⟨rfl, rfl, rfl, rfl, trivial⟩ ?_
    exact wrn_pair_301 h l9 a3 (jR W 1603 t) W
  refine j_runA hx 1 (tb := [(287, .aload_n 0)]) (jtb_ok (by decide +kernel)) (pc' := 288) (lv' := [(0, vR t), (1, vI a1), (2, vI a2), (3, vI a3), (5, vI l5), (7, vL l7), (9, vL l9)]) (st' := [vR t, vI a3, vR (jR W 1603 t)]) rfl ?_
  refine j_getR hx flX11_9 kl1603 h37 (by decide) (by decide +kernel) ?_
  refine j_runA hx 1 (tb := [(291, .iload_n 3)]) (jtb_ok (by decide +kernel)) (pc' := 292) (lv' := [(0, vR t), (1, vI a1), (2, vI a2), (3, vI a3), (5, vI l5), (7, vL l7), (9, vL l9)]) (st' := [vI a3, vR (jR W 1603 t), vI a3, vR (jR W 1603 t)]) rfl ?_
  refine j_gd (fun h38 => ?_)
  refine j_lald hx (f := 1603) (o := t) kd1603 rfl (by decide +kernel) h38 ?_
  refine j_runA hx 2 (tb := [(293, .lload 7), (295, .ladd)]) (jtb_ok (by decide +kernel)) (pc' := 296) (lv' := [(0, vR t), (1, vI a1), (2, vI a2), (3, vI a3), (5, vI l5), (7, vL l7), (9, vL l9)]) (st' := [vL ((jB W 1603 t (ix a3)) + l7), vI a3, vR (jR W 1603 t)]) rfl ?_
  refine j_goto hx (off := 5) (by decide +kernel) (tgt := 301) (by decide) ?_
  refine j_lv (lv' := [(0, vR t), (1, vI a1), (2, vI a2), (3, vI a3)]) ⟨rfl, rfl, rfl, rfl, trivial⟩ ?_
  exact wrn_pair_301 h ((jB W 1603 t (ix a3)) + l7) a3 (jR W 1603 t) W
theorem wrn_pair_214 {x : jCx} {en : (Int32 × jW) → Option (Outcome × jW)} {t : Nat} {a1 : Int32} {a2 : Int32} {a3 : Int32} (h : hrn_pair x en t a1 a2 a3) (l4 : Int32) (l5 : Int32) (l6 : Int32) (l7 : Int64) (l9 : Int64) (W : jW) : jJ x 11 214 [(0, vR t), (1, vI a1), (2, vI a2), (3, vI a3), (4, vI l4), (5, vI l5), (6, vI l6), (7, vL l7), (9, vL l9)] [] W (frn_pair_214 t a1 a2 a3 l4 l5 l6 l7 l9 W) en := by
  have h0 := h
  obtain ⟨hx, hm, hr, he⟩ := h0
  unfold frn_pair_214
  refine j_runA hx 1 (tb := [(214, .iload 6)]) (jtb_ok (by decide +kernel)) (pc' := 216) (lv' := [(0, vR t), (1, vI a1), (2, vI a2), (3, vI a3), (4, vI l4), (5, vI l5), (6, vI l6), (7, vL l7), (9, vL l9)]) (st' := [vI l6]) rfl ?_
  refine j_if_eq hx (off := 31) (tgt := 247) (by decide +kernel) (by decide) (fun _ => ?_) (fun _ => ?_)
  · refine j_runA hx 4 (tb := [(247, .aload_n 0), (248, .iload_n 2), (249, .lload 9), (251, .bipush 8)]) (jtb_ok (by decide +kernel)) (pc' := 253) (lv' := [(0, vR t), (1, vI a1), (2, vI a2), (3, vI a3), (4, vI l4), (5, vI l5), (6, vI l6), (7, vL l7), (9, vL l9)]) (st' := [vI (kI 8), vL l9, vI a2, vR t]) rfl ?_
    refine j_gd (fun h24 => ?_)
    refine j_WV (j_callV (av := [vI a2, vL l9, vI (kI 8)]) (st := []) hx hr (Or.inl q3525) q3527 qs216 rfl md_frn_store np_frn_store (crn_store t a2 l9 (kI 8) W) (by decide) (Nat.le_of_ble_eq_true rfl) h24 (by decide) (by decide +kernel)) (fun q25 _ => ?_)
    refine j_runA hx 3 (tb := [(256, .aload_n 0), (257, .iload 4), (259, .lload 9)]) (jtb_ok (by decide +kernel)) (pc' := 261) (lv' := [(0, vR t), (1, vI a1), (2, vI a2), (3, vI a3), (4, vI l4), (5, vI l5), (6, vI l6), (7, vL l7), (9, vL l9)]) (st' := [vL l9, vI l4, vR t]) rfl ?_
    refine j_ldc2 hx (v := (kJ 8)) (jkd2 q3471 (by decide +kernel)) (by decide +kernel) ?_
    refine j_runA hx 2 (tb := [(264, .ladd), (265, .bipush 8)]) (jtb_ok (by decide +kernel)) (pc' := 267) (lv' := [(0, vR t), (1, vI a1), (2, vI a2), (3, vI a3), (4, vI l4), (5, vI l5), (6, vI l6), (7, vL l7), (9, vL l9)]) (st' := [vI (kI 8), vL (l9 + (kJ 8)), vI l4, vR t]) rfl ?_
    refine j_gd (fun h27 => ?_)
    refine j_WV (j_callV (av := [vI l4, vL (l9 + (kJ 8)), vI (kI 8)]) (st := []) hx hr (Or.inl q3525) q3527 qs216 rfl md_frn_store np_frn_store (crn_store t l4 (l9 + (kJ 8)) (kI 8) q25) (by decide) (Nat.le_of_ble_eq_true rfl) h27 (by decide) (by decide +kernel)) (fun q28 _ => ?_)
    refine j_lv (lv' := [(0, vR t), (1, vI a1), (2, vI a2), (3, vI a3), (5, vI l5), (7, vL l7), (9, vL l9)]) ⟨rfl, rfl, rfl, rfl, rfl, rfl, rfl, trivial⟩ ?_
    exact wrn_pair_270 h l5 l7 l9 q28
  refine j_runA hx 5 (tb := [(219, .aload_n 0), (220, .iload_n 2), (221, .lload 9), (223, .bipush 8), (225, .iconst 0)]) (jtb_ok (by decide +kernel)) (pc' := 226) (lv' := [(0, vR t), (1, vI a1), (2, vI a2), (3, vI a3), (4, vI l4), (5, vI l5), (6, vI l6), (7, vL l7), (9, vL l9)]) (st' := [vI (kI 0), vI (kI 8), vL l9, vI a2, vR t]) rfl ?_
  refine j_gd (fun h30 => ?_)
  refine j_WV (j_callV (av := [vI a2, vL l9, vI (kI 8), vI (kI 0)]) (st := []) hx hr (Or.inl q3513) q3515 qs213 rfl md_frn_load np_frn_load (crn_load t a2 l9 (kI 8) (kI 0) W) (by decide) (Nat.le_of_ble_eq_true rfl) h30 (by decide) (by decide +kernel)) (fun q31 _ => ?_)
  refine j_runA hx 3 (tb := [(229, .aload_n 0), (230, .iload 4), (232, .lload 9)]) (jtb_ok (by decide +kernel)) (pc' := 234) (lv' := [(0, vR t), (1, vI a1), (2, vI a2), (3, vI a3), (4, vI l4), (5, vI l5), (6, vI l6), (7, vL l7), (9, vL l9)]) (st' := [vL l9, vI l4, vR t]) rfl ?_
  refine j_ldc2 hx (v := (kJ 8)) (jkd2 q3471 (by decide +kernel)) (by decide +kernel) ?_
  refine j_runA hx 3 (tb := [(237, .ladd), (238, .bipush 8), (240, .iconst 0)]) (jtb_ok (by decide +kernel)) (pc' := 241) (lv' := [(0, vR t), (1, vI a1), (2, vI a2), (3, vI a3), (4, vI l4), (5, vI l5), (6, vI l6), (7, vL l7), (9, vL l9)]) (st' := [vI (kI 0), vI (kI 8), vL (l9 + (kJ 8)), vI l4, vR t]) rfl ?_
  refine j_gd (fun h33 => ?_)
  refine j_WV (j_callV (av := [vI l4, vL (l9 + (kJ 8)), vI (kI 8), vI (kI 0)]) (st := []) hx hr (Or.inl q3513) q3515 qs213 rfl md_frn_load np_frn_load (crn_load t l4 (l9 + (kJ 8)) (kI 8) (kI 0) q31) (by decide) (Nat.le_of_ble_eq_true rfl) h33 (by decide) (by decide +kernel)) (fun q34 _ => ?_)
  refine j_goto hx (off := 26) (by decide +kernel) (tgt := 270) (by decide) ?_
  refine j_lv (lv' := [(0, vR t), (1, vI a1), (2, vI a2), (3, vI a3), (5, vI l5), (7, vL l7), (9, vL l9)]) ⟨rfl, rfl, rfl, rfl, rfl, rfl, rfl, trivial⟩ ?_
  exact wrn_pair_270 h l5 l7 l9 q34
theorem wrn_pair_152 {x : jCx} {en : (Int32 × jW) → Option (Outcome × jW)} {t : Nat} {a1 : Int32} {a2 : Int32} {a3 : Int32} (h : hrn_pair x en t a1 a2 a3) (l4 : Int32) (l5 : Int32) (l6 : Int32) (l7 : Int64) (l9 : Int64) (W : jW) : jJ x 11 152 [(0, vR t), (1, vI a1), (2, vI a2), (3, vI a3), (4, vI l4), (5, vI l5), (6, vI l6), (7, vL l7), (9, vL l9)] [] W (frn_pair_152 t a1 a2 a3 l4 l5 l6 l7 l9 W) en := by
  have h0 := h
  obtain ⟨hx, hm, hr, he⟩ := h0
  unfold frn_pair_152
  refine j_runA hx 1 (tb := [(152, .iload 6)]) (jtb_ok (by decide +kernel)) (pc' := 154) (lv' := [(0, vR t), (1, vI a1), (2, vI a2), (3, vI a3), (4, vI l4), (5, vI l5), (6, vI l6), (7, vL l7), (9, vL l9)]) (st' := [vI l6]) rfl ?_
  refine j_if_eq hx (off := 32) (tgt := 186) (by decide +kernel) (by decide) (fun _ => ?_) (fun _ => ?_)
  · refine j_runA hx 3 (tb := [(186, .aload_n 0), (187, .lload 9), (189, .bipush 8)]) (jtb_ok (by decide +kernel)) (pc' := 191) (lv' := [(0, vR t), (1, vI a1), (2, vI a2), (3, vI a3), (4, vI l4), (5, vI l5), (6, vI l6), (7, vL l7), (9, vL l9)]) (st' := [vI (kI 8), vL l9, vR t]) rfl ?_
    refine j_gd (fun h17 => ?_)
    refine j_OI (j_callV (av := [vL l9, vI (kI 8)]) (st := []) hx hr (Or.inl q3505) q3507 qs211 rfl md_frn_faultsStore np_frn_faultsStore (crn_faultsStore t l9 (kI 8) W) (by decide) (Nat.le_of_ble_eq_true rfl) h17 (by decide) (by decide +kernel)) (fun q18 _ => ?_)
    refine j_if_ne hx (off := 18) (tgt := 212) (by decide +kernel) (by decide) (fun _ => ?_) (fun _ => ?_)
    · refine j_lv (lv' := [(0, vR t), (1, vI a1), (2, vI a2), (3, vI a3)]) ⟨rfl, rfl, rfl, rfl, trivial⟩ ?_
      exact wrn_pair_212 h W
    refine j_runA hx 2 (tb := [(197, .aload_n 0), (198, .lload 9)]) (jtb_ok (by decide +kernel)) (pc' := 200) (lv' := [(0, vR t), (1, vI a1), (2, vI a2), (3, vI a3), (4, vI l4), (5, vI l5), (6, vI l6), (7, vL l7), (9, vL l9)]) (st' := [vL l9, vR t]) rfl ?_
    refine j_ldc2 hx (v := (kJ 8)) (jkd2 q3471 (by decide +kernel)) (by decide +kernel) ?_
    refine j_runA hx 2 (tb := [(203, .ladd), (204, .bipush 8)]) (jtb_ok (by decide +kernel)) (pc' := 206) (lv' := [(0, vR t), (1, vI a1), (2, vI a2), (3, vI a3), (4, vI l4), (5, vI l5), (6, vI l6), (7, vL l7), (9, vL l9)]) (st' := [vI (kI 8), vL (l9 + (kJ 8)), vR t]) rfl ?_
    refine j_OI (j_callV (av := [vL (l9 + (kJ 8)), vI (kI 8)]) (st := []) hx hr (Or.inl q3505) q3507 qs211 rfl md_frn_faultsStore np_frn_faultsStore (crn_faultsStore t (l9 + (kJ 8)) (kI 8) W) (by decide) (Nat.le_of_ble_eq_true rfl) h17 (by decide) (by decide +kernel)) (fun q19 _ => ?_)
    refine j_if_eq hx (off := 5) (tgt := 214) (by decide +kernel) (by decide) (fun _ => ?_) (fun _ => ?_)
    · exact wrn_pair_214 h l4 l5 l6 l7 l9 W
    refine j_lv (lv' := [(0, vR t), (1, vI a1), (2, vI a2), (3, vI a3)]) ⟨rfl, rfl, rfl, rfl, trivial⟩ ?_
    exact wrn_pair_212 h W
  refine j_runA hx 3 (tb := [(157, .aload_n 0), (158, .lload 9), (160, .bipush 8)]) (jtb_ok (by decide +kernel)) (pc' := 162) (lv' := [(0, vR t), (1, vI a1), (2, vI a2), (3, vI a3), (4, vI l4), (5, vI l5), (6, vI l6), (7, vL l7), (9, vL l9)]) (st' := [vI (kI 8), vL l9, vR t]) rfl ?_
  refine j_gd (fun h20 => ?_)
  refine j_OI (j_callV (av := [vL l9, vI (kI 8)]) (st := []) hx hr (Or.inl q3501) q3503 qs210 rfl md_frn_faultsLoad np_frn_faultsLoad (crn_faultsLoad t l9 (kI 8) W) (by decide) (Nat.le_of_ble_eq_true rfl) h20 (by decide) (by decide +kernel)) (fun q21 _ => ?_)
  refine j_if_ne hx (off := 47) (tgt := 212) (by decide +kernel) (by decide) (fun _ => ?_) (fun _ => ?_)
  · refine j_lv (lv' := [(0, vR t), (1, vI a1), (2, vI a2), (3, vI a3)]) ⟨rfl, rfl, rfl, rfl, trivial⟩ ?_
    exact wrn_pair_212 h W
  refine j_runA hx 2 (tb := [(168, .aload_n 0), (169, .lload 9)]) (jtb_ok (by decide +kernel)) (pc' := 171) (lv' := [(0, vR t), (1, vI a1), (2, vI a2), (3, vI a3), (4, vI l4), (5, vI l5), (6, vI l6), (7, vL l7), (9, vL l9)]) (st' := [vL l9, vR t]) rfl ?_
  refine j_ldc2 hx (v := (kJ 8)) (jkd2 q3471 (by decide +kernel)) (by decide +kernel) ?_
  refine j_runA hx 2 (tb := [(174, .ladd), (175, .bipush 8)]) (jtb_ok (by decide +kernel)) (pc' := 177) (lv' := [(0, vR t), (1, vI a1), (2, vI a2), (3, vI a3), (4, vI l4), (5, vI l5), (6, vI l6), (7, vL l7), (9, vL l9)]) (st' := [vI (kI 8), vL (l9 + (kJ 8)), vR t]) rfl ?_
  refine j_OI (j_callV (av := [vL (l9 + (kJ 8)), vI (kI 8)]) (st := []) hx hr (Or.inl q3501) q3503 qs210 rfl md_frn_faultsLoad np_frn_faultsLoad (crn_faultsLoad t (l9 + (kJ 8)) (kI 8) W) (by decide) (Nat.le_of_ble_eq_true rfl) h20 (by decide) (by decide +kernel)) (fun q22 _ => ?_)
  refine j_if_eq hx (off := 34) (tgt := 214) (by decide +kernel) (by decide) (fun _ => ?_) (fun _ => ?_)
  · exact wrn_pair_214 h l4 l5 l6 l7 l9 W
  refine j_goto hx (off := 29) (by decide +kernel) (tgt := 212) (by decide) ?_
  refine j_lv (lv' := [(0, vR t), (1, vI a1), (2, vI a2), (3, vI a3)]) ⟨rfl, rfl, rfl, rfl, trivial⟩ ?_
  exact wrn_pair_212 h W
theorem wrn_pair_85 {x : jCx} {en : (Int32 × jW) → Option (Outcome × jW)} {t : Nat} {a1 : Int32} {a2 : Int32} {a3 : Int32} (h : hrn_pair x en t a1 a2 a3) (l4 : Int32) (l5 : Int32) (l6 : Int32) (l7 : Int64) (s0 : Int64) (W : jW) : jJ x 11 85 [(0, vR t), (1, vI a1), (2, vI a2), (3, vI a3), (4, vI l4), (5, vI l5), (6, vI l6), (7, vL l7)] [vL s0] W (frn_pair_85 t a1 a2 a3 l4 l5 l6 l7 s0 W) en := by
  have h0 := h
  obtain ⟨hx, hm, hr, he⟩ := h0
  unfold frn_pair_85
  refine j_runA hx 2 (tb := [(85, .lstore 9), (87, .iload 6)]) (jtb_ok (by decide +kernel)) (pc' := 89) (lv' := [(9, vL s0), (0, vR t), (1, vI a1), (2, vI a2), (3, vI a3), (4, vI l4), (5, vI l5), (6, vI l6), (7, vL l7)]) (st' := [vI l6]) rfl ?_
  refine j_if_eq hx (off := 32) (tgt := 121) (by decide +kernel) (by decide) (fun _ => ?_) (fun _ => ?_)
  · refine j_runA hx 4 (tb := [(121, .aload_n 0), (122, .iload_n 2), (123, .lload 9), (125, .bipush 8)]) (jtb_ok (by decide +kernel)) (pc' := 127) (lv' := [(9, vL s0), (0, vR t), (1, vI a1), (2, vI a2), (3, vI a3), (4, vI l4), (5, vI l5), (6, vI l6), (7, vL l7)]) (st' := [vI (kI 8), vL s0, vI a2, vR t]) rfl ?_
    refine j_gd (fun h10 => ?_)
    refine j_OI (j_callV (av := [vI a2, vL s0, vI (kI 8)]) (st := []) hx hr (Or.inl q3497) q3499 qs209 rfl md_frn_stopsStore np_frn_stopsStore (crn_stopsStore t a2 s0 (kI 8) W) (by decide) (Nat.le_of_ble_eq_true rfl) h10 (by decide) (by decide +kernel)) (fun q11 _ => ?_)
    refine j_if_ne hx (off := 20) (tgt := 150) (by decide +kernel) (by decide) (fun _ => ?_) (fun _ => ?_)
    · refine j_lv (lv' := [(0, vR t), (1, vI a1), (2, vI a2), (3, vI a3)]) ⟨rfl, rfl, rfl, rfl, trivial⟩ ?_
      exact wrn_pair_150 h W
    refine j_runA hx 3 (tb := [(133, .aload_n 0), (134, .iload 4), (136, .lload 9)]) (jtb_ok (by decide +kernel)) (pc' := 138) (lv' := [(9, vL s0), (0, vR t), (1, vI a1), (2, vI a2), (3, vI a3), (4, vI l4), (5, vI l5), (6, vI l6), (7, vL l7)]) (st' := [vL s0, vI l4, vR t]) rfl ?_
    refine j_ldc2 hx (v := (kJ 8)) (jkd2 q3471 (by decide +kernel)) (by decide +kernel) ?_
    refine j_runA hx 2 (tb := [(141, .ladd), (142, .bipush 8)]) (jtb_ok (by decide +kernel)) (pc' := 144) (lv' := [(9, vL s0), (0, vR t), (1, vI a1), (2, vI a2), (3, vI a3), (4, vI l4), (5, vI l5), (6, vI l6), (7, vL l7)]) (st' := [vI (kI 8), vL (s0 + (kJ 8)), vI l4, vR t]) rfl ?_
    refine j_OI (j_callV (av := [vI l4, vL (s0 + (kJ 8)), vI (kI 8)]) (st := []) hx hr (Or.inl q3497) q3499 qs209 rfl md_frn_stopsStore np_frn_stopsStore (crn_stopsStore t l4 (s0 + (kJ 8)) (kI 8) W) (by decide) (Nat.le_of_ble_eq_true rfl) h10 (by decide) (by decide +kernel)) (fun q12 _ => ?_)
    refine j_if_eq hx (off := 5) (tgt := 152) (by decide +kernel) (by decide) (fun _ => ?_) (fun _ => ?_)
    · refine j_lv (lv' := [(0, vR t), (1, vI a1), (2, vI a2), (3, vI a3), (4, vI l4), (5, vI l5), (6, vI l6), (7, vL l7), (9, vL s0)]) ⟨rfl, rfl, rfl, rfl, rfl, rfl, rfl, rfl, rfl, trivial⟩ ?_
      exact wrn_pair_152 h l4 l5 l6 l7 s0 W
    refine j_lv (lv' := [(0, vR t), (1, vI a1), (2, vI a2), (3, vI a3)]) ⟨rfl, rfl, rfl, rfl, trivial⟩ ?_
    exact wrn_pair_150 h W
  refine j_runA hx 3 (tb := [(92, .aload_n 0), (93, .lload 9), (95, .bipush 8)]) (jtb_ok (by decide +kernel)) (pc' := 97) (lv' := [(9, vL s0), (0, vR t), (1, vI a1), (2, vI a2), (3, vI a3), (4, vI l4), (5, vI l5), (6, vI l6), (7, vL l7)]) (st' := [vI (kI 8), vL s0, vR t]) rfl ?_
  refine j_gd (fun h13 => ?_)
  refine j_OI (j_callV (av := [vL s0, vI (kI 8)]) (st := []) hx hr (Or.inl q3473) q3475 qs205 rfl md_frn_stopsLoad np_frn_stopsLoad (crn_stopsLoad t s0 (kI 8) W) (by decide) (Nat.le_of_ble_eq_true rfl) h13 (by decide) (by decide +kernel)) (fun q14 _ => ?_)
  refine j_if_ne hx (off := 50) (tgt := 150) (by decide +kernel) (by decide) (fun _ => ?_) (fun _ => ?_)
  · refine j_lv (lv' := [(0, vR t), (1, vI a1), (2, vI a2), (3, vI a3)]) ⟨rfl, rfl, rfl, rfl, trivial⟩ ?_
    exact wrn_pair_150 h W
  refine j_runA hx 2 (tb := [(103, .aload_n 0), (104, .lload 9)]) (jtb_ok (by decide +kernel)) (pc' := 106) (lv' := [(9, vL s0), (0, vR t), (1, vI a1), (2, vI a2), (3, vI a3), (4, vI l4), (5, vI l5), (6, vI l6), (7, vL l7)]) (st' := [vL s0, vR t]) rfl ?_
  refine j_ldc2 hx (v := (kJ 8)) (jkd2 q3471 (by decide +kernel)) (by decide +kernel) ?_
  refine j_runA hx 2 (tb := [(109, .ladd), (110, .bipush 8)]) (jtb_ok (by decide +kernel)) (pc' := 112) (lv' := [(9, vL s0), (0, vR t), (1, vI a1), (2, vI a2), (3, vI a3), (4, vI l4), (5, vI l5), (6, vI l6), (7, vL l7)]) (st' := [vI (kI 8), vL (s0 + (kJ 8)), vR t]) rfl ?_
  refine j_OI (j_callV (av := [vL (s0 + (kJ 8)), vI (kI 8)]) (st := []) hx hr (Or.inl q3473) q3475 qs205 rfl md_frn_stopsLoad np_frn_stopsLoad (crn_stopsLoad t (s0 + (kJ 8)) (kI 8) W) (by decide) (Nat.le_of_ble_eq_true rfl) h13 (by decide) (by decide +kernel)) (fun q15 _ => ?_)
  refine j_if_eq hx (off := 37) (tgt := 152) (by decide +kernel) (by decide) (fun _ => ?_) (fun _ => ?_)
  · refine j_lv (lv' := [(0, vR t), (1, vI a1), (2, vI a2), (3, vI a3), (4, vI l4), (5, vI l5), (6, vI l6), (7, vL l7), (9, vL s0)]) ⟨rfl, rfl, rfl, rfl, rfl, rfl, rfl, rfl, rfl, trivial⟩ ?_
    exact wrn_pair_152 h l4 l5 l6 l7 s0 W
  refine j_goto hx (off := 32) (by decide +kernel) (tgt := 150) (by decide) ?_
  refine j_lv (lv' := [(0, vR t), (1, vI a1), (2, vI a2), (3, vI a3)]) ⟨rfl, rfl, rfl, rfl, trivial⟩ ?_
  exact wrn_pair_150 h W
theorem wrn_pair_34 {x : jCx} {en : (Int32 × jW) → Option (Outcome × jW)} {t : Nat} {a1 : Int32} {a2 : Int32} {a3 : Int32} (h : hrn_pair x en t a1 a2 a3) (l4 : Int32) (l5 : Int32) (s0 : Int32) (W : jW) : jJ x 11 34 [(0, vR t), (1, vI a1), (2, vI a2), (3, vI a3), (4, vI l4), (5, vI l5)] [vI s0] W (frn_pair_34 t a1 a2 a3 l4 l5 s0 W) en := by
  have h0 := h
  obtain ⟨hx, hm, hr, he⟩ := h0
  unfold frn_pair_34
  refine j_runA hx 3 (tb := [(34, .istore 6), (36, .aload_n 0), (37, .iload_n 3)]) (jtb_ok (by decide +kernel)) (pc' := 38) (lv' := [(6, vI s0), (0, vR t), (1, vI a1), (2, vI a2), (3, vI a3), (4, vI l4), (5, vI l5)]) (st' := [vI a3, vR t]) rfl ?_
  refine j_gd (fun h4 => ?_)
  refine j_OI (j_callV (av := [vI a3]) (st := []) hx hr (Or.inl q3402) q3404 qs192 rfl md_frn_isCodeOrStack np_frn_isCodeOrStack (crn_isCodeOrStack t a3 W) (by decide) (Nat.le_of_ble_eq_true rfl) h4 (by decide) (by decide +kernel)) (fun q5 _ => ?_)
  refine j_if_eq hx (off := 5) (tgt := 46) (by decide +kernel) (by decide) (fun _ => ?_) (fun _ => ?_)
  · refine j_ldc2 hx (v := (kJ 8)) (jkd2 q3471 (by decide +kernel)) (by decide +kernel) ?_
    refine j_runA hx 3 (tb := [(49, .iload_n 1), (50, .bipush 15), (52, .bipush 7)]) (jtb_ok (by decide +kernel)) (pc' := 54) (lv' := [(6, vI s0), (0, vR t), (1, vI a1), (2, vI a2), (3, vI a3), (4, vI l4), (5, vI l5)]) (st' := [vI (kI 7), vI (kI 15), vI a1, vL (kJ 8)]) rfl ?_
    refine j_TI (j_callS (av := [vI a1, vI (kI 15), vI (kI 7)]) (st := [vL (kJ 8)]) hx hr (Or.inr ⟨_, q3472⟩) q3027 q241 md_fmo_signed np_fmo_signed (cmo_signed a1 (kI 15) (kI 7) W) (by decide) (Nat.le_of_ble_eq_true rfl) (by decide +kernel)) ?_
    refine j_runA hx 3 (tb := [(57, .i2l), (58, .lmul), (59, .lstore 7)]) (jtb_ok (by decide +kernel)) (pc' := 61) (lv' := [(7, vL ((kJ 8) * ((fmo_signed a1 (kI 15) (kI 7)).toInt64))), (6, vI s0), (0, vR t), (1, vI a1), (2, vI a2), (3, vI a3), (4, vI l4), (5, vI l5)]) (st' := []) rfl ?_
    refine j_let (v := ((kJ 8) * ((fmo_signed a1 (kI 15) (kI 7)).toInt64))) (lv := fun v6 => [(7, vL v6), (6, vI s0), (0, vR t), (1, vI a1), (2, vI a2), (3, vI a3), (4, vI l4), (5, vI l5)]) (st := fun _ => []) (fun v6 => ?_)
    refine j_runA hx 2 (tb := [(61, .iload 5), (63, .iconst 1)]) (jtb_ok (by decide +kernel)) (pc' := 64) (lv' := [(7, vL v6), (6, vI s0), (0, vR t), (1, vI a1), (2, vI a2), (3, vI a3), (4, vI l4), (5, vI l5)]) (st' := [vI (kI 1), vI l5]) rfl ?_
    refine j_icmp_ne hx (off := 12) (tgt := 76) (by decide +kernel) (by decide) (fun _ => ?_) (fun _ => ?_)
    · refine j_runA hx 1 (tb := [(76, .aload_n 0)]) (jtb_ok (by decide +kernel)) (pc' := 77) (lv' := [(7, vL v6), (6, vI s0), (0, vR t), (1, vI a1), (2, vI a2), (3, vI a3), (4, vI l4), (5, vI l5)]) (st' := [vR t]) rfl ?_
      refine j_getR hx flX11_9 kl1603 h4 (by decide) (by decide +kernel) ?_
      refine j_runA hx 1 (tb := [(80, .iload_n 3)]) (jtb_ok (by decide +kernel)) (pc' := 81) (lv' := [(7, vL v6), (6, vI s0), (0, vR t), (1, vI a1), (2, vI a2), (3, vI a3), (4, vI l4), (5, vI l5)]) (st' := [vI a3, vR (jR W 1603 t)]) rfl ?_
      refine j_gd (fun h7 => ?_)
      refine j_lald hx (f := 1603) (o := t) kd1603 rfl (by decide +kernel) h7 ?_
      refine j_runA hx 2 (tb := [(82, .lload 7), (84, .ladd)]) (jtb_ok (by decide +kernel)) (pc' := 85) (lv' := [(7, vL v6), (6, vI s0), (0, vR t), (1, vI a1), (2, vI a2), (3, vI a3), (4, vI l4), (5, vI l5)]) (st' := [vL ((jB W 1603 t (ix a3)) + v6)]) rfl ?_
      refine j_lv (lv' := [(0, vR t), (1, vI a1), (2, vI a2), (3, vI a3), (4, vI l4), (5, vI l5), (6, vI s0), (7, vL v6)]) ⟨rfl, rfl, rfl, rfl, rfl, rfl, rfl, rfl, trivial⟩ ?_
      exact wrn_pair_85 h l4 l5 s0 v6 ((jB W 1603 t (ix a3)) + v6) W
    refine j_runA hx 1 (tb := [(67, .aload_n 0)]) (jtb_ok (by decide +kernel)) (pc' := 68) (lv' := [(7, vL v6), (6, vI s0), (0, vR t), (1, vI a1), (2, vI a2), (3, vI a3), (4, vI l4), (5, vI l5)]) (st' := [vR t]) rfl ?_
    refine j_getR hx flX11_9 kl1603 h4 (by decide) (by decide +kernel) ?_
    refine j_runA hx 1 (tb := [(71, .iload_n 3)]) (jtb_ok (by decide +kernel)) (pc' := 72) (lv' := [(7, vL v6), (6, vI s0), (0, vR t), (1, vI a1), (2, vI a2), (3, vI a3), (4, vI l4), (5, vI l5)]) (st' := [vI a3, vR (jR W 1603 t)]) rfl ?_
    refine j_gd (fun h8 => ?_)
    refine j_lald hx (f := 1603) (o := t) kd1603 rfl (by decide +kernel) h8 ?_
    refine j_goto hx (off := 12) (by decide +kernel) (tgt := 85) (by decide) ?_
    refine j_lv (lv' := [(0, vR t), (1, vI a1), (2, vI a2), (3, vI a3), (4, vI l4), (5, vI l5), (6, vI s0), (7, vL v6)]) ⟨rfl, rfl, rfl, rfl, rfl, rfl, rfl, rfl, trivial⟩ ?_
    exact wrn_pair_85 h l4 l5 s0 v6 (jB W 1603 t (ix a3)) W
  refine j_runA hx 1 (tb := [(44, .iconst 3)]) (jtb_ok (by decide +kernel)) (pc' := 45) (lv' := [(6, vI s0), (0, vR t), (1, vI a1), (2, vI a2), (3, vI a3), (4, vI l4), (5, vI l5)]) (st' := [vI (kI 3)]) rfl ?_
  exact j_iret hx hm (by decide +kernel) rfl (he _)
theorem wrn_pair {x : jCx} {en : (Int32 × jW) → Option (Outcome × jW)} {t : Nat} {a1 : Int32} {a2 : Int32} {a3 : Int32} (h : hrn_pair x en t a1 a2 a3) (W : jW) : jJ x 11 0 [(0, vR t), (1, vI a1), (2, vI a2), (3, vI a3)] [] W (frn_pair t a1 a2 a3 W) en := by
  have h0 := h
  obtain ⟨hx, hm, hr, he⟩ := h0
  unfold frn_pair
  refine j_runA hx 3 (tb := [(0, .iload_n 1), (1, .bipush 10), (3, .iconst 5)]) (jtb_ok (by decide +kernel)) (pc' := 4) (lv' := [(0, vR t), (1, vI a1), (2, vI a2), (3, vI a3)]) (st' := [vI (kI 5), vI (kI 10), vI a1]) rfl ?_
  refine j_TI (j_callS (av := [vI a1, vI (kI 10), vI (kI 5)]) (st := []) hx hr (Or.inr ⟨_, q3393⟩) q2964 q241 md_fmo_bits np_fmo_bits (cmo_bits a1 (kI 10) (kI 5) W) (by decide) (Nat.le_of_ble_eq_true rfl) (by decide +kernel)) ?_
  refine j_runA hx 1 (tb := [(7, .istore 4)]) (jtb_ok (by decide +kernel)) (pc' := 9) (lv' := [(4, vI (fmo_bits a1 (kI 10) (kI 5))), (0, vR t), (1, vI a1), (2, vI a2), (3, vI a3)]) (st' := []) rfl ?_
  refine j_let (v := (fmo_bits a1 (kI 10) (kI 5))) (lv := fun v1 => [(4, vI v1), (0, vR t), (1, vI a1), (2, vI a2), (3, vI a3)]) (st := fun _ => []) (fun v1 => ?_)
  refine j_runA hx 3 (tb := [(9, .iload_n 1), (10, .bipush 23), (12, .iconst 2)]) (jtb_ok (by decide +kernel)) (pc' := 13) (lv' := [(4, vI v1), (0, vR t), (1, vI a1), (2, vI a2), (3, vI a3)]) (st' := [vI (kI 2), vI (kI 23), vI a1]) rfl ?_
  refine j_TI (j_callS (av := [vI a1, vI (kI 23), vI (kI 2)]) (st := []) hx hr (Or.inr ⟨_, q3393⟩) q2964 q241 md_fmo_bits np_fmo_bits (cmo_bits a1 (kI 23) (kI 2) W) (by decide) (Nat.le_of_ble_eq_true rfl) (by decide +kernel)) ?_
  refine j_runA hx 1 (tb := [(16, .istore 5)]) (jtb_ok (by decide +kernel)) (pc' := 18) (lv' := [(5, vI (fmo_bits a1 (kI 23) (kI 2))), (4, vI v1), (0, vR t), (1, vI a1), (2, vI a2), (3, vI a3)]) (st' := []) rfl ?_
  refine j_let (v := (fmo_bits a1 (kI 23) (kI 2))) (lv := fun v2 => [(5, vI v2), (4, vI v1), (0, vR t), (1, vI a1), (2, vI a2), (3, vI a3)]) (st := fun _ => []) (fun v2 => ?_)
  refine j_runA hx 3 (tb := [(18, .iload_n 1), (19, .bipush 22), (21, .iconst 1)]) (jtb_ok (by decide +kernel)) (pc' := 22) (lv' := [(5, vI v2), (4, vI v1), (0, vR t), (1, vI a1), (2, vI a2), (3, vI a3)]) (st' := [vI (kI 1), vI (kI 22), vI a1]) rfl ?_
  refine j_TI (j_callS (av := [vI a1, vI (kI 22), vI (kI 1)]) (st := []) hx hr (Or.inr ⟨_, q3393⟩) q2964 q241 md_fmo_bits np_fmo_bits (cmo_bits a1 (kI 22) (kI 1) W) (by decide) (Nat.le_of_ble_eq_true rfl) (by decide +kernel)) ?_
  refine j_runA hx 1 (tb := [(25, .iconst 1)]) (jtb_ok (by decide +kernel)) (pc' := 26) (lv' := [(5, vI v2), (4, vI v1), (0, vR t), (1, vI a1), (2, vI a2), (3, vI a3)]) (st' := [vI (kI 1), vI (fmo_bits a1 (kI 22) (kI 1))]) rfl ?_
  refine j_icmp_ne hx (off := 7) (tgt := 33) (by decide +kernel) (by decide) (fun _ => ?_) (fun _ => ?_)
  · refine j_runA hx 1 (tb := [(33, .iconst 0)]) (jtb_ok (by decide +kernel)) (pc' := 34) (lv' := [(5, vI v2), (4, vI v1), (0, vR t), (1, vI a1), (2, vI a2), (3, vI a3)]) (st' := [vI (kI 0)]) rfl ?_
    refine j_lv (lv' := [(0, vR t), (1, vI a1), (2, vI a2), (3, vI a3), (4, vI v1), (5, vI v2)]) ⟨rfl, rfl, rfl, rfl, rfl, rfl, trivial⟩ ?_
    exact wrn_pair_34 h v1 v2 (kI 0) W
  refine j_runA hx 1 (tb := [(29, .iconst 1)]) (jtb_ok (by decide +kernel)) (pc' := 30) (lv' := [(5, vI v2), (4, vI v1), (0, vR t), (1, vI a1), (2, vI a2), (3, vI a3)]) (st' := [vI (kI 1)]) rfl ?_
  refine j_goto hx (off := 4) (by decide +kernel) (tgt := 34) (by decide) ?_
  refine j_lv (lv' := [(0, vR t), (1, vI a1), (2, vI a2), (3, vI a3), (4, vI v1), (5, vI v2)]) ⟨rfl, rfl, rfl, rfl, rfl, rfl, trivial⟩ ?_
  exact wrn_pair_34 h v1 v2 (kI 1) W
theorem crn_pair (t : Nat) (a1 : Int32) (a2 : Int32) (a3 : Int32) (W : jW) : jM yX11_pair cX11_pair 11 (Option.some Jvm.ClassFile.FieldType.int) [] 4 74 [vR t, vI a1, vI a2, vI a3] W ((frn_pair t a1 a2 a3 W).bind (fun q => some (.returned (some (.int q.1)), q.2))) := 
  jM.of (Nat.le_of_ble_eq_true rfl) (fun x hx hm hr => wrn_pair ⟨hx, hm, hr, fun _ => rfl⟩ W)
def hrn_moveOne (x : jCx) (en : (Int32 × jW) → Option (Outcome × jW)) (t : Nat) (a1 : Int32) (a2 : Int32) (a3 : Int32) (a4 : Int32) (a5 : Int32) : Prop :=
  jOK x RX11 cX11_moveOne 11 ∧
  jMt x "moveOne" (Option.some Jvm.ClassFile.FieldType.int) [] ∧
  jRm x 4 74 ∧
  (∀ q : Int32 × jW, en q = some (.returned (some (.int q.1)), q.2))
theorem wrn_moveOne_48 {x : jCx} {en : (Int32 × jW) → Option (Outcome × jW)} {t : Nat} {a1 : Int32} {a2 : Int32} {a3 : Int32} {a4 : Int32} {a5 : Int32} (h : hrn_moveOne x en t a1 a2 a3 a4 a5) (W : jW) : jJ x 11 48 [(0, vR t), (1, vI a1), (2, vI a2), (3, vI a3), (4, vI a4), (5, vI a5)] [] W (frn_moveOne_48 t a1 a2 a3 a4 a5 W) en := by
  have h0 := h
  obtain ⟨hx, hm, hr, he⟩ := h0
  unfold frn_moveOne_48
  refine j_runA hx 1 (tb := [(48, .iconst 3)]) (jtb_ok (by decide +kernel)) (pc' := 49) (lv' := [(0, vR t), (1, vI a1), (2, vI a2), (3, vI a3), (4, vI a4), (5, vI a5)]) (st' := [vI (kI 3)]) rfl ?_
  exact j_iret hx hm (by decide +kernel) rfl (he _)
theorem wrn_moveOne_195 {x : jCx} {en : (Int32 × jW) → Option (Outcome × jW)} {t : Nat} {a1 : Int32} {a2 : Int32} {a3 : Int32} {a4 : Int32} {a5 : Int32} (h : hrn_moveOne x en t a1 a2 a3 a4 a5) (W : jW) : jJ x 11 195 [(0, vR t), (1, vI a1), (2, vI a2), (3, vI a3), (4, vI a4), (5, vI a5)] [] W (frn_moveOne_195 t a1 a2 a3 a4 a5 W) en := by
  have h0 := h
  obtain ⟨hx, hm, hr, he⟩ := h0
  unfold frn_moveOne_195
  refine j_runA hx 1 (tb := [(195, .iconst (-1))]) (jtb_ok (by decide +kernel)) (pc' := 196) (lv' := [(0, vR t), (1, vI a1), (2, vI a2), (3, vI a3), (4, vI a4), (5, vI a5)]) (st' := [vI (kI (-1))]) rfl ?_
  exact j_iret hx hm (by decide +kernel) rfl (he _)
theorem wrn_moveOne_192 {x : jCx} {en : (Int32 × jW) → Option (Outcome × jW)} {t : Nat} {a1 : Int32} {a2 : Int32} {a3 : Int32} {a4 : Int32} {a5 : Int32} (h : hrn_moveOne x en t a1 a2 a3 a4 a5) (s0 : Int32) (s1 : Int32) (s2 : Int64) (s3 : Int32) (s4 : Nat) (W : jW) : jJ x 11 192 [(0, vR t), (1, vI a1), (2, vI a2), (3, vI a3), (4, vI a4), (5, vI a5)] [vI s0, vI s1, vL s2, vI s3, vR s4] W (frn_moveOne_192 t a1 a2 a3 a4 a5 s0 s1 s2 s3 s4 W) en := by
  have h0 := h
  obtain ⟨hx, hm, hr, he⟩ := h0
  unfold frn_moveOne_192
  refine j_gd (fun h24 => ?_)
  refine j_WV (j_callV (av := [vI s3, vL s2, vI s1, vI s0]) (st := []) hx hr (Or.inl q3513) q3515 qs213 rfl md_frn_load np_frn_load (crn_load s4 s3 s2 s1 s0 W) (by decide) (Nat.le_of_ble_eq_true rfl) h24 (by decide) (by decide +kernel)) (fun q25 _ => ?_)
  exact wrn_moveOne_195 h q25
theorem wrn_moveOne_102 {x : jCx} {en : (Int32 × jW) → Option (Outcome × jW)} {t : Nat} {a1 : Int32} {a2 : Int32} {a3 : Int32} {a4 : Int32} {a5 : Int32} (h : hrn_moveOne x en t a1 a2 a3 a4 a5) (l7 : Int32) (l8 : Int32) (s0 : Int64) (s1 : Int64) (W : jW) : jJ x 11 102 [(0, vR t), (1, vI a1), (2, vI a2), (3, vI a3), (4, vI a4), (5, vI a5), (7, vI l7), (8, vI l8)] [vL s0, vL s1] W (frn_moveOne_102 t a1 a2 a3 a4 a5 l7 l8 s0 s1 W) en := by
  have h0 := h
  obtain ⟨hx, hm, hr, he⟩ := h0
  unfold frn_moveOne_102
  refine j_runA hx 2 (tb := [(102, .ladd), (103, .lstore 9)]) (jtb_ok (by decide +kernel)) (pc' := 105) (lv' := [(9, vL (s1 + s0)), (0, vR t), (1, vI a1), (2, vI a2), (3, vI a3), (4, vI a4), (5, vI a5), (7, vI l7), (8, vI l8)]) (st' := []) rfl ?_
  refine j_let (v := (s1 + s0)) (lv := fun v13 => [(9, vL v13), (0, vR t), (1, vI a1), (2, vI a2), (3, vI a3), (4, vI a4), (5, vI a5), (7, vI l7), (8, vI l8)]) (st := fun _ => []) (fun v13 => ?_)
  refine j_runA hx 1 (tb := [(105, .iload 8)]) (jtb_ok (by decide +kernel)) (pc' := 107) (lv' := [(9, vL v13), (0, vR t), (1, vI a1), (2, vI a2), (3, vI a3), (4, vI a4), (5, vI a5), (7, vI l7), (8, vI l8)]) (st' := [vI l8]) rfl ?_
  refine j_if_ne hx (off := 42) (tgt := 149) (by decide +kernel) (by decide) (fun _ => ?_) (fun _ => ?_)
  · refine j_runA hx 3 (tb := [(149, .aload_n 0), (150, .lload 9), (152, .iload 7)]) (jtb_ok (by decide +kernel)) (pc' := 154) (lv' := [(9, vL v13), (0, vR t), (1, vI a1), (2, vI a2), (3, vI a3), (4, vI a4), (5, vI a5), (7, vI l7), (8, vI l8)]) (st' := [vI l7, vL v13, vR t]) rfl ?_
    refine j_gd (fun h14 => ?_)
    refine j_OI (j_callV (av := [vL v13, vI l7]) (st := []) hx hr (Or.inl q3473) q3475 qs205 rfl md_frn_stopsLoad np_frn_stopsLoad (crn_stopsLoad t v13 l7 W) (by decide) (Nat.le_of_ble_eq_true rfl) h14 (by decide) (by decide +kernel)) (fun q15 _ => ?_)
    refine j_if_eq hx (off := 5) (tgt := 162) (by decide +kernel) (by decide) (fun _ => ?_) (fun _ => ?_)
    · refine j_runA hx 3 (tb := [(162, .aload_n 0), (163, .lload 9), (165, .iload 7)]) (jtb_ok (by decide +kernel)) (pc' := 167) (lv' := [(9, vL v13), (0, vR t), (1, vI a1), (2, vI a2), (3, vI a3), (4, vI a4), (5, vI a5), (7, vI l7), (8, vI l8)]) (st' := [vI l7, vL v13, vR t]) rfl ?_
      refine j_OI (j_callV (av := [vL v13, vI l7]) (st := []) hx hr (Or.inl q3501) q3503 qs210 rfl md_frn_faultsLoad np_frn_faultsLoad (crn_faultsLoad t v13 l7 W) (by decide) (Nat.le_of_ble_eq_true rfl) h14 (by decide) (by decide +kernel)) (fun q16 _ => ?_)
      refine j_if_eq hx (off := 5) (tgt := 175) (by decide +kernel) (by decide) (fun _ => ?_) (fun _ => ?_)
      · refine j_runA hx 6 (tb := [(175, .aload_n 0), (176, .iload_n 2), (177, .lload 9), (179, .iload 7), (181, .iload 8), (183, .iconst 2)]) (jtb_ok (by decide +kernel)) (pc' := 184) (lv' := [(9, vL v13), (0, vR t), (1, vI a1), (2, vI a2), (3, vI a3), (4, vI a4), (5, vI a5), (7, vI l7), (8, vI l8)]) (st' := [vI (kI 2), vI l8, vI l7, vL v13, vI a2, vR t]) rfl ?_
        refine j_icmp_ne hx (off := 7) (tgt := 191) (by decide +kernel) (by decide) (fun _ => ?_) (fun _ => ?_)
        · refine j_runA hx 1 (tb := [(191, .iconst 0)]) (jtb_ok (by decide +kernel)) (pc' := 192) (lv' := [(9, vL v13), (0, vR t), (1, vI a1), (2, vI a2), (3, vI a3), (4, vI a4), (5, vI a5), (7, vI l7), (8, vI l8)]) (st' := [vI (kI 0), vI l7, vL v13, vI a2, vR t]) rfl ?_
          refine j_lv (lv' := [(0, vR t), (1, vI a1), (2, vI a2), (3, vI a3), (4, vI a4), (5, vI a5)]) ⟨rfl, rfl, rfl, rfl, rfl, rfl, trivial⟩ ?_
          exact wrn_moveOne_192 h (kI 0) l7 v13 a2 t W
        refine j_runA hx 1 (tb := [(187, .iconst 1)]) (jtb_ok (by decide +kernel)) (pc' := 188) (lv' := [(9, vL v13), (0, vR t), (1, vI a1), (2, vI a2), (3, vI a3), (4, vI a4), (5, vI a5), (7, vI l7), (8, vI l8)]) (st' := [vI (kI 1), vI l7, vL v13, vI a2, vR t]) rfl ?_
        refine j_goto hx (off := 4) (by decide +kernel) (tgt := 192) (by decide) ?_
        refine j_lv (lv' := [(0, vR t), (1, vI a1), (2, vI a2), (3, vI a3), (4, vI a4), (5, vI a5)]) ⟨rfl, rfl, rfl, rfl, rfl, rfl, trivial⟩ ?_
        exact wrn_moveOne_192 h (kI 1) l7 v13 a2 t W
      refine j_runA hx 1 (tb := [(173, .iconst 2)]) (jtb_ok (by decide +kernel)) (pc' := 174) (lv' := [(9, vL v13), (0, vR t), (1, vI a1), (2, vI a2), (3, vI a3), (4, vI a4), (5, vI a5), (7, vI l7), (8, vI l8)]) (st' := [vI (kI 2)]) rfl ?_
      exact j_iret hx hm (by decide +kernel) rfl (he _)
    refine j_runA hx 1 (tb := [(160, .iconst 3)]) (jtb_ok (by decide +kernel)) (pc' := 161) (lv' := [(9, vL v13), (0, vR t), (1, vI a1), (2, vI a2), (3, vI a3), (4, vI a4), (5, vI a5), (7, vI l7), (8, vI l8)]) (st' := [vI (kI 3)]) rfl ?_
    exact j_iret hx hm (by decide +kernel) rfl (he _)
  refine j_runA hx 4 (tb := [(110, .aload_n 0), (111, .iload_n 2), (112, .lload 9), (114, .iload 7)]) (jtb_ok (by decide +kernel)) (pc' := 116) (lv' := [(9, vL v13), (0, vR t), (1, vI a1), (2, vI a2), (3, vI a3), (4, vI a4), (5, vI a5), (7, vI l7), (8, vI l8)]) (st' := [vI l7, vL v13, vI a2, vR t]) rfl ?_
  refine j_gd (fun h17 => ?_)
  refine j_OI (j_callV (av := [vI a2, vL v13, vI l7]) (st := []) hx hr (Or.inl q3497) q3499 qs209 rfl md_frn_stopsStore np_frn_stopsStore (crn_stopsStore t a2 v13 l7 W) (by decide) (Nat.le_of_ble_eq_true rfl) h17 (by decide) (by decide +kernel)) (fun q18 _ => ?_)
  refine j_if_eq hx (off := 5) (tgt := 124) (by decide +kernel) (by decide) (fun _ => ?_) (fun _ => ?_)
  · refine j_runA hx 3 (tb := [(124, .aload_n 0), (125, .lload 9), (127, .iload 7)]) (jtb_ok (by decide +kernel)) (pc' := 129) (lv' := [(9, vL v13), (0, vR t), (1, vI a1), (2, vI a2), (3, vI a3), (4, vI a4), (5, vI a5), (7, vI l7), (8, vI l8)]) (st' := [vI l7, vL v13, vR t]) rfl ?_
    refine j_OI (j_callV (av := [vL v13, vI l7]) (st := []) hx hr (Or.inl q3505) q3507 qs211 rfl md_frn_faultsStore np_frn_faultsStore (crn_faultsStore t v13 l7 W) (by decide) (Nat.le_of_ble_eq_true rfl) h17 (by decide) (by decide +kernel)) (fun q19 _ => ?_)
    refine j_if_eq hx (off := 5) (tgt := 137) (by decide +kernel) (by decide) (fun _ => ?_) (fun _ => ?_)
    · refine j_runA hx 4 (tb := [(137, .aload_n 0), (138, .iload_n 2), (139, .lload 9), (141, .iload 7)]) (jtb_ok (by decide +kernel)) (pc' := 143) (lv' := [(9, vL v13), (0, vR t), (1, vI a1), (2, vI a2), (3, vI a3), (4, vI a4), (5, vI a5), (7, vI l7), (8, vI l8)]) (st' := [vI l7, vL v13, vI a2, vR t]) rfl ?_
      refine j_WV (j_callV (av := [vI a2, vL v13, vI l7]) (st := []) hx hr (Or.inl q3525) q3527 qs216 rfl md_frn_store np_frn_store (crn_store t a2 v13 l7 W) (by decide) (Nat.le_of_ble_eq_true rfl) h17 (by decide) (by decide +kernel)) (fun q20 _ => ?_)
      refine j_goto hx (off := 49) (by decide +kernel) (tgt := 195) (by decide) ?_
      refine j_lv (lv' := [(0, vR t), (1, vI a1), (2, vI a2), (3, vI a3), (4, vI a4), (5, vI a5)]) ⟨rfl, rfl, rfl, rfl, rfl, rfl, trivial⟩ ?_
      exact wrn_moveOne_195 h q20
    refine j_runA hx 1 (tb := [(135, .iconst 2)]) (jtb_ok (by decide +kernel)) (pc' := 136) (lv' := [(9, vL v13), (0, vR t), (1, vI a1), (2, vI a2), (3, vI a3), (4, vI a4), (5, vI a5), (7, vI l7), (8, vI l8)]) (st' := [vI (kI 2)]) rfl ?_
    exact j_iret hx hm (by decide +kernel) rfl (he _)
  refine j_runA hx 1 (tb := [(122, .iconst 3)]) (jtb_ok (by decide +kernel)) (pc' := 123) (lv' := [(9, vL v13), (0, vR t), (1, vI a1), (2, vI a2), (3, vI a3), (4, vI a4), (5, vI a5), (7, vI l7), (8, vI l8)]) (st' := [vI (kI 3)]) rfl ?_
  exact j_iret hx hm (by decide +kernel) rfl (he _)
theorem wrn_moveOne_86 {x : jCx} {en : (Int32 × jW) → Option (Outcome × jW)} {t : Nat} {a1 : Int32} {a2 : Int32} {a3 : Int32} {a4 : Int32} {a5 : Int32} (h : hrn_moveOne x en t a1 a2 a3 a4 a5) (l7 : Int32) (l8 : Int32) (s0 : Int32) (s1 : Int64) (s2 : Int64) (W : jW) : jJ x 11 86 [(0, vR t), (1, vI a1), (2, vI a2), (3, vI a3), (4, vI a4), (5, vI a5), (7, vI l7), (8, vI l8)] [vI s0, vL s1, vL s2] W (frn_moveOne_86 t a1 a2 a3 a4 a5 l7 l8 s0 s1 s2 W) en := by
  have h0 := h
  obtain ⟨hx, hm, hr, he⟩ := h0
  unfold frn_moveOne_86
  refine j_runA hx 1 (tb := [(86, .lshl)]) (jtb_ok (by decide +kernel)) (pc' := 87) (lv' := [(0, vR t), (1, vI a1), (2, vI a2), (3, vI a3), (4, vI a4), (5, vI a5), (7, vI l7), (8, vI l8)]) (st' := [vL (lxl s1 s0), vL s2]) rfl ?_
  refine j_goto hx (off := 15) (by decide +kernel) (tgt := 102) (by decide) ?_
  exact wrn_moveOne_102 h l7 l8 (lxl s1 s0) s2 W
theorem wrn_moveOne_50 {x : jCx} {en : (Int32 × jW) → Option (Outcome × jW)} {t : Nat} {a1 : Int32} {a2 : Int32} {a3 : Int32} {a4 : Int32} {a5 : Int32} (h : hrn_moveOne x en t a1 a2 a3 a4 a5) (l6 : Int32) (l7 : Int32) (l8 : Int32) (W : jW) : jJ x 11 50 [(0, vR t), (1, vI a1), (2, vI a2), (3, vI a3), (4, vI a4), (5, vI a5), (6, vI l6), (7, vI l7), (8, vI l8)] [] W (frn_moveOne_50 t a1 a2 a3 a4 a5 l6 l7 l8 W) en := by
  have h0 := h
  obtain ⟨hx, hm, hr, he⟩ := h0
  unfold frn_moveOne_50
  refine j_runA hx 1 (tb := [(50, .aload_n 0)]) (jtb_ok (by decide +kernel)) (pc' := 51) (lv' := [(0, vR t), (1, vI a1), (2, vI a2), (3, vI a3), (4, vI a4), (5, vI a5), (6, vI l6), (7, vI l7), (8, vI l8)]) (st' := [vR t]) rfl ?_
  refine j_gd (fun h8 => ?_)
  refine j_getR hx flX11_9 kl1603 h8 (by decide) (by decide +kernel) ?_
  refine j_runA hx 1 (tb := [(54, .iload_n 3)]) (jtb_ok (by decide +kernel)) (pc' := 55) (lv' := [(0, vR t), (1, vI a1), (2, vI a2), (3, vI a3), (4, vI a4), (5, vI a5), (6, vI l6), (7, vI l7), (8, vI l8)]) (st' := [vI a3, vR (jR W 1603 t)]) rfl ?_
  refine j_gd (fun h9 => ?_)
  refine j_lald hx (f := 1603) (o := t) kd1603 rfl (by decide +kernel) h9 ?_
  refine j_runA hx 2 (tb := [(56, .iload 5), (58, .bipush 10)]) (jtb_ok (by decide +kernel)) (pc' := 60) (lv' := [(0, vR t), (1, vI a1), (2, vI a2), (3, vI a3), (4, vI a4), (5, vI a5), (6, vI l6), (7, vI l7), (8, vI l8)]) (st' := [vI (kI 10), vI a5, vL (jB W 1603 t (ix a3))]) rfl ?_
  refine j_icmp_ne hx (off := 30) (tgt := 90) (by decide +kernel) (by decide) (fun _ => ?_) (fun _ => ?_)
  · refine j_runA hx 3 (tb := [(90, .iload_n 1), (91, .bipush 10), (93, .bipush 12)]) (jtb_ok (by decide +kernel)) (pc' := 95) (lv' := [(0, vR t), (1, vI a1), (2, vI a2), (3, vI a3), (4, vI a4), (5, vI a5), (6, vI l6), (7, vI l7), (8, vI l8)]) (st' := [vI (kI 12), vI (kI 10), vI a1, vL (jB W 1603 t (ix a3))]) rfl ?_
    refine j_TI (j_callS (av := [vI a1, vI (kI 10), vI (kI 12)]) (st := [vL (jB W 1603 t (ix a3))]) hx hr (Or.inr ⟨_, q3393⟩) q2964 q241 md_fmo_bits np_fmo_bits (cmo_bits a1 (kI 10) (kI 12) W) (by decide) (Nat.le_of_ble_eq_true rfl) (by decide +kernel)) ?_
    refine j_runA hx 3 (tb := [(98, .i2l), (99, .iload 6), (101, .lshl)]) (jtb_ok (by decide +kernel)) (pc' := 102) (lv' := [(0, vR t), (1, vI a1), (2, vI a2), (3, vI a3), (4, vI a4), (5, vI a5), (6, vI l6), (7, vI l7), (8, vI l8)]) (st' := [vL (lxl ((fmo_bits a1 (kI 10) (kI 12)).toInt64) l6), vL (jB W 1603 t (ix a3))]) rfl ?_
    refine j_lv (lv' := [(0, vR t), (1, vI a1), (2, vI a2), (3, vI a3), (4, vI a4), (5, vI a5), (7, vI l7), (8, vI l8)]) ⟨rfl, rfl, rfl, rfl, rfl, rfl, rfl, rfl, trivial⟩ ?_
    exact wrn_moveOne_102 h l7 l8 (lxl ((fmo_bits a1 (kI 10) (kI 12)).toInt64) l6) (jB W 1603 t (ix a3)) W
  refine j_runA hx 2 (tb := [(63, .aload_n 0), (64, .iload 4)]) (jtb_ok (by decide +kernel)) (pc' := 66) (lv' := [(0, vR t), (1, vI a1), (2, vI a2), (3, vI a3), (4, vI a4), (5, vI a5), (6, vI l6), (7, vI l7), (8, vI l8)]) (st' := [vI a4, vR t, vL (jB W 1603 t (ix a3))]) rfl ?_
  refine j_OL (j_callV (av := [vI a4]) (st := [vL (jB W 1603 t (ix a3))]) hx hr (Or.inl q3419) q3421 qs195 rfl md_frn_r np_frn_r (crn_r t a4 W) (by decide) (Nat.le_of_ble_eq_true rfl) h8 (by decide) (by decide +kernel)) (fun q10 _ => ?_)
  refine j_runA hx 3 (tb := [(69, .iload_n 1), (70, .bipush 12), (72, .iconst 1)]) (jtb_ok (by decide +kernel)) (pc' := 73) (lv' := [(0, vR t), (1, vI a1), (2, vI a2), (3, vI a3), (4, vI a4), (5, vI a5), (6, vI l6), (7, vI l7), (8, vI l8)]) (st' := [vI (kI 1), vI (kI 12), vI a1, vL q10, vL (jB W 1603 t (ix a3))]) rfl ?_
  refine j_TI (j_callS (av := [vI a1, vI (kI 12), vI (kI 1)]) (st := [vL q10, vL (jB W 1603 t (ix a3))]) hx hr (Or.inr ⟨_, q3393⟩) q2964 q241 md_fmo_bits np_fmo_bits (cmo_bits a1 (kI 12) (kI 1) W) (by decide) (Nat.le_of_ble_eq_true rfl) (by decide +kernel)) ?_
  refine j_runA hx 1 (tb := [(76, .iconst 1)]) (jtb_ok (by decide +kernel)) (pc' := 77) (lv' := [(0, vR t), (1, vI a1), (2, vI a2), (3, vI a3), (4, vI a4), (5, vI a5), (6, vI l6), (7, vI l7), (8, vI l8)]) (st' := [vI (kI 1), vI (fmo_bits a1 (kI 12) (kI 1)), vL q10, vL (jB W 1603 t (ix a3))]) rfl ?_
  refine j_icmp_ne hx (off := 8) (tgt := 85) (by decide +kernel) (by decide) (fun _ => ?_) (fun _ => ?_)
  · refine j_runA hx 1 (tb := [(85, .iconst 0)]) (jtb_ok (by decide +kernel)) (pc' := 86) (lv' := [(0, vR t), (1, vI a1), (2, vI a2), (3, vI a3), (4, vI a4), (5, vI a5), (6, vI l6), (7, vI l7), (8, vI l8)]) (st' := [vI (kI 0), vL q10, vL (jB W 1603 t (ix a3))]) rfl ?_
    refine j_lv (lv' := [(0, vR t), (1, vI a1), (2, vI a2), (3, vI a3), (4, vI a4), (5, vI a5), (7, vI l7), (8, vI l8)]) ⟨rfl, rfl, rfl, rfl, rfl, rfl, rfl, rfl, trivial⟩ ?_
    exact wrn_moveOne_86 h l7 l8 (kI 0) q10 (jB W 1603 t (ix a3)) W
  refine j_runA hx 1 (tb := [(80, .iload 6)]) (jtb_ok (by decide +kernel)) (pc' := 82) (lv' := [(0, vR t), (1, vI a1), (2, vI a2), (3, vI a3), (4, vI a4), (5, vI a5), (6, vI l6), (7, vI l7), (8, vI l8)]) (st' := [vI l6, vL q10, vL (jB W 1603 t (ix a3))]) rfl ?_
  refine j_goto hx (off := 4) (by decide +kernel) (tgt := 86) (by decide) ?_
  refine j_lv (lv' := [(0, vR t), (1, vI a1), (2, vI a2), (3, vI a3), (4, vI a4), (5, vI a5), (7, vI l7), (8, vI l8)]) ⟨rfl, rfl, rfl, rfl, rfl, rfl, rfl, rfl, trivial⟩ ?_
  exact wrn_moveOne_86 h l7 l8 l6 q10 (jB W 1603 t (ix a3)) W
theorem wrn_moveOne {x : jCx} {en : (Int32 × jW) → Option (Outcome × jW)} {t : Nat} {a1 : Int32} {a2 : Int32} {a3 : Int32} {a4 : Int32} {a5 : Int32} (h : hrn_moveOne x en t a1 a2 a3 a4 a5) (W : jW) : jJ x 11 0 [(0, vR t), (1, vI a1), (2, vI a2), (3, vI a3), (4, vI a4), (5, vI a5)] [] W (frn_moveOne t a1 a2 a3 a4 a5 W) en := by
  have h0 := h
  obtain ⟨hx, hm, hr, he⟩ := h0
  unfold frn_moveOne
  refine j_runA hx 3 (tb := [(0, .iload_n 1), (1, .bipush 30), (3, .iconst 2)]) (jtb_ok (by decide +kernel)) (pc' := 4) (lv' := [(0, vR t), (1, vI a1), (2, vI a2), (3, vI a3), (4, vI a4), (5, vI a5)]) (st' := [vI (kI 2), vI (kI 30), vI a1]) rfl ?_
  refine j_TI (j_callS (av := [vI a1, vI (kI 30), vI (kI 2)]) (st := []) hx hr (Or.inr ⟨_, q3393⟩) q2964 q241 md_fmo_bits np_fmo_bits (cmo_bits a1 (kI 30) (kI 2) W) (by decide) (Nat.le_of_ble_eq_true rfl) (by decide +kernel)) ?_
  refine j_runA hx 1 (tb := [(7, .istore 6)]) (jtb_ok (by decide +kernel)) (pc' := 9) (lv' := [(6, vI (fmo_bits a1 (kI 30) (kI 2))), (0, vR t), (1, vI a1), (2, vI a2), (3, vI a3), (4, vI a4), (5, vI a5)]) (st' := []) rfl ?_
  refine j_let (v := (fmo_bits a1 (kI 30) (kI 2))) (lv := fun v1 => [(6, vI v1), (0, vR t), (1, vI a1), (2, vI a2), (3, vI a3), (4, vI a4), (5, vI a5)]) (st := fun _ => []) (fun v1 => ?_)
  refine j_runA hx 4 (tb := [(9, .iconst 1), (10, .iload 6), (12, .ishl), (13, .istore 7)]) (jtb_ok (by decide +kernel)) (pc' := 15) (lv' := [(7, vI (ixl (kI 1) v1)), (6, vI v1), (0, vR t), (1, vI a1), (2, vI a2), (3, vI a3), (4, vI a4), (5, vI a5)]) (st' := []) rfl ?_
  refine j_let (v := (ixl (kI 1) v1)) (lv := fun v2 => [(7, vI v2), (6, vI v1), (0, vR t), (1, vI a1), (2, vI a2), (3, vI a3), (4, vI a4), (5, vI a5)]) (st := fun _ => []) (fun v2 => ?_)
  refine j_runA hx 3 (tb := [(15, .iload_n 1), (16, .bipush 22), (18, .iconst 2)]) (jtb_ok (by decide +kernel)) (pc' := 19) (lv' := [(7, vI v2), (6, vI v1), (0, vR t), (1, vI a1), (2, vI a2), (3, vI a3), (4, vI a4), (5, vI a5)]) (st' := [vI (kI 2), vI (kI 22), vI a1]) rfl ?_
  refine j_TI (j_callS (av := [vI a1, vI (kI 22), vI (kI 2)]) (st := []) hx hr (Or.inr ⟨_, q3393⟩) q2964 q241 md_fmo_bits np_fmo_bits (cmo_bits a1 (kI 22) (kI 2) W) (by decide) (Nat.le_of_ble_eq_true rfl) (by decide +kernel)) ?_
  refine j_runA hx 1 (tb := [(22, .istore 8)]) (jtb_ok (by decide +kernel)) (pc' := 24) (lv' := [(8, vI (fmo_bits a1 (kI 22) (kI 2))), (7, vI v2), (6, vI v1), (0, vR t), (1, vI a1), (2, vI a2), (3, vI a3), (4, vI a4), (5, vI a5)]) (st' := []) rfl ?_
  refine j_let (v := (fmo_bits a1 (kI 22) (kI 2))) (lv := fun v3 => [(8, vI v3), (7, vI v2), (6, vI v1), (0, vR t), (1, vI a1), (2, vI a2), (3, vI a3), (4, vI a4), (5, vI a5)]) (st := fun _ => []) (fun v3 => ?_)
  refine j_runA hx 2 (tb := [(24, .aload_n 0), (25, .iload_n 3)]) (jtb_ok (by decide +kernel)) (pc' := 26) (lv' := [(8, vI v3), (7, vI v2), (6, vI v1), (0, vR t), (1, vI a1), (2, vI a2), (3, vI a3), (4, vI a4), (5, vI a5)]) (st' := [vI a3, vR t]) rfl ?_
  refine j_gd (fun h4 => ?_)
  refine j_OI (j_callV (av := [vI a3]) (st := []) hx hr (Or.inl q3402) q3404 qs192 rfl md_frn_isCodeOrStack np_frn_isCodeOrStack (crn_isCodeOrStack t a3 W) (by decide) (Nat.le_of_ble_eq_true rfl) h4 (by decide) (by decide +kernel)) (fun q5 _ => ?_)
  refine j_if_ne hx (off := 19) (tgt := 48) (by decide +kernel) (by decide) (fun _ => ?_) (fun _ => ?_)
  · refine j_lv (lv' := [(0, vR t), (1, vI a1), (2, vI a2), (3, vI a3), (4, vI a4), (5, vI a5)]) ⟨rfl, rfl, rfl, rfl, rfl, rfl, trivial⟩ ?_
    exact wrn_moveOne_48 h W
  refine j_runA hx 2 (tb := [(32, .iload 5), (34, .bipush 10)]) (jtb_ok (by decide +kernel)) (pc' := 36) (lv' := [(8, vI v3), (7, vI v2), (6, vI v1), (0, vR t), (1, vI a1), (2, vI a2), (3, vI a3), (4, vI a4), (5, vI a5)]) (st' := [vI (kI 10), vI a5]) rfl ?_
  refine j_icmp_ne hx (off := 14) (tgt := 50) (by decide +kernel) (by decide) (fun _ => ?_) (fun _ => ?_)
  · refine j_lv (lv' := [(0, vR t), (1, vI a1), (2, vI a2), (3, vI a3), (4, vI a4), (5, vI a5), (6, vI v1), (7, vI v2), (8, vI v3)]) ⟨rfl, rfl, rfl, rfl, rfl, rfl, rfl, rfl, rfl, trivial⟩ ?_
    exact wrn_moveOne_50 h v1 v2 v3 W
  refine j_runA hx 2 (tb := [(39, .aload_n 0), (40, .iload 4)]) (jtb_ok (by decide +kernel)) (pc' := 42) (lv' := [(8, vI v3), (7, vI v2), (6, vI v1), (0, vR t), (1, vI a1), (2, vI a2), (3, vI a3), (4, vI a4), (5, vI a5)]) (st' := [vI a4, vR t]) rfl ?_
  refine j_OI (j_callV (av := [vI a4]) (st := []) hx hr (Or.inl q3415) q3417 qs194 rfl md_frn_isCode np_frn_isCode (crn_isCode t a4 W) (by decide) (Nat.le_of_ble_eq_true rfl) h4 (by decide) (by decide +kernel)) (fun q6 _ => ?_)
  refine j_if_eq hx (off := 5) (tgt := 50) (by decide +kernel) (by decide) (fun _ => ?_) (fun _ => ?_)
  · refine j_lv (lv' := [(0, vR t), (1, vI a1), (2, vI a2), (3, vI a3), (4, vI a4), (5, vI a5), (6, vI v1), (7, vI v2), (8, vI v3)]) ⟨rfl, rfl, rfl, rfl, rfl, rfl, rfl, rfl, rfl, trivial⟩ ?_
    exact wrn_moveOne_50 h v1 v2 v3 W
  refine j_lv (lv' := [(0, vR t), (1, vI a1), (2, vI a2), (3, vI a3), (4, vI a4), (5, vI a5)]) ⟨rfl, rfl, rfl, rfl, rfl, rfl, trivial⟩ ?_
  exact wrn_moveOne_48 h W
theorem crn_moveOne (t : Nat) (a1 : Int32) (a2 : Int32) (a3 : Int32) (a4 : Int32) (a5 : Int32) (W : jW) : jM yX11_moveOne cX11_moveOne 11 (Option.some Jvm.ClassFile.FieldType.int) [] 4 74 [vR t, vI a1, vI a2, vI a3, vI a4, vI a5] W ((frn_moveOne t a1 a2 a3 a4 a5 W).bind (fun q => some (.returned (some (.int q.1)), q.2))) := 
  jM.of (Nat.le_of_ble_eq_true rfl) (fun x hx hm hr => wrn_moveOne ⟨hx, hm, hr, fun _ => rfl⟩ W)
def hrn_work (x : jCx) (en : (Int32 × jW) → Option (Outcome × jW)) (t : Nat) (a1 : Int32) (a2 : Int32) (a3 : Int32) : Prop :=
  jOK x RX11 cX11_work 14 ∧
  jMt x "work" (Option.some Jvm.ClassFile.FieldType.int) [] ∧
  jRm x 5 96 ∧
  (∀ q : Int32 × jW, en q = some (.returned (some (.int q.1)), q.2))
theorem wrn_work_519 {x : jCx} {en : (Int32 × jW) → Option (Outcome × jW)} {t : Nat} {a1 : Int32} {a2 : Int32} {a3 : Int32} (h : hrn_work x en t a1 a2 a3) (l8 : Int32) (W : jW) : jJ x 14 519 [(0, vR t), (1, vI a1), (2, vI a2), (3, vI a3), (8, vI l8)] [] W (frn_work_519 t a1 a2 a3 l8 W) en := by
  have h0 := h
  obtain ⟨hx, hm, hr, he⟩ := h0
  unfold frn_work_519
  refine j_runA hx 1 (tb := [(519, .iload 8)]) (jtb_ok (by decide +kernel)) (pc' := 521) (lv' := [(0, vR t), (1, vI a1), (2, vI a2), (3, vI a3), (8, vI l8)]) (st' := [vI l8]) rfl ?_
  exact j_iret hx hm (by decide +kernel) rfl (he _)
theorem wrn_work_501 {x : jCx} {en : (Int32 × jW) → Option (Outcome × jW)} {t : Nat} {a1 : Int32} {a2 : Int32} {a3 : Int32} (h : hrn_work x en t a1 a2 a3) (l8 : Int32) (W : jW) : jJ x 14 501 [(0, vR t), (1, vI a1), (2, vI a2), (3, vI a3), (8, vI l8)] [] W (frn_work_501 t a1 a2 a3 l8 W) en := by
  have h0 := h
  obtain ⟨hx, hm, hr, he⟩ := h0
  unfold frn_work_501
  refine j_runA hx 2 (tb := [(501, .iload 8), (503, .iconst (-1))]) (jtb_ok (by decide +kernel)) (pc' := 504) (lv' := [(0, vR t), (1, vI a1), (2, vI a2), (3, vI a3), (8, vI l8)]) (st' := [vI (kI (-1)), vI l8]) rfl ?_
  refine j_icmp_ne hx (off := 15) (tgt := 519) (by decide +kernel) (by decide) (fun _ => ?_) (fun _ => ?_)
  · exact wrn_work_519 h l8 W
  refine j_runA hx 2 (tb := [(507, .aload_n 0), (508, .dup)]) (jtb_ok (by decide +kernel)) (pc' := 509) (lv' := [(0, vR t), (1, vI a1), (2, vI a2), (3, vI a3), (8, vI l8)]) (st' := [vR t, vR t]) rfl ?_
  refine j_gd (fun h84 => ?_)
  refine j_getL hx flX11_107 kd1623 h84 (by decide) (by decide +kernel) ?_
  refine j_ldc2 hx (v := (kJ 4)) (jkd2 q3365 (by decide +kernel)) (by decide +kernel) ?_
  refine j_runA hx 1 (tb := [(515, .ladd)]) (jtb_ok (by decide +kernel)) (pc' := 516) (lv' := [(0, vR t), (1, vI a1), (2, vI a2), (3, vI a3), (8, vI l8)]) (st' := [vL ((jL W 1623 t) + (kJ 4)), vR t]) rfl ?_
  refine j_putL hx fwX11_107 wf1623 kd1623 h84 (by decide) (by decide +kernel) (nl1623 _) (ff1623 _) ?_
  refine j_ltw rfl (fun W85 hc86 => ?_)
  have h87 : jC W85 t = 16 := (congrFun hc86 _).trans h84
  exact wrn_work_519 h l8 W85
theorem wrn_work_487 {x : jCx} {en : (Int32 × jW) → Option (Outcome × jW)} {t : Nat} {a1 : Int32} {a2 : Int32} {a3 : Int32} (h : hrn_work x en t a1 a2 a3) (l4 : Int32) (l5 : Int32) (l6 : Int32) (W : jW) : jJ x 14 487 [(0, vR t), (1, vI a1), (2, vI a2), (3, vI a3), (4, vI l4), (5, vI l5), (6, vI l6)] [] W (frn_work_487 t a1 a2 a3 l4 l5 l6 W) en := by
  have h0 := h
  obtain ⟨hx, hm, hr, he⟩ := h0
  unfold frn_work_487
  refine j_runA hx 6 (tb := [(487, .aload_n 0), (488, .iload_n 1), (489, .iload 4), (491, .iload 5), (493, .iload 6), (495, .iload_n 2)]) (jtb_ok (by decide +kernel)) (pc' := 496) (lv' := [(0, vR t), (1, vI a1), (2, vI a2), (3, vI a3), (4, vI l4), (5, vI l5), (6, vI l6)]) (st' := [vI a2, vI l6, vI l5, vI l4, vI a1, vR t]) rfl ?_
  refine j_gd (fun h57 => ?_)
  refine j_WI (j_callV (av := [vI a1, vI l4, vI l5, vI l6, vI a2]) (st := []) hx hr (Or.inl q3529) q3531 qs217 rfl md_frn_moveOne np_frn_moveOne (crn_moveOne t a1 l4 l5 l6 a2 W) (by decide) (Nat.le_of_ble_eq_true rfl) h57 (by decide) (by decide +kernel)) (fun q58 _ => ?_)
  refine j_runA hx 1 (tb := [(499, .istore 8)]) (jtb_ok (by decide +kernel)) (pc' := 501) (lv' := [(8, vI q58.1), (0, vR t), (1, vI a1), (2, vI a2), (3, vI a3), (4, vI l4), (5, vI l5), (6, vI l6)]) (st' := []) rfl ?_
  refine j_lv (lv' := [(0, vR t), (1, vI a1), (2, vI a2), (3, vI a3), (8, vI q58.1)]) ⟨rfl, rfl, rfl, rfl, rfl, trivial⟩ ?_
  exact wrn_work_501 h q58.1 q58.2
theorem wrn_work_133 {x : jCx} {en : (Int32 × jW) → Option (Outcome × jW)} {t : Nat} {a1 : Int32} {a2 : Int32} {a3 : Int32} (h : hrn_work x en t a1 a2 a3) (W : jW) : jJ x 14 133 [(0, vR t), (1, vI a1), (2, vI a2), (3, vI a3)] [] W (frn_work_133 t a1 a2 a3 W) en := by
  have h0 := h
  obtain ⟨hx, hm, hr, he⟩ := h0
  unfold frn_work_133
  refine j_runA hx 1 (tb := [(133, .iconst 3)]) (jtb_ok (by decide +kernel)) (pc' := 134) (lv' := [(0, vR t), (1, vI a1), (2, vI a2), (3, vI a3)]) (st' := [vI (kI 3)]) rfl ?_
  exact j_iret hx hm (by decide +kernel) rfl (he _)
theorem wrn_work_208 {x : jCx} {en : (Int32 × jW) → Option (Outcome × jW)} {t : Nat} {a1 : Int32} {a2 : Int32} {a3 : Int32} (h : hrn_work x en t a1 a2 a3) (l8 : Int32) (s0 : Int32) (s1 : Int32) (s2 : Int32) (s3 : Int64) (s4 : Int64) (s5 : Nat) (s6 : Int32) (s7 : Nat) (W : jW) : jJ x 14 208 [(0, vR t), (1, vI a1), (2, vI a2), (3, vI a3), (8, vI l8)] [vI s0, vI s1, vI s2, vL s3, vL s4, vR s5, vI s6, vR s7] W (frn_work_208 t a1 a2 a3 l8 s0 s1 s2 s3 s4 s5 s6 s7 W) en := by
  have h0 := h
  obtain ⟨hx, hm, hr, he⟩ := h0
  unfold frn_work_208
  refine j_gd (fun h76 => ?_)
  refine j_WL (j_callV (av := [vL s4, vL s3, vI s2, vI s1, vI s0]) (st := [vI s6, vR s7]) hx hr (Or.inl q3407) q3409 qs193 rfl md_frn_sum np_frn_sum (crn_sum s5 s4 s3 s2 s1 s0 W) (by decide) (Nat.le_of_ble_eq_true rfl) h76 (by decide) (by decide +kernel)) (fun q77 _ => ?_)
  refine j_gd (fun h79 => ?_)
  refine j_WV (j_callV (av := [vI s6, vL q77.1]) (st := []) hx hr (Or.inl q3427) q3429 qs197 rfl md_frn_set np_frn_set (crn_set s7 s6 q77.1 q77.2) (by decide) (Nat.le_of_ble_eq_true rfl) h79 (by decide) (by decide +kernel)) (fun q80 _ => ?_)
  refine j_goto hx (off := 287) (by decide +kernel) (tgt := 501) (by decide) ?_
  exact wrn_work_501 h l8 q80
theorem wrn_work_190 {x : jCx} {en : (Int32 × jW) → Option (Outcome × jW)} {t : Nat} {a1 : Int32} {a2 : Int32} {a3 : Int32} (h : hrn_work x en t a1 a2 a3) (l7 : Int32) (l8 : Int32) (s0 : Int32) (s1 : Int64) (s2 : Int64) (s3 : Nat) (s4 : Int32) (s5 : Nat) (W : jW) : jJ x 14 190 [(0, vR t), (1, vI a1), (2, vI a2), (3, vI a3), (7, vI l7), (8, vI l8)] [vI s0, vL s1, vL s2, vR s3, vI s4, vR s5] W (frn_work_190 t a1 a2 a3 l7 l8 s0 s1 s2 s3 s4 s5 W) en := by
  have h0 := h
  obtain ⟨hx, hm, hr, he⟩ := h0
  unfold frn_work_190
  refine j_runA hx 4 (tb := [(190, .iload 7), (192, .iload_n 1), (193, .bipush 29), (195, .iconst 1)]) (jtb_ok (by decide +kernel)) (pc' := 196) (lv' := [(0, vR t), (1, vI a1), (2, vI a2), (3, vI a3), (7, vI l7), (8, vI l8)]) (st' := [vI (kI 1), vI (kI 29), vI a1, vI l7, vI s0, vL s1, vL s2, vR s3, vI s4, vR s5]) rfl ?_
  refine j_TI (j_callS (av := [vI a1, vI (kI 29), vI (kI 1)]) (st := [vI l7, vI s0, vL s1, vL s2, vR s3, vI s4, vR s5]) hx hr (Or.inr ⟨_, q3393⟩) q2964 q241 md_fmo_bits np_fmo_bits (cmo_bits a1 (kI 29) (kI 1) W) (by decide) (Nat.le_of_ble_eq_true rfl) (by decide +kernel)) ?_
  refine j_runA hx 1 (tb := [(199, .iconst 1)]) (jtb_ok (by decide +kernel)) (pc' := 200) (lv' := [(0, vR t), (1, vI a1), (2, vI a2), (3, vI a3), (7, vI l7), (8, vI l8)]) (st' := [vI (kI 1), vI (fmo_bits a1 (kI 29) (kI 1)), vI l7, vI s0, vL s1, vL s2, vR s3, vI s4, vR s5]) rfl ?_
  refine j_icmp_ne hx (off := 7) (tgt := 207) (by decide +kernel) (by decide) (fun _ => ?_) (fun _ => ?_)
  · refine j_runA hx 1 (tb := [(207, .iconst 0)]) (jtb_ok (by decide +kernel)) (pc' := 208) (lv' := [(0, vR t), (1, vI a1), (2, vI a2), (3, vI a3), (7, vI l7), (8, vI l8)]) (st' := [vI (kI 0), vI l7, vI s0, vL s1, vL s2, vR s3, vI s4, vR s5]) rfl ?_
    refine j_lv (lv' := [(0, vR t), (1, vI a1), (2, vI a2), (3, vI a3), (8, vI l8)]) ⟨rfl, rfl, rfl, rfl, rfl, trivial⟩ ?_
    exact wrn_work_208 h l8 (kI 0) l7 s0 s1 s2 s3 s4 s5 W
  refine j_runA hx 1 (tb := [(203, .iconst 1)]) (jtb_ok (by decide +kernel)) (pc' := 204) (lv' := [(0, vR t), (1, vI a1), (2, vI a2), (3, vI a3), (7, vI l7), (8, vI l8)]) (st' := [vI (kI 1), vI l7, vI s0, vL s1, vL s2, vR s3, vI s4, vR s5]) rfl ?_
  refine j_goto hx (off := 4) (by decide +kernel) (tgt := 208) (by decide) ?_
  refine j_lv (lv' := [(0, vR t), (1, vI a1), (2, vI a2), (3, vI a3), (8, vI l8)]) ⟨rfl, rfl, rfl, rfl, rfl, trivial⟩ ?_
  exact wrn_work_208 h l8 (kI 1) l7 s0 s1 s2 s3 s4 s5 W
theorem wrn_work_163 {x : jCx} {en : (Int32 × jW) → Option (Outcome × jW)} {t : Nat} {a1 : Int32} {a2 : Int32} {a3 : Int32} (h : hrn_work x en t a1 a2 a3) (l6 : Int32) (l7 : Int32) (l8 : Int32) (s0 : Int64) (s1 : Nat) (s2 : Int32) (s3 : Nat) (W : jW) : jJ x 14 163 [(0, vR t), (1, vI a1), (2, vI a2), (3, vI a3), (6, vI l6), (7, vI l7), (8, vI l8)] [vL s0, vR s1, vI s2, vR s3] W (frn_work_163 t a1 a2 a3 l6 l7 l8 s0 s1 s2 s3 W) en := by
  have h0 := h
  obtain ⟨hx, hm, hr, he⟩ := h0
  unfold frn_work_163
  refine j_runA hx 4 (tb := [(163, .aload_n 0), (164, .iload_n 1), (165, .aload_n 0), (166, .iload 6)]) (jtb_ok (by decide +kernel)) (pc' := 168) (lv' := [(0, vR t), (1, vI a1), (2, vI a2), (3, vI a3), (6, vI l6), (7, vI l7), (8, vI l8)]) (st' := [vI l6, vR t, vI a1, vR t, vL s0, vR s1, vI s2, vR s3]) rfl ?_
  refine j_gd (fun h72 => ?_)
  refine j_OL (j_callV (av := [vI l6]) (st := [vI a1, vR t, vL s0, vR s1, vI s2, vR s3]) hx hr (Or.inl q3419) q3421 qs195 rfl md_frn_r np_frn_r (crn_r t l6 W) (by decide) (Nat.le_of_ble_eq_true rfl) h72 (by decide) (by decide +kernel)) (fun q73 _ => ?_)
  refine j_TL (j_callV (av := [vI a1, vL q73]) (st := [vL s0, vR s1, vI s2, vR s3]) hx hr (Or.inl q3423) q3425 qs196 rfl md_frn_shifted np_frn_shifted (crn_shifted t a1 q73 W) (by decide) (Nat.le_of_ble_eq_true rfl) h72 (by decide) (by decide +kernel)) ?_
  refine j_runA hx 3 (tb := [(174, .iload_n 1), (175, .bipush 30), (177, .iconst 1)]) (jtb_ok (by decide +kernel)) (pc' := 178) (lv' := [(0, vR t), (1, vI a1), (2, vI a2), (3, vI a3), (6, vI l6), (7, vI l7), (8, vI l8)]) (st' := [vI (kI 1), vI (kI 30), vI a1, vL (frn_shifted t a1 q73), vL s0, vR s1, vI s2, vR s3]) rfl ?_
  refine j_TI (j_callS (av := [vI a1, vI (kI 30), vI (kI 1)]) (st := [vL (frn_shifted t a1 q73), vL s0, vR s1, vI s2, vR s3]) hx hr (Or.inr ⟨_, q3393⟩) q2964 q241 md_fmo_bits np_fmo_bits (cmo_bits a1 (kI 30) (kI 1) W) (by decide) (Nat.le_of_ble_eq_true rfl) (by decide +kernel)) ?_
  refine j_runA hx 1 (tb := [(181, .iconst 1)]) (jtb_ok (by decide +kernel)) (pc' := 182) (lv' := [(0, vR t), (1, vI a1), (2, vI a2), (3, vI a3), (6, vI l6), (7, vI l7), (8, vI l8)]) (st' := [vI (kI 1), vI (fmo_bits a1 (kI 30) (kI 1)), vL (frn_shifted t a1 q73), vL s0, vR s1, vI s2, vR s3]) rfl ?_
  refine j_icmp_ne hx (off := 7) (tgt := 189) (by decide +kernel) (by decide) (fun _ => ?_) (fun _ => ?_)
  · refine j_runA hx 1 (tb := [(189, .iconst 0)]) (jtb_ok (by decide +kernel)) (pc' := 190) (lv' := [(0, vR t), (1, vI a1), (2, vI a2), (3, vI a3), (6, vI l6), (7, vI l7), (8, vI l8)]) (st' := [vI (kI 0), vL (frn_shifted t a1 q73), vL s0, vR s1, vI s2, vR s3]) rfl ?_
    refine j_lv (lv' := [(0, vR t), (1, vI a1), (2, vI a2), (3, vI a3), (7, vI l7), (8, vI l8)]) ⟨rfl, rfl, rfl, rfl, rfl, rfl, trivial⟩ ?_
    exact wrn_work_190 h l7 l8 (kI 0) (frn_shifted t a1 q73) s0 s1 s2 s3 W
  refine j_runA hx 1 (tb := [(185, .iconst 1)]) (jtb_ok (by decide +kernel)) (pc' := 186) (lv' := [(0, vR t), (1, vI a1), (2, vI a2), (3, vI a3), (6, vI l6), (7, vI l7), (8, vI l8)]) (st' := [vI (kI 1), vL (frn_shifted t a1 q73), vL s0, vR s1, vI s2, vR s3]) rfl ?_
  refine j_goto hx (off := 4) (by decide +kernel) (tgt := 190) (by decide) ?_
  refine j_lv (lv' := [(0, vR t), (1, vI a1), (2, vI a2), (3, vI a3), (7, vI l7), (8, vI l8)]) ⟨rfl, rfl, rfl, rfl, rfl, rfl, trivial⟩ ?_
  exact wrn_work_190 h l7 l8 (kI 1) (frn_shifted t a1 q73) s0 s1 s2 s3 W
theorem wrn_work_292 {x : jCx} {en : (Int32 × jW) → Option (Outcome × jW)} {t : Nat} {a1 : Int32} {a2 : Int32} {a3 : Int32} (h : hrn_work x en t a1 a2 a3) (W : jW) : jJ x 14 292 [(0, vR t), (1, vI a1), (2, vI a2), (3, vI a3)] [] W (frn_work_292 t a1 a2 a3 W) en := by
  have h0 := h
  obtain ⟨hx, hm, hr, he⟩ := h0
  unfold frn_work_292
  refine j_runA hx 1 (tb := [(292, .iconst 3)]) (jtb_ok (by decide +kernel)) (pc' := 293) (lv' := [(0, vR t), (1, vI a1), (2, vI a2), (3, vI a3)]) (st' := [vI (kI 3)]) rfl ?_
  exact j_iret hx hm (by decide +kernel) rfl (he _)
theorem wrn_work_362 {x : jCx} {en : (Int32 × jW) → Option (Outcome × jW)} {t : Nat} {a1 : Int32} {a2 : Int32} {a3 : Int32} (h : hrn_work x en t a1 a2 a3) (l8 : Int32) (s0 : Int64) (s1 : Int32) (s2 : Nat) (W : jW) : jJ x 14 362 [(0, vR t), (1, vI a1), (2, vI a2), (3, vI a3), (8, vI l8)] [vL s0, vI s1, vR s2] W (frn_work_362 t a1 a2 a3 l8 s0 s1 s2 W) en := by
  have h0 := h
  obtain ⟨hx, hm, hr, he⟩ := h0
  unfold frn_work_362
  refine j_gd (fun h67 => ?_)
  refine j_WV (j_callV (av := [vI s1, vL s0]) (st := []) hx hr (Or.inl q3427) q3429 qs197 rfl md_frn_set np_frn_set (crn_set s2 s1 s0 W) (by decide) (Nat.le_of_ble_eq_true rfl) h67 (by decide) (by decide +kernel)) (fun q68 _ => ?_)
  refine j_goto hx (off := 136) (by decide +kernel) (tgt := 501) (by decide) ?_
  exact wrn_work_501 h l8 q68
theorem wrn_work_341 {x : jCx} {en : (Int32 × jW) → Option (Outcome × jW)} {t : Nat} {a1 : Int32} {a2 : Int32} {a3 : Int32} (h : hrn_work x en t a1 a2 a3) (l4 : Int32) (l7 : Int32) (l8 : Int32) (s0 : Int64) (W : jW) : jJ x 14 341 [(0, vR t), (1, vI a1), (2, vI a2), (3, vI a3), (4, vI l4), (7, vI l7), (8, vI l8)] [vL s0] W (frn_work_341 t a1 a2 a3 l4 l7 l8 s0 W) en := by
  have h0 := h
  obtain ⟨hx, hm, hr, he⟩ := h0
  unfold frn_work_341
  refine j_runA hx 4 (tb := [(341, .lstore 12), (343, .aload_n 0), (344, .iload 4), (346, .iload 7)]) (jtb_ok (by decide +kernel)) (pc' := 348) (lv' := [(12, vL s0), (0, vR t), (1, vI a1), (2, vI a2), (3, vI a3), (4, vI l4), (7, vI l7), (8, vI l8)]) (st' := [vI l7, vI l4, vR t]) rfl ?_
  refine j_if_eq hx (off := 8) (tgt := 356) (by decide +kernel) (by decide) (fun _ => ?_) (fun _ => ?_)
  · refine j_runA hx 1 (tb := [(356, .lload 12)]) (jtb_ok (by decide +kernel)) (pc' := 358) (lv' := [(12, vL s0), (0, vR t), (1, vI a1), (2, vI a2), (3, vI a3), (4, vI l4), (7, vI l7), (8, vI l8)]) (st' := [vL s0, vI l4, vR t]) rfl ?_
    refine j_ldc2 hx (v := (kJ 4294967295)) (jkd2 q3406 (by decide +kernel)) (by decide +kernel) ?_
    refine j_runA hx 1 (tb := [(361, .land)]) (jtb_ok (by decide +kernel)) (pc' := 362) (lv' := [(12, vL s0), (0, vR t), (1, vI a1), (2, vI a2), (3, vI a3), (4, vI l4), (7, vI l7), (8, vI l8)]) (st' := [vL (s0 &&& (kJ 4294967295)), vI l4, vR t]) rfl ?_
    refine j_lv (lv' := [(0, vR t), (1, vI a1), (2, vI a2), (3, vI a3), (8, vI l8)]) ⟨rfl, rfl, rfl, rfl, rfl, trivial⟩ ?_
    exact wrn_work_362 h l8 (s0 &&& (kJ 4294967295)) l4 t W
  refine j_runA hx 1 (tb := [(351, .lload 12)]) (jtb_ok (by decide +kernel)) (pc' := 353) (lv' := [(12, vL s0), (0, vR t), (1, vI a1), (2, vI a2), (3, vI a3), (4, vI l4), (7, vI l7), (8, vI l8)]) (st' := [vL s0, vI l4, vR t]) rfl ?_
  refine j_goto hx (off := 9) (by decide +kernel) (tgt := 362) (by decide) ?_
  refine j_lv (lv' := [(0, vR t), (1, vI a1), (2, vI a2), (3, vI a3), (8, vI l8)]) ⟨rfl, rfl, rfl, rfl, rfl, trivial⟩ ?_
  exact wrn_work_362 h l8 s0 l4 t W
theorem wrn_work_386 {x : jCx} {en : (Int32 × jW) → Option (Outcome × jW)} {t : Nat} {a1 : Int32} {a2 : Int32} {a3 : Int32} (h : hrn_work x en t a1 a2 a3) (W : jW) : jJ x 14 386 [(0, vR t), (1, vI a1), (2, vI a2), (3, vI a3)] [] W (frn_work_386 t a1 a2 a3 W) en := by
  have h0 := h
  obtain ⟨hx, hm, hr, he⟩ := h0
  unfold frn_work_386
  refine j_runA hx 1 (tb := [(386, .iconst 3)]) (jtb_ok (by decide +kernel)) (pc' := 387) (lv' := [(0, vR t), (1, vI a1), (2, vI a2), (3, vI a3)]) (st' := [vI (kI 3)]) rfl ?_
  exact j_iret hx hm (by decide +kernel) rfl (he _)
theorem wrn_work_451 {x : jCx} {en : (Int32 × jW) → Option (Outcome × jW)} {t : Nat} {a1 : Int32} {a2 : Int32} {a3 : Int32} (h : hrn_work x en t a1 a2 a3) (l8 : Int32) (s0 : Int64) (s1 : Int32) (s2 : Nat) (W : jW) : jJ x 14 451 [(0, vR t), (1, vI a1), (2, vI a2), (3, vI a3), (8, vI l8)] [vL s0, vI s1, vR s2] W (frn_work_451 t a1 a2 a3 l8 s0 s1 s2 W) en := by
  have h0 := h
  obtain ⟨hx, hm, hr, he⟩ := h0
  unfold frn_work_451
  refine j_gd (fun h61 => ?_)
  refine j_WV (j_callV (av := [vI s1, vL s0]) (st := []) hx hr (Or.inl q3427) q3429 qs197 rfl md_frn_set np_frn_set (crn_set s2 s1 s0 W) (by decide) (Nat.le_of_ble_eq_true rfl) h61 (by decide) (by decide +kernel)) (fun q62 _ => ?_)
  refine j_goto hx (off := 47) (by decide +kernel) (tgt := 501) (by decide) ?_
  exact wrn_work_501 h l8 q62
theorem wrn_work_34 {x : jCx} {en : (Int32 × jW) → Option (Outcome × jW)} {t : Nat} {a1 : Int32} {a2 : Int32} {a3 : Int32} (h : hrn_work x en t a1 a2 a3) (l4 : Int32) (l5 : Int32) (l6 : Int32) (s0 : Int32) (W : jW) : jJ x 14 34 [(0, vR t), (1, vI a1), (2, vI a2), (3, vI a3), (4, vI l4), (5, vI l5), (6, vI l6)] [vI s0] W (frn_work_34 t a1 a2 a3 l4 l5 l6 s0 W) en := by
  have h0 := h
  obtain ⟨hx, hm, hr, he⟩ := h0
  unfold frn_work_34
  refine j_runA hx 4 (tb := [(34, .istore 7), (36, .iconst (-1)), (37, .istore 8), (39, .iload_n 2)]) (jtb_ok (by decide +kernel)) (pc' := 40) (lv' := [(8, vI (kI (-1))), (7, vI s0), (0, vR t), (1, vI a1), (2, vI a2), (3, vI a3), (4, vI l4), (5, vI l5), (6, vI l6)]) (st' := [vI a2]) rfl ?_
  refine j_tab hx (dflt := 447) (lo := 1) (hi := 11) (offs := #[60, 75, 177, 193, 205, 216, 328, 417, 447, 447, 433]) (len := 60) (k := 1) (off := 60) (tgt := 100) (by decide +kernel) (by decide) (by decide) (by decide) rfl (by decide) (fun _ => ?_) (fun h5 => ?_)
  · refine j_runA hx 5 (tb := [(100, .aload_n 0), (101, .iload_n 1), (102, .iload 4), (104, .iload 5), (106, .iload_n 3)]) (jtb_ok (by decide +kernel)) (pc' := 107) (lv' := [(8, vI (kI (-1))), (7, vI s0), (0, vR t), (1, vI a1), (2, vI a2), (3, vI a3), (4, vI l4), (5, vI l5), (6, vI l6)]) (st' := [vI a3, vI l5, vI l4, vI a1, vR t]) rfl ?_
    refine j_gd (fun h6 => ?_)
    refine j_WI (j_callV (av := [vI a1, vI l4, vI l5, vI a3]) (st := []) hx hr (Or.inl q3394) q3396 qs190 rfl md_frn_addNumber np_frn_addNumber (crn_addNumber t a1 l4 l5 a3 W) (by decide) (Nat.le_of_ble_eq_true rfl) h6 (by decide) (by decide +kernel)) (fun q7 _ => ?_)
    refine j_runA hx 1 (tb := [(110, .istore 8)]) (jtb_ok (by decide +kernel)) (pc' := 112) (lv' := [(8, vI q7.1), (7, vI s0), (0, vR t), (1, vI a1), (2, vI a2), (3, vI a3), (4, vI l4), (5, vI l5), (6, vI l6)]) (st' := []) rfl ?_
    refine j_goto hx (off := 389) (by decide +kernel) (tgt := 501) (by decide) ?_
    refine j_lv (lv' := [(0, vR t), (1, vI a1), (2, vI a2), (3, vI a3), (8, vI q7.1)]) ⟨rfl, rfl, rfl, rfl, rfl, trivial⟩ ?_
    exact wrn_work_501 h q7.1 q7.2
  refine j_tab hx (dflt := 447) (lo := 1) (hi := 11) (offs := #[60, 75, 177, 193, 205, 216, 328, 417, 447, 447, 433]) (len := 60) (k := 2) (off := 75) (tgt := 115) (by decide +kernel) (by decide) (by decide) (by decide) rfl (by decide) (fun _ => ?_) (fun h9 => ?_)
  · refine j_runA hx 2 (tb := [(115, .aload_n 0), (116, .iload 5)]) (jtb_ok (by decide +kernel)) (pc' := 118) (lv' := [(8, vI (kI (-1))), (7, vI s0), (0, vR t), (1, vI a1), (2, vI a2), (3, vI a3), (4, vI l4), (5, vI l5), (6, vI l6)]) (st' := [vI l5, vR t]) rfl ?_
    refine j_gd (fun h10 => ?_)
    refine j_OI (j_callV (av := [vI l5]) (st := []) hx hr (Or.inl q3415) q3417 qs194 rfl md_frn_isCode np_frn_isCode (crn_isCode t l5 W) (by decide) (Nat.le_of_ble_eq_true rfl) h10 (by decide) (by decide +kernel)) (fun q11 _ => ?_)
    refine j_if_ne hx (off := 12) (tgt := 133) (by decide +kernel) (by decide) (fun _ => ?_) (fun _ => ?_)
    · refine j_lv (lv' := [(0, vR t), (1, vI a1), (2, vI a2), (3, vI a3)]) ⟨rfl, rfl, rfl, rfl, trivial⟩ ?_
      exact wrn_work_133 h W
    refine j_runA hx 2 (tb := [(124, .aload_n 0), (125, .iload 6)]) (jtb_ok (by decide +kernel)) (pc' := 127) (lv' := [(8, vI (kI (-1))), (7, vI s0), (0, vR t), (1, vI a1), (2, vI a2), (3, vI a3), (4, vI l4), (5, vI l5), (6, vI l6)]) (st' := [vI l6, vR t]) rfl ?_
    refine j_OI (j_callV (av := [vI l6]) (st := []) hx hr (Or.inl q3415) q3417 qs194 rfl md_frn_isCode np_frn_isCode (crn_isCode t l6 W) (by decide) (Nat.le_of_ble_eq_true rfl) h10 (by decide) (by decide +kernel)) (fun q12 _ => ?_)
    refine j_if_eq hx (off := 5) (tgt := 135) (by decide +kernel) (by decide) (fun _ => ?_) (fun _ => ?_)
    · refine j_runA hx 4 (tb := [(135, .aload_n 0), (136, .iload 4), (138, .aload_n 0), (139, .iload 7)]) (jtb_ok (by decide +kernel)) (pc' := 141) (lv' := [(8, vI (kI (-1))), (7, vI s0), (0, vR t), (1, vI a1), (2, vI a2), (3, vI a3), (4, vI l4), (5, vI l5), (6, vI l6)]) (st' := [vI s0, vR t, vI l4, vR t]) rfl ?_
      refine j_if_eq hx (off := 12) (tgt := 153) (by decide +kernel) (by decide) (fun _ => ?_) (fun _ => ?_)
      · refine j_runA hx 2 (tb := [(153, .aload_n 0), (154, .iload 5)]) (jtb_ok (by decide +kernel)) (pc' := 156) (lv' := [(8, vI (kI (-1))), (7, vI s0), (0, vR t), (1, vI a1), (2, vI a2), (3, vI a3), (4, vI l4), (5, vI l5), (6, vI l6)]) (st' := [vI l5, vR t, vR t, vI l4, vR t]) rfl ?_
        refine j_OL (j_callV (av := [vI l5]) (st := [vR t, vI l4, vR t]) hx hr (Or.inl q3419) q3421 qs195 rfl md_frn_r np_frn_r (crn_r t l5 W) (by decide) (Nat.le_of_ble_eq_true rfl) h10 (by decide) (by decide +kernel)) (fun q13 _ => ?_)
        refine j_ldc2 hx (v := (kJ 4294967295)) (jkd2 q3406 (by decide +kernel)) (by decide +kernel) ?_
        refine j_runA hx 1 (tb := [(162, .land)]) (jtb_ok (by decide +kernel)) (pc' := 163) (lv' := [(8, vI (kI (-1))), (7, vI s0), (0, vR t), (1, vI a1), (2, vI a2), (3, vI a3), (4, vI l4), (5, vI l5), (6, vI l6)]) (st' := [vL (q13 &&& (kJ 4294967295)), vR t, vI l4, vR t]) rfl ?_
        refine j_lv (lv' := [(0, vR t), (1, vI a1), (2, vI a2), (3, vI a3), (6, vI l6), (7, vI s0), (8, vI (kI (-1)))]) ⟨rfl, rfl, rfl, rfl, rfl, rfl, rfl, trivial⟩ ?_
        exact wrn_work_163 h l6 s0 (kI (-1)) (q13 &&& (kJ 4294967295)) t l4 t W
      refine j_runA hx 2 (tb := [(144, .aload_n 0), (145, .iload 5)]) (jtb_ok (by decide +kernel)) (pc' := 147) (lv' := [(8, vI (kI (-1))), (7, vI s0), (0, vR t), (1, vI a1), (2, vI a2), (3, vI a3), (4, vI l4), (5, vI l5), (6, vI l6)]) (st' := [vI l5, vR t, vR t, vI l4, vR t]) rfl ?_
      refine j_OL (j_callV (av := [vI l5]) (st := [vR t, vI l4, vR t]) hx hr (Or.inl q3419) q3421 qs195 rfl md_frn_r np_frn_r (crn_r t l5 W) (by decide) (Nat.le_of_ble_eq_true rfl) h10 (by decide) (by decide +kernel)) (fun q14 _ => ?_)
      refine j_goto hx (off := 13) (by decide +kernel) (tgt := 163) (by decide) ?_
      refine j_lv (lv' := [(0, vR t), (1, vI a1), (2, vI a2), (3, vI a3), (6, vI l6), (7, vI s0), (8, vI (kI (-1)))]) ⟨rfl, rfl, rfl, rfl, rfl, rfl, rfl, trivial⟩ ?_
      exact wrn_work_163 h l6 s0 (kI (-1)) q14 t l4 t W
    refine j_lv (lv' := [(0, vR t), (1, vI a1), (2, vI a2), (3, vI a3)]) ⟨rfl, rfl, rfl, rfl, trivial⟩ ?_
    exact wrn_work_133 h W
  refine j_tab hx (dflt := 447) (lo := 1) (hi := 11) (offs := #[60, 75, 177, 193, 205, 216, 328, 417, 447, 447, 433]) (len := 60) (k := 3) (off := 177) (tgt := 217) (by decide +kernel) (by decide) (by decide) (by decide) rfl (by decide) (fun _ => ?_) (fun h15 => ?_)
  · refine j_runA hx 5 (tb := [(217, .aload_n 0), (218, .iload_n 1), (219, .iload 4), (221, .iload 5), (223, .iload 6)]) (jtb_ok (by decide +kernel)) (pc' := 225) (lv' := [(8, vI (kI (-1))), (7, vI s0), (0, vR t), (1, vI a1), (2, vI a2), (3, vI a3), (4, vI l4), (5, vI l5), (6, vI l6)]) (st' := [vI l6, vI l5, vI l4, vI a1, vR t]) rfl ?_
    refine j_gd (fun h16 => ?_)
    refine j_WI (j_callV (av := [vI a1, vI l4, vI l5, vI l6]) (st := []) hx hr (Or.inl q3431) q3433 qs198 rfl md_frn_and np_frn_and (crn_and t a1 l4 l5 l6 W) (by decide) (Nat.le_of_ble_eq_true rfl) h16 (by decide) (by decide +kernel)) (fun q17 _ => ?_)
    refine j_runA hx 1 (tb := [(228, .istore 8)]) (jtb_ok (by decide +kernel)) (pc' := 230) (lv' := [(8, vI q17.1), (7, vI s0), (0, vR t), (1, vI a1), (2, vI a2), (3, vI a3), (4, vI l4), (5, vI l5), (6, vI l6)]) (st' := []) rfl ?_
    refine j_goto hx (off := 271) (by decide +kernel) (tgt := 501) (by decide) ?_
    refine j_lv (lv' := [(0, vR t), (1, vI a1), (2, vI a2), (3, vI a3), (8, vI q17.1)]) ⟨rfl, rfl, rfl, rfl, rfl, trivial⟩ ?_
    exact wrn_work_501 h q17.1 q17.2
  refine j_tab hx (dflt := 447) (lo := 1) (hi := 11) (offs := #[60, 75, 177, 193, 205, 216, 328, 417, 447, 447, 433]) (len := 60) (k := 4) (off := 193) (tgt := 233) (by decide +kernel) (by decide) (by decide) (by decide) rfl (by decide) (fun _ => ?_) (fun h19 => ?_)
  · refine j_runA hx 3 (tb := [(233, .aload_n 0), (234, .iload_n 1), (235, .iload 4)]) (jtb_ok (by decide +kernel)) (pc' := 237) (lv' := [(8, vI (kI (-1))), (7, vI s0), (0, vR t), (1, vI a1), (2, vI a2), (3, vI a3), (4, vI l4), (5, vI l5), (6, vI l6)]) (st' := [vI l4, vI a1, vR t]) rfl ?_
    refine j_gd (fun h20 => ?_)
    refine j_WI (j_callV (av := [vI a1, vI l4]) (st := []) hx hr (Or.inl q3439) q3441 qs200 rfl md_frn_move np_frn_move (crn_move t a1 l4 W) (by decide) (Nat.le_of_ble_eq_true rfl) h20 (by decide) (by decide +kernel)) (fun q21 _ => ?_)
    refine j_runA hx 1 (tb := [(240, .istore 8)]) (jtb_ok (by decide +kernel)) (pc' := 242) (lv' := [(8, vI q21.1), (7, vI s0), (0, vR t), (1, vI a1), (2, vI a2), (3, vI a3), (4, vI l4), (5, vI l5), (6, vI l6)]) (st' := []) rfl ?_
    refine j_goto hx (off := 259) (by decide +kernel) (tgt := 501) (by decide) ?_
    refine j_lv (lv' := [(0, vR t), (1, vI a1), (2, vI a2), (3, vI a3), (8, vI q21.1)]) ⟨rfl, rfl, rfl, rfl, rfl, trivial⟩ ?_
    exact wrn_work_501 h q21.1 q21.2
  refine j_tab hx (dflt := 447) (lo := 1) (hi := 11) (offs := #[60, 75, 177, 193, 205, 216, 328, 417, 447, 447, 433]) (len := 60) (k := 5) (off := 205) (tgt := 245) (by decide +kernel) (by decide) (by decide) (by decide) rfl (by decide) (fun _ => ?_) (fun h23 => ?_)
  · refine j_runA hx 4 (tb := [(245, .aload_n 0), (246, .iload_n 1), (247, .iload 4), (249, .iload_n 3)]) (jtb_ok (by decide +kernel)) (pc' := 250) (lv' := [(8, vI (kI (-1))), (7, vI s0), (0, vR t), (1, vI a1), (2, vI a2), (3, vI a3), (4, vI l4), (5, vI l5), (6, vI l6)]) (st' := [vI a3, vI l4, vI a1, vR t]) rfl ?_
    refine j_gd (fun h24 => ?_)
    refine j_WV (j_callV (av := [vI a1, vI l4, vI a3]) (st := []) hx hr (Or.inl q3444) q3446 qs201 rfl md_frn_adrp np_frn_adrp (crn_adrp t a1 l4 a3 W) (by decide) (Nat.le_of_ble_eq_true rfl) h24 (by decide) (by decide +kernel)) (fun q25 _ => ?_)
    refine j_goto hx (off := 248) (by decide +kernel) (tgt := 501) (by decide) ?_
    refine j_lv (lv' := [(0, vR t), (1, vI a1), (2, vI a2), (3, vI a3), (8, vI (kI (-1)))]) ⟨rfl, rfl, rfl, rfl, rfl, trivial⟩ ?_
    exact wrn_work_501 h (kI (-1)) q25
  refine j_tab hx (dflt := 447) (lo := 1) (hi := 11) (offs := #[60, 75, 177, 193, 205, 216, 328, 417, 447, 447, 433]) (len := 60) (k := 6) (off := 216) (tgt := 256) (by decide +kernel) (by decide) (by decide) (by decide) rfl (by decide) (fun _ => ?_) (fun h27 => ?_)
  · refine j_runA hx 3 (tb := [(256, .iload_n 1), (257, .bipush 10), (259, .iconst 5)]) (jtb_ok (by decide +kernel)) (pc' := 260) (lv' := [(8, vI (kI (-1))), (7, vI s0), (0, vR t), (1, vI a1), (2, vI a2), (3, vI a3), (4, vI l4), (5, vI l5), (6, vI l6)]) (st' := [vI (kI 5), vI (kI 10), vI a1]) rfl ?_
    refine j_TI (j_callS (av := [vI a1, vI (kI 10), vI (kI 5)]) (st := []) hx hr (Or.inr ⟨_, q3393⟩) q2964 q241 md_fmo_bits np_fmo_bits (cmo_bits a1 (kI 10) (kI 5) W) (by decide) (Nat.le_of_ble_eq_true rfl) (by decide +kernel)) ?_
    refine j_runA hx 1 (tb := [(263, .istore 9)]) (jtb_ok (by decide +kernel)) (pc' := 265) (lv' := [(9, vI (fmo_bits a1 (kI 10) (kI 5))), (8, vI (kI (-1))), (7, vI s0), (0, vR t), (1, vI a1), (2, vI a2), (3, vI a3), (4, vI l4), (5, vI l5), (6, vI l6)]) (st' := []) rfl ?_
    refine j_let (v := (fmo_bits a1 (kI 10) (kI 5))) (lv := fun v28 => [(9, vI v28), (8, vI (kI (-1))), (7, vI s0), (0, vR t), (1, vI a1), (2, vI a2), (3, vI a3), (4, vI l4), (5, vI l5), (6, vI l6)]) (st := fun _ => []) (fun v28 => ?_)
    refine j_runA hx 2 (tb := [(265, .aload_n 0), (266, .iload 5)]) (jtb_ok (by decide +kernel)) (pc' := 268) (lv' := [(9, vI v28), (8, vI (kI (-1))), (7, vI s0), (0, vR t), (1, vI a1), (2, vI a2), (3, vI a3), (4, vI l4), (5, vI l5), (6, vI l6)]) (st' := [vI l5, vR t]) rfl ?_
    refine j_gd (fun h29 => ?_)
    refine j_OI (j_callV (av := [vI l5]) (st := []) hx hr (Or.inl q3415) q3417 qs194 rfl md_frn_isCode np_frn_isCode (crn_isCode t l5 W) (by decide) (Nat.le_of_ble_eq_true rfl) h29 (by decide) (by decide +kernel)) (fun q30 _ => ?_)
    refine j_if_ne hx (off := 21) (tgt := 292) (by decide +kernel) (by decide) (fun _ => ?_) (fun _ => ?_)
    · refine j_lv (lv' := [(0, vR t), (1, vI a1), (2, vI a2), (3, vI a3)]) ⟨rfl, rfl, rfl, rfl, trivial⟩ ?_
      exact wrn_work_292 h W
    refine j_runA hx 2 (tb := [(274, .aload_n 0), (275, .iload 6)]) (jtb_ok (by decide +kernel)) (pc' := 277) (lv' := [(9, vI v28), (8, vI (kI (-1))), (7, vI s0), (0, vR t), (1, vI a1), (2, vI a2), (3, vI a3), (4, vI l4), (5, vI l5), (6, vI l6)]) (st' := [vI l6, vR t]) rfl ?_
    refine j_OI (j_callV (av := [vI l6]) (st := []) hx hr (Or.inl q3415) q3417 qs194 rfl md_frn_isCode np_frn_isCode (crn_isCode t l6 W) (by decide) (Nat.le_of_ble_eq_true rfl) h29 (by decide) (by decide +kernel)) (fun q31 _ => ?_)
    refine j_if_ne hx (off := 12) (tgt := 292) (by decide +kernel) (by decide) (fun _ => ?_) (fun _ => ?_)
    · refine j_lv (lv' := [(0, vR t), (1, vI a1), (2, vI a2), (3, vI a3)]) ⟨rfl, rfl, rfl, rfl, trivial⟩ ?_
      exact wrn_work_292 h W
    refine j_runA hx 2 (tb := [(283, .aload_n 0), (284, .iload 9)]) (jtb_ok (by decide +kernel)) (pc' := 286) (lv' := [(9, vI v28), (8, vI (kI (-1))), (7, vI s0), (0, vR t), (1, vI a1), (2, vI a2), (3, vI a3), (4, vI l4), (5, vI l5), (6, vI l6)]) (st' := [vI v28, vR t]) rfl ?_
    refine j_OI (j_callV (av := [vI v28]) (st := []) hx hr (Or.inl q3415) q3417 qs194 rfl md_frn_isCode np_frn_isCode (crn_isCode t v28 W) (by decide) (Nat.le_of_ble_eq_true rfl) h29 (by decide) (by decide +kernel)) (fun q32 _ => ?_)
    refine j_if_eq hx (off := 5) (tgt := 294) (by decide +kernel) (by decide) (fun _ => ?_) (fun _ => ?_)
    · refine j_runA hx 2 (tb := [(294, .aload_n 0), (295, .iload 5)]) (jtb_ok (by decide +kernel)) (pc' := 297) (lv' := [(9, vI v28), (8, vI (kI (-1))), (7, vI s0), (0, vR t), (1, vI a1), (2, vI a2), (3, vI a3), (4, vI l4), (5, vI l5), (6, vI l6)]) (st' := [vI l5, vR t]) rfl ?_
      refine j_OL (j_callV (av := [vI l5]) (st := []) hx hr (Or.inl q3419) q3421 qs195 rfl md_frn_r np_frn_r (crn_r t l5 W) (by decide) (Nat.le_of_ble_eq_true rfl) h29 (by decide) (by decide +kernel)) (fun q33 _ => ?_)
      refine j_runA hx 2 (tb := [(300, .aload_n 0), (301, .iload 6)]) (jtb_ok (by decide +kernel)) (pc' := 303) (lv' := [(9, vI v28), (8, vI (kI (-1))), (7, vI s0), (0, vR t), (1, vI a1), (2, vI a2), (3, vI a3), (4, vI l4), (5, vI l5), (6, vI l6)]) (st' := [vI l6, vR t, vL q33]) rfl ?_
      refine j_OL (j_callV (av := [vI l6]) (st := [vL q33]) hx hr (Or.inl q3419) q3421 qs195 rfl md_frn_r np_frn_r (crn_r t l6 W) (by decide) (Nat.le_of_ble_eq_true rfl) h29 (by decide) (by decide +kernel)) (fun q34 _ => ?_)
      refine j_runA hx 2 (tb := [(306, .lmul), (307, .lstore 10)]) (jtb_ok (by decide +kernel)) (pc' := 309) (lv' := [(10, vL (q33 * q34)), (9, vI v28), (8, vI (kI (-1))), (7, vI s0), (0, vR t), (1, vI a1), (2, vI a2), (3, vI a3), (4, vI l4), (5, vI l5), (6, vI l6)]) (st' := []) rfl ?_
      refine j_let (v := (q33 * q34)) (lv := fun v35 => [(10, vL v35), (9, vI v28), (8, vI (kI (-1))), (7, vI s0), (0, vR t), (1, vI a1), (2, vI a2), (3, vI a3), (4, vI l4), (5, vI l5), (6, vI l6)]) (st := fun _ => []) (fun v35 => ?_)
      refine j_runA hx 3 (tb := [(309, .iload_n 1), (310, .bipush 15), (312, .iconst 1)]) (jtb_ok (by decide +kernel)) (pc' := 313) (lv' := [(10, vL v35), (9, vI v28), (8, vI (kI (-1))), (7, vI s0), (0, vR t), (1, vI a1), (2, vI a2), (3, vI a3), (4, vI l4), (5, vI l5), (6, vI l6)]) (st' := [vI (kI 1), vI (kI 15), vI a1]) rfl ?_
      refine j_TI (j_callS (av := [vI a1, vI (kI 15), vI (kI 1)]) (st := []) hx hr (Or.inr ⟨_, q3393⟩) q2964 q241 md_fmo_bits np_fmo_bits (cmo_bits a1 (kI 15) (kI 1) W) (by decide) (Nat.le_of_ble_eq_true rfl) (by decide +kernel)) ?_
      refine j_runA hx 1 (tb := [(316, .iconst 1)]) (jtb_ok (by decide +kernel)) (pc' := 317) (lv' := [(10, vL v35), (9, vI v28), (8, vI (kI (-1))), (7, vI s0), (0, vR t), (1, vI a1), (2, vI a2), (3, vI a3), (4, vI l4), (5, vI l5), (6, vI l6)]) (st' := [vI (kI 1), vI (fmo_bits a1 (kI 15) (kI 1))]) rfl ?_
      refine j_icmp_ne hx (off := 15) (tgt := 332) (by decide +kernel) (by decide) (fun _ => ?_) (fun _ => ?_)
      · refine j_runA hx 2 (tb := [(332, .aload_n 0), (333, .iload 9)]) (jtb_ok (by decide +kernel)) (pc' := 335) (lv' := [(10, vL v35), (9, vI v28), (8, vI (kI (-1))), (7, vI s0), (0, vR t), (1, vI a1), (2, vI a2), (3, vI a3), (4, vI l4), (5, vI l5), (6, vI l6)]) (st' := [vI v28, vR t]) rfl ?_
        refine j_OL (j_callV (av := [vI v28]) (st := []) hx hr (Or.inl q3419) q3421 qs195 rfl md_frn_r np_frn_r (crn_r t v28 W) (by decide) (Nat.le_of_ble_eq_true rfl) h29 (by decide) (by decide +kernel)) (fun q36 _ => ?_)
        refine j_runA hx 2 (tb := [(338, .lload 10), (340, .ladd)]) (jtb_ok (by decide +kernel)) (pc' := 341) (lv' := [(10, vL v35), (9, vI v28), (8, vI (kI (-1))), (7, vI s0), (0, vR t), (1, vI a1), (2, vI a2), (3, vI a3), (4, vI l4), (5, vI l5), (6, vI l6)]) (st' := [vL (q36 + v35)]) rfl ?_
        refine j_lv (lv' := [(0, vR t), (1, vI a1), (2, vI a2), (3, vI a3), (4, vI l4), (7, vI s0), (8, vI (kI (-1)))]) ⟨rfl, rfl, rfl, rfl, rfl, rfl, rfl, trivial⟩ ?_
        exact wrn_work_341 h l4 s0 (kI (-1)) (q36 + v35) W
      refine j_runA hx 2 (tb := [(320, .aload_n 0), (321, .iload 9)]) (jtb_ok (by decide +kernel)) (pc' := 323) (lv' := [(10, vL v35), (9, vI v28), (8, vI (kI (-1))), (7, vI s0), (0, vR t), (1, vI a1), (2, vI a2), (3, vI a3), (4, vI l4), (5, vI l5), (6, vI l6)]) (st' := [vI v28, vR t]) rfl ?_
      refine j_OL (j_callV (av := [vI v28]) (st := []) hx hr (Or.inl q3419) q3421 qs195 rfl md_frn_r np_frn_r (crn_r t v28 W) (by decide) (Nat.le_of_ble_eq_true rfl) h29 (by decide) (by decide +kernel)) (fun q37 _ => ?_)
      refine j_runA hx 2 (tb := [(326, .lload 10), (328, .lsub)]) (jtb_ok (by decide +kernel)) (pc' := 329) (lv' := [(10, vL v35), (9, vI v28), (8, vI (kI (-1))), (7, vI s0), (0, vR t), (1, vI a1), (2, vI a2), (3, vI a3), (4, vI l4), (5, vI l5), (6, vI l6)]) (st' := [vL (q37 - v35)]) rfl ?_
      refine j_goto hx (off := 12) (by decide +kernel) (tgt := 341) (by decide) ?_
      refine j_lv (lv' := [(0, vR t), (1, vI a1), (2, vI a2), (3, vI a3), (4, vI l4), (7, vI s0), (8, vI (kI (-1)))]) ⟨rfl, rfl, rfl, rfl, rfl, rfl, rfl, trivial⟩ ?_
      exact wrn_work_341 h l4 s0 (kI (-1)) (q37 - v35) W
    refine j_lv (lv' := [(0, vR t), (1, vI a1), (2, vI a2), (3, vI a3)]) ⟨rfl, rfl, rfl, rfl, trivial⟩ ?_
    exact wrn_work_292 h W
  refine j_tab hx (dflt := 447) (lo := 1) (hi := 11) (offs := #[60, 75, 177, 193, 205, 216, 328, 417, 447, 447, 433]) (len := 60) (k := 7) (off := 328) (tgt := 368) (by decide +kernel) (by decide) (by decide) (by decide) rfl (by decide) (fun _ => ?_) (fun h38 => ?_)
  · refine j_runA hx 2 (tb := [(368, .aload_n 0), (369, .iload 5)]) (jtb_ok (by decide +kernel)) (pc' := 371) (lv' := [(8, vI (kI (-1))), (7, vI s0), (0, vR t), (1, vI a1), (2, vI a2), (3, vI a3), (4, vI l4), (5, vI l5), (6, vI l6)]) (st' := [vI l5, vR t]) rfl ?_
    refine j_gd (fun h39 => ?_)
    refine j_OI (j_callV (av := [vI l5]) (st := []) hx hr (Or.inl q3415) q3417 qs194 rfl md_frn_isCode np_frn_isCode (crn_isCode t l5 W) (by decide) (Nat.le_of_ble_eq_true rfl) h39 (by decide) (by decide +kernel)) (fun q40 _ => ?_)
    refine j_if_ne hx (off := 12) (tgt := 386) (by decide +kernel) (by decide) (fun _ => ?_) (fun _ => ?_)
    · refine j_lv (lv' := [(0, vR t), (1, vI a1), (2, vI a2), (3, vI a3)]) ⟨rfl, rfl, rfl, rfl, trivial⟩ ?_
      exact wrn_work_386 h W
    refine j_runA hx 2 (tb := [(377, .aload_n 0), (378, .iload 6)]) (jtb_ok (by decide +kernel)) (pc' := 380) (lv' := [(8, vI (kI (-1))), (7, vI s0), (0, vR t), (1, vI a1), (2, vI a2), (3, vI a3), (4, vI l4), (5, vI l5), (6, vI l6)]) (st' := [vI l6, vR t]) rfl ?_
    refine j_OI (j_callV (av := [vI l6]) (st := []) hx hr (Or.inl q3415) q3417 qs194 rfl md_frn_isCode np_frn_isCode (crn_isCode t l6 W) (by decide) (Nat.le_of_ble_eq_true rfl) h39 (by decide) (by decide +kernel)) (fun q41 _ => ?_)
    refine j_if_eq hx (off := 5) (tgt := 388) (by decide +kernel) (by decide) (fun _ => ?_) (fun _ => ?_)
    · refine j_runA hx 3 (tb := [(388, .aload_n 0), (389, .iload 4), (391, .iload 7)]) (jtb_ok (by decide +kernel)) (pc' := 393) (lv' := [(8, vI (kI (-1))), (7, vI s0), (0, vR t), (1, vI a1), (2, vI a2), (3, vI a3), (4, vI l4), (5, vI l5), (6, vI l6)]) (st' := [vI s0, vI l4, vR t]) rfl ?_
      refine j_if_eq hx (off := 29) (tgt := 422) (by decide +kernel) (by decide) (fun _ => ?_) (fun _ => ?_)
      · refine j_runA hx 3 (tb := [(422, .iload_n 1), (423, .bipush 10), (425, .bipush 6)]) (jtb_ok (by decide +kernel)) (pc' := 427) (lv' := [(8, vI (kI (-1))), (7, vI s0), (0, vR t), (1, vI a1), (2, vI a2), (3, vI a3), (4, vI l4), (5, vI l5), (6, vI l6)]) (st' := [vI (kI 6), vI (kI 10), vI a1, vI l4, vR t]) rfl ?_
        refine j_TI (j_callS (av := [vI a1, vI (kI 10), vI (kI 6)]) (st := [vI l4, vR t]) hx hr (Or.inr ⟨_, q3393⟩) q2964 q241 md_fmo_bits np_fmo_bits (cmo_bits a1 (kI 10) (kI 6) W) (by decide) (Nat.le_of_ble_eq_true rfl) (by decide +kernel)) ?_
        refine j_runA hx 2 (tb := [(430, .aload_n 0), (431, .iload 5)]) (jtb_ok (by decide +kernel)) (pc' := 433) (lv' := [(8, vI (kI (-1))), (7, vI s0), (0, vR t), (1, vI a1), (2, vI a2), (3, vI a3), (4, vI l4), (5, vI l5), (6, vI l6)]) (st' := [vI l5, vR t, vI (fmo_bits a1 (kI 10) (kI 6)), vI l4, vR t]) rfl ?_
        refine j_OL (j_callV (av := [vI l5]) (st := [vI (fmo_bits a1 (kI 10) (kI 6)), vI l4, vR t]) hx hr (Or.inl q3419) q3421 qs195 rfl md_frn_r np_frn_r (crn_r t l5 W) (by decide) (Nat.le_of_ble_eq_true rfl) h39 (by decide) (by decide +kernel)) (fun q42 _ => ?_)
        refine j_runA hx 3 (tb := [(436, .l2i), (437, .aload_n 0), (438, .iload 6)]) (jtb_ok (by decide +kernel)) (pc' := 440) (lv' := [(8, vI (kI (-1))), (7, vI s0), (0, vR t), (1, vI a1), (2, vI a2), (3, vI a3), (4, vI l4), (5, vI l5), (6, vI l6)]) (st' := [vI l6, vR t, vI q42.toInt32, vI (fmo_bits a1 (kI 10) (kI 6)), vI l4, vR t]) rfl ?_
        refine j_OL (j_callV (av := [vI l6]) (st := [vI q42.toInt32, vI (fmo_bits a1 (kI 10) (kI 6)), vI l4, vR t]) hx hr (Or.inl q3419) q3421 qs195 rfl md_frn_r np_frn_r (crn_r t l6 W) (by decide) (Nat.le_of_ble_eq_true rfl) h39 (by decide) (by decide +kernel)) (fun q43 _ => ?_)
        refine j_runA hx 1 (tb := [(443, .l2i)]) (jtb_ok (by decide +kernel)) (pc' := 444) (lv' := [(8, vI (kI (-1))), (7, vI s0), (0, vR t), (1, vI a1), (2, vI a2), (3, vI a3), (4, vI l4), (5, vI l5), (6, vI l6)]) (st' := [vI q43.toInt32, vI q42.toInt32, vI (fmo_bits a1 (kI 10) (kI 6)), vI l4, vR t]) rfl ?_
        refine j_OL (j_callS (av := [vI (fmo_bits a1 (kI 10) (kI 6)), vI q42.toInt32, vI q43.toInt32]) (st := [vI l4, vR t]) hx hr (Or.inl q3456) q3457 q244 md_frn_twoWords np_frn_twoWords (crn_twoWords (fmo_bits a1 (kI 10) (kI 6)) q42.toInt32 q43.toInt32 W) (by decide) (Nat.le_of_ble_eq_true rfl) (by decide +kernel)) (fun q44 _ => ?_)
        refine j_ldc2 hx (v := (kJ 4294967295)) (jkd2 q3406 (by decide +kernel)) (by decide +kernel) ?_
        refine j_runA hx 1 (tb := [(450, .land)]) (jtb_ok (by decide +kernel)) (pc' := 451) (lv' := [(8, vI (kI (-1))), (7, vI s0), (0, vR t), (1, vI a1), (2, vI a2), (3, vI a3), (4, vI l4), (5, vI l5), (6, vI l6)]) (st' := [vL (q44 &&& (kJ 4294967295)), vI l4, vR t]) rfl ?_
        refine j_lv (lv' := [(0, vR t), (1, vI a1), (2, vI a2), (3, vI a3), (8, vI (kI (-1)))]) ⟨rfl, rfl, rfl, rfl, rfl, trivial⟩ ?_
        exact wrn_work_451 h (kI (-1)) (q44 &&& (kJ 4294967295)) l4 t W
      refine j_runA hx 3 (tb := [(396, .iload_n 1), (397, .bipush 10), (399, .bipush 6)]) (jtb_ok (by decide +kernel)) (pc' := 401) (lv' := [(8, vI (kI (-1))), (7, vI s0), (0, vR t), (1, vI a1), (2, vI a2), (3, vI a3), (4, vI l4), (5, vI l5), (6, vI l6)]) (st' := [vI (kI 6), vI (kI 10), vI a1, vI l4, vR t]) rfl ?_
      refine j_TI (j_callS (av := [vI a1, vI (kI 10), vI (kI 6)]) (st := [vI l4, vR t]) hx hr (Or.inr ⟨_, q3393⟩) q2964 q241 md_fmo_bits np_fmo_bits (cmo_bits a1 (kI 10) (kI 6) W) (by decide) (Nat.le_of_ble_eq_true rfl) (by decide +kernel)) ?_
      refine j_runA hx 2 (tb := [(404, .aload_n 0), (405, .iload 5)]) (jtb_ok (by decide +kernel)) (pc' := 407) (lv' := [(8, vI (kI (-1))), (7, vI s0), (0, vR t), (1, vI a1), (2, vI a2), (3, vI a3), (4, vI l4), (5, vI l5), (6, vI l6)]) (st' := [vI l5, vR t, vI (fmo_bits a1 (kI 10) (kI 6)), vI l4, vR t]) rfl ?_
      refine j_OL (j_callV (av := [vI l5]) (st := [vI (fmo_bits a1 (kI 10) (kI 6)), vI l4, vR t]) hx hr (Or.inl q3419) q3421 qs195 rfl md_frn_r np_frn_r (crn_r t l5 W) (by decide) (Nat.le_of_ble_eq_true rfl) h39 (by decide) (by decide +kernel)) (fun q45 _ => ?_)
      refine j_runA hx 2 (tb := [(410, .aload_n 0), (411, .iload 6)]) (jtb_ok (by decide +kernel)) (pc' := 413) (lv' := [(8, vI (kI (-1))), (7, vI s0), (0, vR t), (1, vI a1), (2, vI a2), (3, vI a3), (4, vI l4), (5, vI l5), (6, vI l6)]) (st' := [vI l6, vR t, vL q45, vI (fmo_bits a1 (kI 10) (kI 6)), vI l4, vR t]) rfl ?_
      refine j_OL (j_callV (av := [vI l6]) (st := [vL q45, vI (fmo_bits a1 (kI 10) (kI 6)), vI l4, vR t]) hx hr (Or.inl q3419) q3421 qs195 rfl md_frn_r np_frn_r (crn_r t l6 W) (by decide) (Nat.le_of_ble_eq_true rfl) h39 (by decide) (by decide +kernel)) (fun q46 _ => ?_)
      refine j_OL (j_callS (av := [vI (fmo_bits a1 (kI 10) (kI 6)), vL q45, vL q46]) (st := [vI l4, vR t]) hx hr (Or.inl q3449) q3450 q244 md_frn_two np_frn_two (crn_two (fmo_bits a1 (kI 10) (kI 6)) q45 q46 W) (by decide) (Nat.le_of_ble_eq_true rfl) (by decide +kernel)) (fun q47 _ => ?_)
      refine j_goto hx (off := 32) (by decide +kernel) (tgt := 451) (by decide) ?_
      refine j_lv (lv' := [(0, vR t), (1, vI a1), (2, vI a2), (3, vI a3), (8, vI (kI (-1)))]) ⟨rfl, rfl, rfl, rfl, rfl, trivial⟩ ?_
      exact wrn_work_451 h (kI (-1)) q47 l4 t W
    refine j_lv (lv' := [(0, vR t), (1, vI a1), (2, vI a2), (3, vI a3)]) ⟨rfl, rfl, rfl, rfl, trivial⟩ ?_
    exact wrn_work_386 h W
  refine j_tab hx (dflt := 447) (lo := 1) (hi := 11) (offs := #[60, 75, 177, 193, 205, 216, 328, 417, 447, 447, 433]) (len := 60) (k := 8) (off := 417) (tgt := 457) (by decide +kernel) (by decide) (by decide) (by decide) rfl (by decide) (fun _ => ?_) (fun h48 => ?_)
  · refine j_runA hx 5 (tb := [(457, .aload_n 0), (458, .iload_n 1), (459, .iload 4), (461, .iload 5), (463, .iload 6)]) (jtb_ok (by decide +kernel)) (pc' := 465) (lv' := [(8, vI (kI (-1))), (7, vI s0), (0, vR t), (1, vI a1), (2, vI a2), (3, vI a3), (4, vI l4), (5, vI l5), (6, vI l6)]) (st' := [vI l6, vI l5, vI l4, vI a1, vR t]) rfl ?_
    refine j_gd (fun h49 => ?_)
    refine j_WI (j_callV (av := [vI a1, vI l4, vI l5, vI l6]) (st := []) hx hr (Or.inl q3459) q3461 qs202 rfl md_frn_choose np_frn_choose (crn_choose t a1 l4 l5 l6 W) (by decide) (Nat.le_of_ble_eq_true rfl) h49 (by decide) (by decide +kernel)) (fun q50 _ => ?_)
    refine j_runA hx 1 (tb := [(468, .istore 8)]) (jtb_ok (by decide +kernel)) (pc' := 470) (lv' := [(8, vI q50.1), (7, vI s0), (0, vR t), (1, vI a1), (2, vI a2), (3, vI a3), (4, vI l4), (5, vI l5), (6, vI l6)]) (st' := []) rfl ?_
    refine j_goto hx (off := 31) (by decide +kernel) (tgt := 501) (by decide) ?_
    refine j_lv (lv' := [(0, vR t), (1, vI a1), (2, vI a2), (3, vI a3), (8, vI q50.1)]) ⟨rfl, rfl, rfl, rfl, rfl, trivial⟩ ?_
    exact wrn_work_501 h q50.1 q50.2
  refine j_tab hx (dflt := 447) (lo := 1) (hi := 11) (offs := #[60, 75, 177, 193, 205, 216, 328, 417, 447, 447, 433]) (len := 60) (k := 11) (off := 433) (tgt := 473) (by decide +kernel) (by decide) (by decide) (by decide) rfl (by decide) (fun _ => ?_) (fun h52 => ?_)
  · refine j_runA hx 4 (tb := [(473, .aload_n 0), (474, .iload_n 1), (475, .iload 4), (477, .iload 5)]) (jtb_ok (by decide +kernel)) (pc' := 479) (lv' := [(8, vI (kI (-1))), (7, vI s0), (0, vR t), (1, vI a1), (2, vI a2), (3, vI a3), (4, vI l4), (5, vI l5), (6, vI l6)]) (st' := [vI l5, vI l4, vI a1, vR t]) rfl ?_
    refine j_gd (fun h53 => ?_)
    refine j_WI (j_callV (av := [vI a1, vI l4, vI l5]) (st := []) hx hr (Or.inl q3467) q3469 qs204 rfl md_frn_pair np_frn_pair (crn_pair t a1 l4 l5 W) (by decide) (Nat.le_of_ble_eq_true rfl) h53 (by decide) (by decide +kernel)) (fun q54 _ => ?_)
    refine j_runA hx 1 (tb := [(482, .istore 8)]) (jtb_ok (by decide +kernel)) (pc' := 484) (lv' := [(8, vI q54.1), (7, vI s0), (0, vR t), (1, vI a1), (2, vI a2), (3, vI a3), (4, vI l4), (5, vI l5), (6, vI l6)]) (st' := []) rfl ?_
    refine j_goto hx (off := 17) (by decide +kernel) (tgt := 501) (by decide) ?_
    refine j_lv (lv' := [(0, vR t), (1, vI a1), (2, vI a2), (3, vI a3), (8, vI q54.1)]) ⟨rfl, rfl, rfl, rfl, rfl, trivial⟩ ?_
    exact wrn_work_501 h q54.1 q54.2
  refine j_tabD hx (dflt := 447) (lo := 1) (hi := 11) (offs := #[60, 75, 177, 193, 205, 216, 328, 417, 447, 447, 433]) (len := 60) (tgt := 487) (by decide +kernel) (by decide) (fun i hi => by
    match i, hi with
    | 0, _ => exact Or.inr h5
    | 1, _ => exact Or.inr h9
    | 2, _ => exact Or.inr h15
    | 3, _ => exact Or.inr h19
    | 4, _ => exact Or.inr h23
    | 5, _ => exact Or.inr h27
    | 6, _ => exact Or.inr h38
    | 7, _ => exact Or.inr h48
    | 8, _ => exact Or.inl rfl
    | 9, _ => exact Or.inl rfl
    | 10, _ => exact Or.inr h52
    | n + 11, h => exact absurd h (by omega)) ?_
  refine j_lv (lv' := [(0, vR t), (1, vI a1), (2, vI a2), (3, vI a3), (4, vI l4), (5, vI l5), (6, vI l6)]) ⟨rfl, rfl, rfl, rfl, rfl, rfl, rfl, trivial⟩ ?_
  exact wrn_work_487 h l4 l5 l6 W
theorem wrn_work {x : jCx} {en : (Int32 × jW) → Option (Outcome × jW)} {t : Nat} {a1 : Int32} {a2 : Int32} {a3 : Int32} (h : hrn_work x en t a1 a2 a3) (W : jW) : jJ x 14 0 [(0, vR t), (1, vI a1), (2, vI a2), (3, vI a3)] [] W (frn_work t a1 a2 a3 W) en := by
  have h0 := h
  obtain ⟨hx, hm, hr, he⟩ := h0
  unfold frn_work
  refine j_runA hx 3 (tb := [(0, .iload_n 1), (1, .iconst 0), (2, .iconst 5)]) (jtb_ok (by decide +kernel)) (pc' := 3) (lv' := [(0, vR t), (1, vI a1), (2, vI a2), (3, vI a3)]) (st' := [vI (kI 5), vI (kI 0), vI a1]) rfl ?_
  refine j_TI (j_callS (av := [vI a1, vI (kI 0), vI (kI 5)]) (st := []) hx hr (Or.inr ⟨_, q3393⟩) q2964 q241 md_fmo_bits np_fmo_bits (cmo_bits a1 (kI 0) (kI 5) W) (by decide) (Nat.le_of_ble_eq_true rfl) (by decide +kernel)) ?_
  refine j_runA hx 1 (tb := [(6, .istore 4)]) (jtb_ok (by decide +kernel)) (pc' := 8) (lv' := [(4, vI (fmo_bits a1 (kI 0) (kI 5))), (0, vR t), (1, vI a1), (2, vI a2), (3, vI a3)]) (st' := []) rfl ?_
  refine j_let (v := (fmo_bits a1 (kI 0) (kI 5))) (lv := fun v1 => [(4, vI v1), (0, vR t), (1, vI a1), (2, vI a2), (3, vI a3)]) (st := fun _ => []) (fun v1 => ?_)
  refine j_runA hx 3 (tb := [(8, .iload_n 1), (9, .iconst 5), (10, .iconst 5)]) (jtb_ok (by decide +kernel)) (pc' := 11) (lv' := [(4, vI v1), (0, vR t), (1, vI a1), (2, vI a2), (3, vI a3)]) (st' := [vI (kI 5), vI (kI 5), vI a1]) rfl ?_
  refine j_TI (j_callS (av := [vI a1, vI (kI 5), vI (kI 5)]) (st := []) hx hr (Or.inr ⟨_, q3393⟩) q2964 q241 md_fmo_bits np_fmo_bits (cmo_bits a1 (kI 5) (kI 5) W) (by decide) (Nat.le_of_ble_eq_true rfl) (by decide +kernel)) ?_
  refine j_runA hx 1 (tb := [(14, .istore 5)]) (jtb_ok (by decide +kernel)) (pc' := 16) (lv' := [(5, vI (fmo_bits a1 (kI 5) (kI 5))), (4, vI v1), (0, vR t), (1, vI a1), (2, vI a2), (3, vI a3)]) (st' := []) rfl ?_
  refine j_let (v := (fmo_bits a1 (kI 5) (kI 5))) (lv := fun v2 => [(5, vI v2), (4, vI v1), (0, vR t), (1, vI a1), (2, vI a2), (3, vI a3)]) (st := fun _ => []) (fun v2 => ?_)
  refine j_runA hx 3 (tb := [(16, .iload_n 1), (17, .bipush 16), (19, .iconst 5)]) (jtb_ok (by decide +kernel)) (pc' := 20) (lv' := [(5, vI v2), (4, vI v1), (0, vR t), (1, vI a1), (2, vI a2), (3, vI a3)]) (st' := [vI (kI 5), vI (kI 16), vI a1]) rfl ?_
  refine j_TI (j_callS (av := [vI a1, vI (kI 16), vI (kI 5)]) (st := []) hx hr (Or.inr ⟨_, q3393⟩) q2964 q241 md_fmo_bits np_fmo_bits (cmo_bits a1 (kI 16) (kI 5) W) (by decide) (Nat.le_of_ble_eq_true rfl) (by decide +kernel)) ?_
  refine j_runA hx 1 (tb := [(23, .istore 6)]) (jtb_ok (by decide +kernel)) (pc' := 25) (lv' := [(6, vI (fmo_bits a1 (kI 16) (kI 5))), (5, vI v2), (4, vI v1), (0, vR t), (1, vI a1), (2, vI a2), (3, vI a3)]) (st' := []) rfl ?_
  refine j_let (v := (fmo_bits a1 (kI 16) (kI 5))) (lv := fun v3 => [(6, vI v3), (5, vI v2), (4, vI v1), (0, vR t), (1, vI a1), (2, vI a2), (3, vI a3)]) (st := fun _ => []) (fun v3 => ?_)
  refine j_runA hx 1 (tb := [(25, .iload_n 1)]) (jtb_ok (by decide +kernel)) (pc' := 26) (lv' := [(6, vI v3), (5, vI v2), (4, vI v1), (0, vR t), (1, vI a1), (2, vI a2), (3, vI a3)]) (st' := [vI a1]) rfl ?_
  refine j_if_ge hx (off := 7) (tgt := 33) (by decide +kernel) (by decide) (fun _ => ?_) (fun _ => ?_)
  · refine j_runA hx 1 (tb := [(33, .iconst 0)]) (jtb_ok (by decide +kernel)) (pc' := 34) (lv' := [(6, vI v3), (5, vI v2), (4, vI v1), (0, vR t), (1, vI a1), (2, vI a2), (3, vI a3)]) (st' := [vI (kI 0)]) rfl ?_
    refine j_lv (lv' := [(0, vR t), (1, vI a1), (2, vI a2), (3, vI a3), (4, vI v1), (5, vI v2), (6, vI v3)]) ⟨rfl, rfl, rfl, rfl, rfl, rfl, rfl, trivial⟩ ?_
    exact wrn_work_34 h v1 v2 v3 (kI 0) W
  refine j_runA hx 1 (tb := [(29, .iconst 1)]) (jtb_ok (by decide +kernel)) (pc' := 30) (lv' := [(6, vI v3), (5, vI v2), (4, vI v1), (0, vR t), (1, vI a1), (2, vI a2), (3, vI a3)]) (st' := [vI (kI 1)]) rfl ?_
  refine j_goto hx (off := 4) (by decide +kernel) (tgt := 34) (by decide) ?_
  refine j_lv (lv' := [(0, vR t), (1, vI a1), (2, vI a2), (3, vI a3), (4, vI v1), (5, vI v2), (6, vI v3)]) ⟨rfl, rfl, rfl, rfl, rfl, rfl, rfl, trivial⟩ ?_
  exact wrn_work_34 h v1 v2 v3 (kI 1) W
theorem crn_work (t : Nat) (a1 : Int32) (a2 : Int32) (a3 : Int32) (W : jW) : jM yX11_work cX11_work 14 (Option.some Jvm.ClassFile.FieldType.int) [] 5 96 [vR t, vI a1, vI a2, vI a3] W ((frn_work t a1 a2 a3 W).bind (fun q => some (.returned (some (.int q.1)), q.2))) := 
  jM.of (Nat.le_of_ble_eq_true rfl) (fun x hx hm hr => wrn_work ⟨hx, hm, hr, fun _ => rfl⟩ W)
def hrn_returnHere (x : jCx) (en : (jW) → Option (Outcome × jW)) (t : Nat) (a1 : Int32) : Prop :=
  jOK x RX11 cX11_returnHere 2 ∧
  jMt x "returnHere" (Option.none : Option Jvm.ClassFile.FieldType) [] ∧
  jRm x 1 17 ∧
  (∀ q : jW, en q = some (.returned none, q))
theorem wrn_returnHere_25 {x : jCx} {en : (jW) → Option (Outcome × jW)} {t : Nat} {a1 : Int32} (h : hrn_returnHere x en t a1) (s0 : Int32) (s1 : Int32) (s2 : Int32) (s3 : Nat) (W : jW) : jJ x 2 25 [(0, vR t), (1, vI a1)] [vI s0, vI s1, vI s2, vR s3] W (frn_returnHere_25 t a1 s0 s1 s2 s3 W) en := by
  have h0 := h
  obtain ⟨hx, hm, hr, he⟩ := h0
  unfold frn_returnHere_25
  refine j_runA hx 1 (tb := [(25, .aload_n 0)]) (jtb_ok (by decide +kernel)) (pc' := 26) (lv' := [(0, vR t), (1, vI a1)]) (st' := [vR t, vI s0, vI s1, vI s2, vR s3]) rfl ?_
  refine j_gd (fun h5 => ?_)
  refine j_getL hx flX11_107 kd1623 h5 (by decide) (by decide +kernel) ?_
  refine j_ldc2 hx (v := (kJ 4)) (jkd2 q3365 (by decide +kernel)) (by decide +kernel) ?_
  refine j_runA hx 1 (tb := [(32, .ladd)]) (jtb_ok (by decide +kernel)) (pc' := 33) (lv' := [(0, vR t), (1, vI a1)]) (st' := [vL ((jL W 1623 t) + (kJ 4)), vI s0, vI s1, vI s2, vR s3]) rfl ?_
  refine j_gd (fun h6 => ?_)
  refine j_WV (j_callV (av := [vI s2, vI s1, vI s0, vL ((jL W 1623 t) + (kJ 4))]) (st := []) hx hr (Or.inl q3398) q3400 qs191 rfl md_frn_make np_frn_make (crn_make s3 s2 s1 s0 ((jL W 1623 t) + (kJ 4)) W) (by decide) (Nat.le_of_ble_eq_true rfl) h6 (by decide) (by decide +kernel)) (fun q7 _ => ?_)
  exact j_vret hx hm (by decide +kernel) (he _)
theorem wrn_returnHere {x : jCx} {en : (jW) → Option (Outcome × jW)} {t : Nat} {a1 : Int32} (h : hrn_returnHere x en t a1) (W : jW) : jJ x 2 0 [(0, vR t), (1, vI a1)] [] W (frn_returnHere t a1 W) en := by
  have h0 := h
  obtain ⟨hx, hm, hr, he⟩ := h0
  unfold frn_returnHere
  refine j_runA hx 4 (tb := [(0, .aload_n 0), (1, .bipush 30), (3, .iconst 2), (4, .aload_n 0)]) (jtb_ok (by decide +kernel)) (pc' := 5) (lv' := [(0, vR t), (1, vI a1)]) (st' := [vR t, vI (kI 2), vI (kI 30), vR t]) rfl ?_
  refine j_gd (fun h1 => ?_)
  refine j_getI hx flX11_46 kd1601 h1 (by decide) (by decide +kernel) ?_
  refine j_runA hx 1 (tb := [(8, .iconst 1)]) (jtb_ok (by decide +kernel)) (pc' := 9) (lv' := [(0, vR t), (1, vI a1)]) (st' := [vI (kI 1), vI (jI W 1601 t), vI (kI 2), vI (kI 30), vR t]) rfl ?_
  refine j_icmp_ne hx (off := 15) (tgt := 24) (by decide +kernel) (by decide) (fun _ => ?_) (fun _ => ?_)
  · refine j_runA hx 1 (tb := [(24, .iconst 0)]) (jtb_ok (by decide +kernel)) (pc' := 25) (lv' := [(0, vR t), (1, vI a1)]) (st' := [vI (kI 0), vI (kI 2), vI (kI 30), vR t]) rfl ?_
    exact wrn_returnHere_25 h (kI 0) (kI 2) (kI 30) t W
  refine j_runA hx 1 (tb := [(12, .aload_n 0)]) (jtb_ok (by decide +kernel)) (pc' := 13) (lv' := [(0, vR t), (1, vI a1)]) (st' := [vR t, vI (kI 2), vI (kI 30), vR t]) rfl ?_
  refine j_getR hx flX11_42 kl1600 h1 (by decide) (by decide +kernel) ?_
  refine j_gd (fun h2 => ?_)
  refine j_getR hx flX11_156 kl1317 h2 (by decide) (by decide +kernel) ?_
  refine j_runA hx 1 (tb := [(19, .iload_n 1)]) (jtb_ok (by decide +kernel)) (pc' := 20) (lv' := [(0, vR t), (1, vI a1)]) (st' := [vI a1, vR (jR W 1317 (jR W 1600 t)), vI (kI 2), vI (kI 30), vR t]) rfl ?_
  refine j_gd (fun h3 => ?_)
  refine j_iald hx (f := 1317) (o := (jR W 1600 t)) kd1317 rfl (by decide +kernel) h3 ?_
  refine j_goto hx (off := 4) (by decide +kernel) (tgt := 25) (by decide) ?_
  exact wrn_returnHere_25 h (jA W 1317 (jR W 1600 t) (ix a1)) (kI 2) (kI 30) t W
theorem crn_returnHere (t : Nat) (a1 : Int32) (W : jW) : jM yX11_returnHere cX11_returnHere 2 (Option.none : Option Jvm.ClassFile.FieldType) [] 1 17 [vR t, vI a1] W ((frn_returnHere t a1 W).bind (fun q => some (.returned none, q))) := 
  jM.of (Nat.le_of_ble_eq_true rfl) (fun x hx hm hr => wrn_returnHere ⟨hx, hm, hr, fun _ => rfl⟩ W)
