/-! ===== walks: fmo_cut fmo_apart fmo_forget ===== -/
set_option maxRecDepth 100000
def hmo_cut (x : jCx) (en : (fmo_cut_S ⊕ (jW)) → Option (Outcome × jW)) (t : Nat) : Prop :=
  jOK x RX8 cX8_cut 5 ∧
  jMt x "cut" (Option.none : Option Jvm.ClassFile.FieldType) [] ∧
  jRm x 4 60 ∧
  (∀ q : jW, en (.inr q) = some (.returned none, q)) ∧
  (∀ (l1 : Int32) (W : jW), jJ x 5 26 [(0, vR t), (1, vI l1)] [] W (some (.inl (.inl (l1, W)))) en) ∧
  (∀ (l1 : Int32) (l2 : Int32) (W : jW), jJ x 5 51 [(0, vR t), (1, vI l1), (2, vI l2)] [] W (some (.inl (.inr (.inl (l1, l2, W))))) en) ∧
  (∀ (l1 : Int32) (W : jW), jJ x 5 196 [(0, vR t), (1, vI l1)] [] W (some (.inl (.inr (.inr (.inl (l1, W)))))) en) ∧
  (∀ (l1 : Int32) (l2 : Int64) (W : jW), jJ x 5 232 [(0, vR t), (1, vI l1), (2, vL l2)] [] W (some (.inl (.inr (.inr (.inr (.inl (l1, l2, W))))))) en) ∧
  (∀ (l1 : Int32) (l2 : Int32) (W : jW), jJ x 5 320 [(0, vR t), (1, vI l1), (2, vI l2)] [] W (some (.inl (.inr (.inr (.inr (.inr (.inl (l1, l2, W)))))))) en) ∧
  (∀ (l2 : Int32) (W : jW), jJ x 5 467 [(0, vR t), (2, vI l2)] [] W (some (.inl (.inr (.inr (.inr (.inr (.inr (.inl (l2, W))))))))) en) ∧
  (∀ (l2 : Int32) (W : jW), jJ x 5 488 [(0, vR t), (2, vI l2)] [] W (some (.inl (.inr (.inr (.inr (.inr (.inr (.inr (.inl (l2, W)))))))))) en) ∧
  (∀ (l2 : Int32) (l3 : Int64) (W : jW), jJ x 5 524 [(0, vR t), (2, vI l2), (3, vL l3)] [] W (some (.inl (.inr (.inr (.inr (.inr (.inr (.inr (.inr (l2, l3, W)))))))))) en)
theorem wmo_cut_182 {x : jCx} {en : (fmo_cut_S ⊕ (jW)) → Option (Outcome × jW)} {t : Nat} (h : hmo_cut x en t) (l1 : Int32) (l2 : Int32) (W : jW) : jJ x 5 182 [(0, vR t), (1, vI l1), (2, vI l2)] [] W (fmo_cut_182 t l1 l2 W) en := by
  have h0 := h
  obtain ⟨hx, hm, hr, he, k26, k51, k196, k232, k320, k467, k488, k524⟩ := h0
  unfold fmo_cut_182
  refine j_runA hx 1 (tb := [(182, .iinc 2 1)]) (jtb_ok (by decide +kernel)) (pc' := 185) (lv' := [(2, vI (l2 + (kI 1))), (0, vR t), (1, vI l1)]) (st' := []) rfl ?_
  refine j_let (v := (l2 + (kI 1))) (lv := fun v29 => [(2, vI v29), (0, vR t), (1, vI l1)]) (st := fun _ => []) (fun v29 => ?_)
  refine j_goto hx (off := -134) (by decide +kernel) (tgt := 51) (by decide) ?_
  refine j_lv (lv' := [(0, vR t), (1, vI l1), (2, vI v29)]) ⟨rfl, rfl, rfl, trivial⟩ ?_
  exact k51 l1 v29 W
theorem wmo_cut_149 {x : jCx} {en : (fmo_cut_S ⊕ (jW)) → Option (Outcome × jW)} {t : Nat} (h : hmo_cut x en t) (l1 : Int32) (l2 : Int32) (s0 : Int32) (W : jW) : jJ x 5 149 [(0, vR t), (1, vI l1), (2, vI l2)] [vI s0] W (fmo_cut_149 t l1 l2 s0 W) en := by
  have h0 := h
  obtain ⟨hx, hm, hr, he, k26, k51, k196, k232, k320, k467, k488, k524⟩ := h0
  unfold fmo_cut_149
  refine j_runA hx 2 (tb := [(149, .istore 4), (151, .iload 4)]) (jtb_ok (by decide +kernel)) (pc' := 153) (lv' := [(4, vI s0), (0, vR t), (1, vI l1), (2, vI l2)]) (st' := [vI s0]) rfl ?_
  refine j_if_eq hx (off := 29) (tgt := 182) (by decide +kernel) (by decide) (fun _ => ?_) (fun _ => ?_)
  · refine j_lv (lv' := [(0, vR t), (1, vI l1), (2, vI l2)]) ⟨rfl, rfl, rfl, trivial⟩ ?_
    exact wmo_cut_182 h l1 l2 W
  refine j_runA hx 4 (tb := [(156, .iload_n 2), (157, .iconst 1), (158, .iadd), (159, .aload_n 0)]) (jtb_ok (by decide +kernel)) (pc' := 160) (lv' := [(4, vI s0), (0, vR t), (1, vI l1), (2, vI l2)]) (st' := [vR t, vI (l2 + (kI 1))]) rfl ?_
  refine j_gd (fun h23 => ?_)
  refine j_getR hx flX8_50 kl1319 h23 (by decide) (by decide +kernel) ?_
  refine j_runA hx 1 (tb := [(163, .iload_n 1)]) (jtb_ok (by decide +kernel)) (pc' := 164) (lv' := [(4, vI s0), (0, vR t), (1, vI l1), (2, vI l2)]) (st' := [vI l1, vR (jR W 1319 t), vI (l2 + (kI 1))]) rfl ?_
  refine j_gd (fun h24 => ?_)
  refine j_iald hx (f := 1319) (o := t) kd1319 rfl (by decide +kernel) h24 ?_
  refine j_runA hx 1 (tb := [(165, .aload_n 0)]) (jtb_ok (by decide +kernel)) (pc' := 166) (lv' := [(4, vI s0), (0, vR t), (1, vI l1), (2, vI l2)]) (st' := [vR t, vI (jA W 1319 t (ix l1)), vI (l2 + (kI 1))]) rfl ?_
  refine j_getR hx flX8_53 kl1320 h23 (by decide) (by decide +kernel) ?_
  refine j_runA hx 1 (tb := [(169, .iload_n 1)]) (jtb_ok (by decide +kernel)) (pc' := 170) (lv' := [(4, vI s0), (0, vR t), (1, vI l1), (2, vI l2)]) (st' := [vI l1, vR (jR W 1320 t), vI (jA W 1319 t (ix l1)), vI (l2 + (kI 1))]) rfl ?_
  refine j_gd (fun h25 => ?_)
  refine j_iald hx (f := 1320) (o := t) kd1320 rfl (by decide +kernel) h25 ?_
  refine j_runA hx 1 (tb := [(171, .iadd)]) (jtb_ok (by decide +kernel)) (pc' := 172) (lv' := [(4, vI s0), (0, vR t), (1, vI l1), (2, vI l2)]) (st' := [vI ((jA W 1319 t (ix l1)) + (jA W 1320 t (ix l1))), vI (l2 + (kI 1))]) rfl ?_
  refine j_icmp_ge hx (off := 10) (tgt := 182) (by decide +kernel) (by decide) (fun _ => ?_) (fun _ => ?_)
  · refine j_lv (lv' := [(0, vR t), (1, vI l1), (2, vI l2)]) ⟨rfl, rfl, rfl, trivial⟩ ?_
    exact wmo_cut_182 h l1 l2 W
  refine j_runA hx 4 (tb := [(175, .aload_n 0), (176, .iload_n 2), (177, .iconst 1), (178, .iadd)]) (jtb_ok (by decide +kernel)) (pc' := 179) (lv' := [(4, vI s0), (0, vR t), (1, vI l1), (2, vI l2)]) (st' := [vI (l2 + (kI 1)), vR t]) rfl ?_
  refine j_WV (j_callV (av := [vI (l2 + (kI 1))]) (st := []) hx hr (Or.inl q3055) q3057 qs145 rfl md_fmo_lead np_fmo_lead (cmo_lead t (l2 + (kI 1)) W) (by decide) (Nat.le_of_ble_eq_true rfl) h23 (by decide) (by decide +kernel)) (fun q26 _ => ?_)
  refine j_lv (lv' := [(0, vR t), (1, vI l1), (2, vI l2)]) ⟨rfl, rfl, rfl, trivial⟩ ?_
  exact wmo_cut_182 h l1 l2 q26
theorem wmo_cut_144 {x : jCx} {en : (fmo_cut_S ⊕ (jW)) → Option (Outcome × jW)} {t : Nat} (h : hmo_cut x en t) (l1 : Int32) (l2 : Int32) (W : jW) : jJ x 5 144 [(0, vR t), (1, vI l1), (2, vI l2)] [] W (fmo_cut_144 t l1 l2 W) en := by
  have h0 := h
  obtain ⟨hx, hm, hr, he, k26, k51, k196, k232, k320, k467, k488, k524⟩ := h0
  unfold fmo_cut_144
  refine j_runA hx 1 (tb := [(144, .iconst 1)]) (jtb_ok (by decide +kernel)) (pc' := 145) (lv' := [(0, vR t), (1, vI l1), (2, vI l2)]) (st' := [vI (kI 1)]) rfl ?_
  refine j_goto hx (off := 4) (by decide +kernel) (tgt := 149) (by decide) ?_
  exact wmo_cut_149 h l1 l2 (kI 1) W
theorem wmo_cut_107 {x : jCx} {en : (fmo_cut_S ⊕ (jW)) → Option (Outcome × jW)} {t : Nat} (h : hmo_cut x en t) (l1 : Int32) (l2 : Int32) (l3 : Int32) (W : jW) : jJ x 5 107 [(0, vR t), (1, vI l1), (2, vI l2), (3, vI l3)] [] W (fmo_cut_107 t l1 l2 l3 W) en := by
  have h0 := h
  obtain ⟨hx, hm, hr, he, k26, k51, k196, k232, k320, k467, k488, k524⟩ := h0
  unfold fmo_cut_107
  refine j_runA hx 1 (tb := [(107, .iload_n 3)]) (jtb_ok (by decide +kernel)) (pc' := 108) (lv' := [(0, vR t), (1, vI l1), (2, vI l2), (3, vI l3)]) (st' := [vI l3]) rfl ?_
  refine j_TI (j_callS (av := [vI l3]) (st := []) hx hr (Or.inl q3040) q3041 q241 md_fmo_isIf np_fmo_isIf (cmo_isIf l3 W) (by decide) (Nat.le_of_ble_eq_true rfl) (by decide +kernel)) ?_
  refine j_if_ne hx (off := 33) (tgt := 144) (by decide +kernel) (by decide) (fun _ => ?_) (fun _ => ?_)
  · refine j_lv (lv' := [(0, vR t), (1, vI l1), (2, vI l2)]) ⟨rfl, rfl, rfl, trivial⟩ ?_
    exact wmo_cut_144 h l1 l2 W
  refine j_runA hx 2 (tb := [(114, .iload_n 3), (115, .bipush 12)]) (jtb_ok (by decide +kernel)) (pc' := 117) (lv' := [(0, vR t), (1, vI l1), (2, vI l2), (3, vI l3)]) (st' := [vI (kI 12), vI l3]) rfl ?_
  refine j_icmp_eq hx (off := 27) (tgt := 144) (by decide +kernel) (by decide) (fun _ => ?_) (fun _ => ?_)
  · refine j_lv (lv' := [(0, vR t), (1, vI l1), (2, vI l2)]) ⟨rfl, rfl, rfl, trivial⟩ ?_
    exact wmo_cut_144 h l1 l2 W
  refine j_runA hx 2 (tb := [(120, .iload_n 3), (121, .bipush 17)]) (jtb_ok (by decide +kernel)) (pc' := 123) (lv' := [(0, vR t), (1, vI l1), (2, vI l2), (3, vI l3)]) (st' := [vI (kI 17), vI l3]) rfl ?_
  refine j_icmp_eq hx (off := 21) (tgt := 144) (by decide +kernel) (by decide) (fun _ => ?_) (fun _ => ?_)
  · refine j_lv (lv' := [(0, vR t), (1, vI l1), (2, vI l2)]) ⟨rfl, rfl, rfl, trivial⟩ ?_
    exact wmo_cut_144 h l1 l2 W
  refine j_runA hx 2 (tb := [(126, .iload_n 3), (127, .bipush 18)]) (jtb_ok (by decide +kernel)) (pc' := 129) (lv' := [(0, vR t), (1, vI l1), (2, vI l2), (3, vI l3)]) (st' := [vI (kI 18), vI l3]) rfl ?_
  refine j_icmp_eq hx (off := 15) (tgt := 144) (by decide +kernel) (by decide) (fun _ => ?_) (fun _ => ?_)
  · refine j_lv (lv' := [(0, vR t), (1, vI l1), (2, vI l2)]) ⟨rfl, rfl, rfl, trivial⟩ ?_
    exact wmo_cut_144 h l1 l2 W
  refine j_runA hx 2 (tb := [(132, .iload_n 3), (133, .bipush 13)]) (jtb_ok (by decide +kernel)) (pc' := 135) (lv' := [(0, vR t), (1, vI l1), (2, vI l2), (3, vI l3)]) (st' := [vI (kI 13), vI l3]) rfl ?_
  refine j_icmp_eq hx (off := 9) (tgt := 144) (by decide +kernel) (by decide) (fun _ => ?_) (fun _ => ?_)
  · refine j_lv (lv' := [(0, vR t), (1, vI l1), (2, vI l2)]) ⟨rfl, rfl, rfl, trivial⟩ ?_
    exact wmo_cut_144 h l1 l2 W
  refine j_runA hx 2 (tb := [(138, .iload_n 3), (139, .bipush 19)]) (jtb_ok (by decide +kernel)) (pc' := 141) (lv' := [(0, vR t), (1, vI l1), (2, vI l2), (3, vI l3)]) (st' := [vI (kI 19), vI l3]) rfl ?_
  refine j_icmp_ne hx (off := 7) (tgt := 148) (by decide +kernel) (by decide) (fun _ => ?_) (fun _ => ?_)
  · refine j_runA hx 1 (tb := [(148, .iconst 0)]) (jtb_ok (by decide +kernel)) (pc' := 149) (lv' := [(0, vR t), (1, vI l1), (2, vI l2), (3, vI l3)]) (st' := [vI (kI 0)]) rfl ?_
    refine j_lv (lv' := [(0, vR t), (1, vI l1), (2, vI l2)]) ⟨rfl, rfl, rfl, trivial⟩ ?_
    exact wmo_cut_149 h l1 l2 (kI 0) W
  refine j_lv (lv' := [(0, vR t), (1, vI l1), (2, vI l2)]) ⟨rfl, rfl, rfl, trivial⟩ ?_
  exact wmo_cut_144 h l1 l2 W
theorem wmo_cut_91 {x : jCx} {en : (fmo_cut_S ⊕ (jW)) → Option (Outcome × jW)} {t : Nat} (h : hmo_cut x en t) (l1 : Int32) (l2 : Int32) (l3 : Int32) (W : jW) : jJ x 5 91 [(0, vR t), (1, vI l1), (2, vI l2), (3, vI l3)] [] W (fmo_cut_91 t l1 l2 l3 W) en := by
  have h0 := h
  obtain ⟨hx, hm, hr, he, k26, k51, k196, k232, k320, k467, k488, k524⟩ := h0
  unfold fmo_cut_91
  refine j_runA hx 3 (tb := [(91, .aload_n 0), (92, .iload_n 2), (93, .aload_n 0)]) (jtb_ok (by decide +kernel)) (pc' := 94) (lv' := [(0, vR t), (1, vI l1), (2, vI l2), (3, vI l3)]) (st' := [vR t, vI l2, vR t]) rfl ?_
  refine j_gd (fun h32 => ?_)
  refine j_getR hx flX8_36 kl1315 h32 (by decide) (by decide +kernel) ?_
  refine j_runA hx 1 (tb := [(97, .iload_n 2)]) (jtb_ok (by decide +kernel)) (pc' := 98) (lv' := [(0, vR t), (1, vI l1), (2, vI l2), (3, vI l3)]) (st' := [vI l2, vR (jR W 1315 t), vI l2, vR t]) rfl ?_
  refine j_gd (fun h33 => ?_)
  refine j_iald hx (f := 1315) (o := t) kd1315 rfl (by decide +kernel) h33 ?_
  refine j_runA hx 1 (tb := [(99, .iload_n 3)]) (jtb_ok (by decide +kernel)) (pc' := 100) (lv' := [(0, vR t), (1, vI l1), (2, vI l2), (3, vI l3)]) (st' := [vI l3, vI (jA W 1315 t (ix l2)), vI l2, vR t]) rfl ?_
  refine j_TI (j_callS (av := [vI (jA W 1315 t (ix l2)), vI l3]) (st := [vI l2, vR t]) hx hr (Or.inl q3031) q3032 q241 md_fmo_far np_fmo_far (cmo_far (jA W 1315 t (ix l2)) l3 W) (by decide) (Nat.le_of_ble_eq_true rfl) (by decide +kernel)) ?_
  refine j_runA hx 1 (tb := [(103, .iadd)]) (jtb_ok (by decide +kernel)) (pc' := 104) (lv' := [(0, vR t), (1, vI l1), (2, vI l2), (3, vI l3)]) (st' := [vI (l2 + (fmo_far (jA W 1315 t (ix l2)) l3)), vR t]) rfl ?_
  refine j_WV (j_callV (av := [vI (l2 + (fmo_far (jA W 1315 t (ix l2)) l3))]) (st := []) hx hr (Or.inl q3055) q3057 qs145 rfl md_fmo_lead np_fmo_lead (cmo_lead t (l2 + (fmo_far (jA W 1315 t (ix l2)) l3)) W) (by decide) (Nat.le_of_ble_eq_true rfl) h32 (by decide) (by decide +kernel)) (fun q34 _ => ?_)
  exact wmo_cut_107 h l1 l2 l3 q34
theorem wmo_cut_51 {x : jCx} {en : (fmo_cut_S ⊕ (jW)) → Option (Outcome × jW)} {t : Nat} (h : hmo_cut x en t) (l1 : Int32) (l2 : Int32) (W : jW) : jJ x 5 51 [(0, vR t), (1, vI l1), (2, vI l2)] [] W (fmo_cut_51 t l1 l2 W) en := by
  have h0 := h
  obtain ⟨hx, hm, hr, he, k26, k51, k196, k232, k320, k467, k488, k524⟩ := h0
  unfold fmo_cut_51
  refine j_runA hx 2 (tb := [(51, .iload_n 2), (52, .aload_n 0)]) (jtb_ok (by decide +kernel)) (pc' := 53) (lv' := [(0, vR t), (1, vI l1), (2, vI l2)]) (st' := [vR t, vI l2]) rfl ?_
  refine j_gd (fun h15 => ?_)
  refine j_getR hx flX8_50 kl1319 h15 (by decide) (by decide +kernel) ?_
  refine j_runA hx 1 (tb := [(56, .iload_n 1)]) (jtb_ok (by decide +kernel)) (pc' := 57) (lv' := [(0, vR t), (1, vI l1), (2, vI l2)]) (st' := [vI l1, vR (jR W 1319 t), vI l2]) rfl ?_
  refine j_gd (fun h16 => ?_)
  refine j_iald hx (f := 1319) (o := t) kd1319 rfl (by decide +kernel) h16 ?_
  refine j_runA hx 1 (tb := [(58, .aload_n 0)]) (jtb_ok (by decide +kernel)) (pc' := 59) (lv' := [(0, vR t), (1, vI l1), (2, vI l2)]) (st' := [vR t, vI (jA W 1319 t (ix l1)), vI l2]) rfl ?_
  refine j_getR hx flX8_53 kl1320 h15 (by decide) (by decide +kernel) ?_
  refine j_runA hx 1 (tb := [(62, .iload_n 1)]) (jtb_ok (by decide +kernel)) (pc' := 63) (lv' := [(0, vR t), (1, vI l1), (2, vI l2)]) (st' := [vI l1, vR (jR W 1320 t), vI (jA W 1319 t (ix l1)), vI l2]) rfl ?_
  refine j_gd (fun h17 => ?_)
  refine j_iald hx (f := 1320) (o := t) kd1320 rfl (by decide +kernel) h17 ?_
  refine j_runA hx 1 (tb := [(64, .iadd)]) (jtb_ok (by decide +kernel)) (pc' := 65) (lv' := [(0, vR t), (1, vI l1), (2, vI l2)]) (st' := [vI ((jA W 1319 t (ix l1)) + (jA W 1320 t (ix l1))), vI l2]) rfl ?_
  refine j_icmp_ge hx (off := 123) (tgt := 188) (by decide +kernel) (by decide) (fun _ => ?_) (fun _ => ?_)
  · refine j_runA hx 1 (tb := [(188, .iinc 1 1)]) (jtb_ok (by decide +kernel)) (pc' := 191) (lv' := [(1, vI (l1 + (kI 1))), (0, vR t), (2, vI l2)]) (st' := []) rfl ?_
    refine j_let (v := (l1 + (kI 1))) (lv := fun v18 => [(1, vI v18), (0, vR t), (2, vI l2)]) (st := fun _ => []) (fun v18 => ?_)
    refine j_goto hx (off := -165) (by decide +kernel) (tgt := 26) (by decide) ?_
    refine j_lv (lv' := [(0, vR t), (1, vI v18)]) ⟨rfl, rfl, trivial⟩ ?_
    exact k26 v18 W
  refine j_runA hx 1 (tb := [(68, .aload_n 0)]) (jtb_ok (by decide +kernel)) (pc' := 69) (lv' := [(0, vR t), (1, vI l1), (2, vI l2)]) (st' := [vR t]) rfl ?_
  refine j_getR hx flX8_36 kl1315 h15 (by decide) (by decide +kernel) ?_
  refine j_runA hx 1 (tb := [(72, .iload_n 2)]) (jtb_ok (by decide +kernel)) (pc' := 73) (lv' := [(0, vR t), (1, vI l1), (2, vI l2)]) (st' := [vI l2, vR (jR W 1315 t)]) rfl ?_
  refine j_gd (fun h19 => ?_)
  refine j_iald hx (f := 1315) (o := t) kd1315 rfl (by decide +kernel) h19 ?_
  refine j_TI (j_callS (av := [vI (jA W 1315 t (ix l2))]) (st := []) hx hr (Or.inl q2953) q2954 q241 md_fmo_sort np_fmo_sort (cmo_sort (jA W 1315 t (ix l2)) W) (by decide) (Nat.le_of_ble_eq_true rfl) (by decide +kernel)) ?_
  refine j_runA hx 1 (tb := [(77, .istore_n 3)]) (jtb_ok (by decide +kernel)) (pc' := 78) (lv' := [(3, vI (fmo_sort (jA W 1315 t (ix l2)))), (0, vR t), (1, vI l1), (2, vI l2)]) (st' := []) rfl ?_
  refine j_let (v := (fmo_sort (jA W 1315 t (ix l2)))) (lv := fun v20 => [(3, vI v20), (0, vR t), (1, vI l1), (2, vI l2)]) (st := fun _ => []) (fun v20 => ?_)
  refine j_runA hx 1 (tb := [(78, .iload_n 3)]) (jtb_ok (by decide +kernel)) (pc' := 79) (lv' := [(3, vI v20), (0, vR t), (1, vI l1), (2, vI l2)]) (st' := [vI v20]) rfl ?_
  refine j_TI (j_callS (av := [vI v20]) (st := []) hx hr (Or.inl q3040) q3041 q241 md_fmo_isIf np_fmo_isIf (cmo_isIf v20 W) (by decide) (Nat.le_of_ble_eq_true rfl) (by decide +kernel)) ?_
  refine j_if_ne hx (off := 9) (tgt := 91) (by decide +kernel) (by decide) (fun _ => ?_) (fun _ => ?_)
  · refine j_lv (lv' := [(0, vR t), (1, vI l1), (2, vI l2), (3, vI v20)]) ⟨rfl, rfl, rfl, rfl, trivial⟩ ?_
    exact wmo_cut_91 h l1 l2 v20 W
  refine j_runA hx 2 (tb := [(85, .iload_n 3), (86, .bipush 12)]) (jtb_ok (by decide +kernel)) (pc' := 88) (lv' := [(3, vI v20), (0, vR t), (1, vI l1), (2, vI l2)]) (st' := [vI (kI 12), vI v20]) rfl ?_
  refine j_icmp_ne hx (off := 19) (tgt := 107) (by decide +kernel) (by decide) (fun _ => ?_) (fun _ => ?_)
  · refine j_lv (lv' := [(0, vR t), (1, vI l1), (2, vI l2), (3, vI v20)]) ⟨rfl, rfl, rfl, rfl, trivial⟩ ?_
    exact wmo_cut_107 h l1 l2 v20 W
  refine j_lv (lv' := [(0, vR t), (1, vI l1), (2, vI l2), (3, vI v20)]) ⟨rfl, rfl, rfl, rfl, trivial⟩ ?_
  exact wmo_cut_91 h l1 l2 v20 W
theorem wmo_cut_305 {x : jCx} {en : (fmo_cut_S ⊕ (jW)) → Option (Outcome × jW)} {t : Nat} (h : hmo_cut x en t) (l1 : Int32) (W : jW) : jJ x 5 305 [(0, vR t), (1, vI l1)] [] W (fmo_cut_305 t l1 W) en := by
  have h0 := h
  obtain ⟨hx, hm, hr, he, k26, k51, k196, k232, k320, k467, k488, k524⟩ := h0
  unfold fmo_cut_305
  refine j_runA hx 1 (tb := [(305, .iinc 1 1)]) (jtb_ok (by decide +kernel)) (pc' := 308) (lv' := [(1, vI (l1 + (kI 1))), (0, vR t)]) (st' := []) rfl ?_
  refine j_let (v := (l1 + (kI 1))) (lv := fun v48 => [(1, vI v48), (0, vR t)]) (st := fun _ => []) (fun v48 => ?_)
  refine j_goto hx (off := -112) (by decide +kernel) (tgt := 196) (by decide) ?_
  refine j_lv (lv' := [(0, vR t), (1, vI v48)]) ⟨rfl, rfl, trivial⟩ ?_
  exact k196 v48 W
theorem wmo_cut_296 {x : jCx} {en : (fmo_cut_S ⊕ (jW)) → Option (Outcome × jW)} {t : Nat} (h : hmo_cut x en t) (l1 : Int32) (l2 : Int64) (W : jW) : jJ x 5 296 [(0, vR t), (1, vI l1), (2, vL l2)] [] W (fmo_cut_296 t l1 l2 W) en := by
  have h0 := h
  obtain ⟨hx, hm, hr, he, k26, k51, k196, k232, k320, k467, k488, k524⟩ := h0
  unfold fmo_cut_296
  refine j_runA hx 1 (tb := [(296, .lload_n 2)]) (jtb_ok (by decide +kernel)) (pc' := 297) (lv' := [(0, vR t), (1, vI l1), (2, vL l2)]) (st' := [vL l2]) rfl ?_
  refine j_ldc2 hx (v := (kJ 24)) (jkd2 q3035 (by decide +kernel)) (by decide +kernel) ?_
  refine j_runA hx 2 (tb := [(300, .ladd), (301, .lstore_n 2)]) (jtb_ok (by decide +kernel)) (pc' := 302) (lv' := [(2, vL (l2 + (kJ 24))), (0, vR t), (1, vI l1)]) (st' := []) rfl ?_
  refine j_let (v := (l2 + (kJ 24))) (lv := fun v61 => [(2, vL v61), (0, vR t), (1, vI l1)]) (st := fun _ => []) (fun v61 => ?_)
  refine j_goto hx (off := -70) (by decide +kernel) (tgt := 232) (by decide) ?_
  refine j_lv (lv' := [(0, vR t), (1, vI l1), (2, vL v61)]) ⟨rfl, rfl, rfl, trivial⟩ ?_
  exact k232 l1 v61 W
theorem wmo_cut_232 {x : jCx} {en : (fmo_cut_S ⊕ (jW)) → Option (Outcome × jW)} {t : Nat} (h : hmo_cut x en t) (l1 : Int32) (l2 : Int64) (W : jW) : jJ x 5 232 [(0, vR t), (1, vI l1), (2, vL l2)] [] W (fmo_cut_232 t l1 l2 W) en := by
  have h0 := h
  obtain ⟨hx, hm, hr, he, k26, k51, k196, k232, k320, k467, k488, k524⟩ := h0
  unfold fmo_cut_232
  refine j_runA hx 2 (tb := [(232, .lload_n 2), (233, .aload_n 0)]) (jtb_ok (by decide +kernel)) (pc' := 234) (lv' := [(0, vR t), (1, vI l1), (2, vL l2)]) (st' := [vR t, vL l2]) rfl ?_
  refine j_gd (fun h50 => ?_)
  refine j_getR hx flX8_23 kl1305 h50 (by decide) (by decide +kernel) ?_
  refine j_gd (fun h51 => ?_)
  refine j_getR hx flX8_301 kl1412 h51 (by decide) (by decide +kernel) ?_
  refine j_runA hx 1 (tb := [(240, .iload_n 1)]) (jtb_ok (by decide +kernel)) (pc' := 241) (lv' := [(0, vR t), (1, vI l1), (2, vL l2)]) (st' := [vI l1, vR (jR W 1412 (jR W 1305 t)), vL l2]) rfl ?_
  refine j_gd (fun h52 => ?_)
  refine j_lald hx (f := 1412) (o := (jR W 1305 t)) kd1412 rfl (by decide +kernel) h52 ?_
  refine j_runA hx 1 (tb := [(242, .aload_n 0)]) (jtb_ok (by decide +kernel)) (pc' := 243) (lv' := [(0, vR t), (1, vI l1), (2, vL l2)]) (st' := [vR t, vL (jB W 1412 (jR W 1305 t) (ix l1)), vL l2]) rfl ?_
  refine j_getR hx flX8_23 kl1305 h50 (by decide) (by decide +kernel) ?_
  refine j_getR hx flX8_313 kl1414 h51 (by decide) (by decide +kernel) ?_
  refine j_runA hx 1 (tb := [(249, .iload_n 1)]) (jtb_ok (by decide +kernel)) (pc' := 250) (lv' := [(0, vR t), (1, vI l1), (2, vL l2)]) (st' := [vI l1, vR (jR W 1414 (jR W 1305 t)), vL (jB W 1412 (jR W 1305 t) (ix l1)), vL l2]) rfl ?_
  refine j_gd (fun h53 => ?_)
  refine j_lald hx (f := 1414) (o := (jR W 1305 t)) kd1414 rfl (by decide +kernel) h53 ?_
  refine j_runA hx 1 (tb := [(251, .ladd)]) (jtb_ok (by decide +kernel)) (pc' := 252) (lv' := [(0, vR t), (1, vI l1), (2, vL l2)]) (st' := [vL ((jB W 1412 (jR W 1305 t) (ix l1)) + (jB W 1414 (jR W 1305 t) (ix l1))), vL l2]) rfl ?_
  refine j_lcmp_ge hx (off := 52) (tgt := 305) (by decide +kernel) (by decide +kernel) (by decide) (fun _ => ?_) (fun _ => ?_)
  · refine j_lv (lv' := [(0, vR t), (1, vI l1)]) ⟨rfl, rfl, trivial⟩ ?_
    exact wmo_cut_305 h l1 W
  refine j_runA hx 2 (tb := [(256, .aload_n 0), (257, .lload_n 2)]) (jtb_ok (by decide +kernel)) (pc' := 258) (lv' := [(0, vR t), (1, vI l1), (2, vL l2)]) (st' := [vL l2, vR t]) rfl ?_
  refine j_OI (j_callV (av := [vL l2]) (st := []) hx hr (Or.inl q3010) q3012 qs139 rfl md_fmo_fixType np_fmo_fixType (cmo_fixType t l2 W) (by decide) (Nat.le_of_ble_eq_true rfl) h50 (by decide) (by decide +kernel)) (fun q54 _ => ?_)
  refine j_if_le hx (off := 35) (tgt := 296) (by decide +kernel) (by decide) (fun _ => ?_) (fun _ => ?_)
  · exact wmo_cut_296 h l1 l2 W
  refine j_runA hx 1 (tb := [(264, .aload_n 0)]) (jtb_ok (by decide +kernel)) (pc' := 265) (lv' := [(0, vR t), (1, vI l1), (2, vL l2)]) (st' := [vR t]) rfl ?_
  refine j_getR hx flX8_23 kl1305 h50 (by decide) (by decide +kernel) ?_
  refine j_runA hx 2 (tb := [(268, .aload_n 0), (269, .lload_n 2)]) (jtb_ok (by decide +kernel)) (pc' := 270) (lv' := [(0, vR t), (1, vI l1), (2, vL l2)]) (st' := [vL l2, vR t, vR (jR W 1305 t)]) rfl ?_
  refine j_OL (j_callV (av := [vL l2]) (st := [vR (jR W 1305 t)]) hx hr (Or.inl q3014) q3016 qs140 rfl md_fmo_target np_fmo_target (cmo_target t l2 W) (by decide) (Nat.le_of_ble_eq_true rfl) h50 (by decide) (by decide +kernel)) (fun q55 _ => ?_)
  refine j_OI (j_callV (av := [vL q55]) (st := []) hx hr (Or.inl q3019) q2924 q2925 rfl md_fhd_isIn np_fhd_isIn (chd_isIn (jR W 1305 t) q55 W) (by decide) (Nat.le_of_ble_eq_true rfl) h51 (by decide) (by decide +kernel)) (fun q56 _ => ?_)
  refine j_if_eq hx (off := 20) (tgt := 296) (by decide +kernel) (by decide) (fun _ => ?_) (fun _ => ?_)
  · exact wmo_cut_296 h l1 l2 W
  refine j_runA hx 3 (tb := [(279, .aload_n 0), (280, .aload_n 0), (281, .lload_n 2)]) (jtb_ok (by decide +kernel)) (pc' := 282) (lv' := [(0, vR t), (1, vI l1), (2, vL l2)]) (st' := [vL l2, vR t, vR t]) rfl ?_
  refine j_OL (j_callV (av := [vL l2]) (st := [vR t]) hx hr (Or.inl q3014) q3016 qs140 rfl md_fmo_target np_fmo_target (cmo_target t l2 W) (by decide) (Nat.le_of_ble_eq_true rfl) h50 (by decide) (by decide +kernel)) (fun q57 _ => ?_)
  refine j_runA hx 1 (tb := [(285, .aload_n 0)]) (jtb_ok (by decide +kernel)) (pc' := 286) (lv' := [(0, vR t), (1, vI l1), (2, vL l2)]) (st' := [vR t, vL q57, vR t]) rfl ?_
  refine j_getL hx flX8_310 kd1313 h50 (by decide) (by decide +kernel) ?_
  refine j_runA hx 3 (tb := [(289, .lsub), (290, .l2i), (291, .iconst 4)]) (jtb_ok (by decide +kernel)) (pc' := 292) (lv' := [(0, vR t), (1, vI l1), (2, vL l2)]) (st' := [vI (kI 4), vI ((q57 - (jL W 1313 t)).toInt32), vR t]) rfl ?_
  refine j_idiv hx (by decide +kernel) (by decide +kernel) ?_
  refine j_WV (j_callV (av := [vI (((q57 - (jL W 1313 t)).toInt32) / (kI 4))]) (st := []) hx hr (Or.inl q3055) q3057 qs145 rfl md_fmo_lead np_fmo_lead (cmo_lead t (((q57 - (jL W 1313 t)).toInt32) / (kI 4)) W) (by decide) (Nat.le_of_ble_eq_true rfl) h50 (by decide) (by decide +kernel)) (fun q58 _ => ?_)
  exact wmo_cut_296 h l1 l2 q58
theorem wmo_cut_432 {x : jCx} {en : (fmo_cut_S ⊕ (jW)) → Option (Outcome × jW)} {t : Nat} (h : hmo_cut x en t) (l1 : Int32) (l2 : Int32) (W : jW) : jJ x 5 432 [(0, vR t), (1, vI l1), (2, vI l2)] [] W (fmo_cut_432 t l1 l2 W) en := by
  have h0 := h
  obtain ⟨hx, hm, hr, he, k26, k51, k196, k232, k320, k467, k488, k524⟩ := h0
  unfold fmo_cut_432
  refine j_runA hx 1 (tb := [(432, .aload_n 0)]) (jtb_ok (by decide +kernel)) (pc' := 433) (lv' := [(0, vR t), (1, vI l1), (2, vI l2)]) (st' := [vR t]) rfl ?_
  refine j_gd (fun h102 => ?_)
  refine j_getR hx flX8_43 kl1317 h102 (by decide) (by decide +kernel) ?_
  refine j_runA hx 2 (tb := [(436, .iload_n 2), (437, .aload_n 0)]) (jtb_ok (by decide +kernel)) (pc' := 438) (lv' := [(0, vR t), (1, vI l1), (2, vI l2)]) (st' := [vR t, vI l2, vR (jR W 1317 t)]) rfl ?_
  refine j_getI hx flX8_399 kd1312 h102 (by decide) (by decide +kernel) ?_
  refine j_runA hx 2 (tb := [(441, .iconst 1), (442, .isub)]) (jtb_ok (by decide +kernel)) (pc' := 443) (lv' := [(0, vR t), (1, vI l1), (2, vI l2)]) (st' := [vI ((jI W 1312 t) - (kI 1)), vI l2, vR (jR W 1317 t)]) rfl ?_
  refine j_gd (fun h103 => ?_)
  refine j_iast hx (f := 1317) (o := t) kd1317 rfl (by decide +kernel) h103 ?_
  refine j_ltw rfl (fun W104 hc105 => ?_)
  have h106 : jC W104 t = 13 := (congrFun hc105 _).trans h102
  refine j_runA hx 1 (tb := [(444, .aload_n 0)]) (jtb_ok (by decide +kernel)) (pc' := 445) (lv' := [(0, vR t), (1, vI l1), (2, vI l2)]) (st' := [vR t]) rfl ?_
  refine j_getR hx flX8_62 kl1323 h106 (by decide) (by decide +kernel) ?_
  refine j_runA hx 1 (tb := [(448, .aload_n 0)]) (jtb_ok (by decide +kernel)) (pc' := 449) (lv' := [(0, vR t), (1, vI l1), (2, vI l2)]) (st' := [vR t, vR (jR W104 1323 t)]) rfl ?_
  refine j_getI hx flX8_399 kd1312 h106 (by decide) (by decide +kernel) ?_
  refine j_runA hx 3 (tb := [(452, .iconst 1), (453, .isub), (454, .dup2)]) (jtb_ok (by decide +kernel)) (pc' := 455) (lv' := [(0, vR t), (1, vI l1), (2, vI l2)]) (st' := [vI ((jI W104 1312 t) - (kI 1)), vR (jR W104 1323 t), vI ((jI W104 1312 t) - (kI 1)), vR (jR W104 1323 t)]) rfl ?_
  refine j_gd (fun h108 => ?_)
  refine j_iald hx (f := 1323) (o := t) kd1323 rfl (by decide +kernel) h108 ?_
  refine j_runA hx 2 (tb := [(456, .iconst 1), (457, .iadd)]) (jtb_ok (by decide +kernel)) (pc' := 458) (lv' := [(0, vR t), (1, vI l1), (2, vI l2)]) (st' := [vI ((jA W104 1323 t (ix ((jI W104 1312 t) - (kI 1)))) + (kI 1)), vI ((jI W104 1312 t) - (kI 1)), vR (jR W104 1323 t)]) rfl ?_
  refine j_gd (fun h109 => ?_)
  refine j_iast hx (f := 1323) (o := t) kd1323 rfl (by decide +kernel) h109 ?_
  refine j_ltw rfl (fun W110 hc111 => ?_)
  have h112 : jC W110 t = 13 := (congrFun hc111 _).trans h106
  refine j_runA hx 1 (tb := [(459, .iinc 2 1)]) (jtb_ok (by decide +kernel)) (pc' := 462) (lv' := [(2, vI (l2 + (kI 1))), (0, vR t), (1, vI l1)]) (st' := []) rfl ?_
  refine j_let (v := (l2 + (kI 1))) (lv := fun v114 => [(2, vI v114), (0, vR t), (1, vI l1)]) (st := fun _ => []) (fun v114 => ?_)
  refine j_goto hx (off := -142) (by decide +kernel) (tgt := 320) (by decide) ?_
  refine j_lv (lv' := [(0, vR t), (1, vI l1), (2, vI v114)]) ⟨rfl, rfl, rfl, trivial⟩ ?_
  exact k320 l1 v114 W110
theorem wmo_cut_382 {x : jCx} {en : (fmo_cut_S ⊕ (jW)) → Option (Outcome × jW)} {t : Nat} (h : hmo_cut x en t) (l1 : Int32) (l2 : Int32) (W : jW) : jJ x 5 382 [(0, vR t), (1, vI l1), (2, vI l2)] [] W (fmo_cut_382 t l1 l2 W) en := by
  have h0 := h
  obtain ⟨hx, hm, hr, he, k26, k51, k196, k232, k320, k467, k488, k524⟩ := h0
  unfold fmo_cut_382
  refine j_runA hx 1 (tb := [(382, .aload_n 0)]) (jtb_ok (by decide +kernel)) (pc' := 383) (lv' := [(0, vR t), (1, vI l1), (2, vI l2)]) (st' := [vR t]) rfl ?_
  refine j_gd (fun h76 => ?_)
  refine j_getR hx flX8_59 kl1322 h76 (by decide) (by decide +kernel) ?_
  refine j_runA hx 1 (tb := [(386, .aload_n 0)]) (jtb_ok (by decide +kernel)) (pc' := 387) (lv' := [(0, vR t), (1, vI l1), (2, vI l2)]) (st' := [vR t, vR (jR W 1322 t)]) rfl ?_
  refine j_getI hx flX8_399 kd1312 h76 (by decide) (by decide +kernel) ?_
  refine j_runA hx 1 (tb := [(390, .iload_n 2)]) (jtb_ok (by decide +kernel)) (pc' := 391) (lv' := [(0, vR t), (1, vI l1), (2, vI l2)]) (st' := [vI l2, vI (jI W 1312 t), vR (jR W 1322 t)]) rfl ?_
  refine j_gd (fun h77 => ?_)
  refine j_iast hx (f := 1322) (o := t) kd1322 rfl (by decide +kernel) h77 ?_
  refine j_ltw rfl (fun W78 hc79 => ?_)
  have h80 : jC W78 t = 13 := (congrFun hc79 _).trans h76
  refine j_runA hx 1 (tb := [(392, .aload_n 0)]) (jtb_ok (by decide +kernel)) (pc' := 393) (lv' := [(0, vR t), (1, vI l1), (2, vI l2)]) (st' := [vR t]) rfl ?_
  refine j_getR hx flX8_62 kl1323 h80 (by decide) (by decide +kernel) ?_
  refine j_runA hx 1 (tb := [(396, .aload_n 0)]) (jtb_ok (by decide +kernel)) (pc' := 397) (lv' := [(0, vR t), (1, vI l1), (2, vI l2)]) (st' := [vR t, vR (jR W78 1323 t)]) rfl ?_
  refine j_getI hx flX8_399 kd1312 h80 (by decide) (by decide +kernel) ?_
  refine j_runA hx 1 (tb := [(400, .iconst 0)]) (jtb_ok (by decide +kernel)) (pc' := 401) (lv' := [(0, vR t), (1, vI l1), (2, vI l2)]) (st' := [vI (kI 0), vI (jI W78 1312 t), vR (jR W78 1323 t)]) rfl ?_
  refine j_gd (fun h82 => ?_)
  refine j_iast hx (f := 1323) (o := t) kd1323 rfl (by decide +kernel) h82 ?_
  refine j_ltw rfl (fun W83 hc84 => ?_)
  have h85 : jC W83 t = 13 := (congrFun hc84 _).trans h80
  refine j_runA hx 1 (tb := [(402, .aload_n 0)]) (jtb_ok (by decide +kernel)) (pc' := 403) (lv' := [(0, vR t), (1, vI l1), (2, vI l2)]) (st' := [vR t]) rfl ?_
  refine j_getR hx flX8_65 kl1324 h85 (by decide) (by decide +kernel) ?_
  refine j_runA hx 1 (tb := [(406, .aload_n 0)]) (jtb_ok (by decide +kernel)) (pc' := 407) (lv' := [(0, vR t), (1, vI l1), (2, vI l2)]) (st' := [vR t, vR (jR W83 1324 t)]) rfl ?_
  refine j_getI hx flX8_399 kd1312 h85 (by decide) (by decide +kernel) ?_
  refine j_runA hx 1 (tb := [(410, .iload_n 1)]) (jtb_ok (by decide +kernel)) (pc' := 411) (lv' := [(0, vR t), (1, vI l1), (2, vI l2)]) (st' := [vI l1, vI (jI W83 1312 t), vR (jR W83 1324 t)]) rfl ?_
  refine j_gd (fun h87 => ?_)
  refine j_iast hx (f := 1324) (o := t) kd1324 rfl (by decide +kernel) h87 ?_
  refine j_ltw rfl (fun W88 hc89 => ?_)
  have h90 : jC W88 t = 13 := (congrFun hc89 _).trans h85
  refine j_runA hx 1 (tb := [(412, .aload_n 0)]) (jtb_ok (by decide +kernel)) (pc' := 413) (lv' := [(0, vR t), (1, vI l1), (2, vI l2)]) (st' := [vR t]) rfl ?_
  refine j_getR hx flX8_74 kl1327 h90 (by decide) (by decide +kernel) ?_
  refine j_runA hx 1 (tb := [(416, .aload_n 0)]) (jtb_ok (by decide +kernel)) (pc' := 417) (lv' := [(0, vR t), (1, vI l1), (2, vI l2)]) (st' := [vR t, vR (jR W88 1327 t)]) rfl ?_
  refine j_getI hx flX8_399 kd1312 h90 (by decide) (by decide +kernel) ?_
  refine j_runA hx 1 (tb := [(420, .iconst 0)]) (jtb_ok (by decide +kernel)) (pc' := 421) (lv' := [(0, vR t), (1, vI l1), (2, vI l2)]) (st' := [vI (kI 0), vI (jI W88 1312 t), vR (jR W88 1327 t)]) rfl ?_
  refine j_gd (fun h92 => ?_)
  refine j_zast hx (f := 1327) (o := t) kd1327 rfl (by decide +kernel) h92 ?_
  refine j_ltw rfl (fun W93 hc94 => ?_)
  have h95 : jC W93 t = 13 := (congrFun hc94 _).trans h90
  refine j_runA hx 2 (tb := [(422, .aload_n 0), (423, .dup)]) (jtb_ok (by decide +kernel)) (pc' := 424) (lv' := [(0, vR t), (1, vI l1), (2, vI l2)]) (st' := [vR t, vR t]) rfl ?_
  refine j_getI hx flX8_399 kd1312 h95 (by decide) (by decide +kernel) ?_
  refine j_runA hx 2 (tb := [(427, .iconst 1), (428, .iadd)]) (jtb_ok (by decide +kernel)) (pc' := 429) (lv' := [(0, vR t), (1, vI l1), (2, vI l2)]) (st' := [vI ((jI W93 1312 t) + (kI 1)), vR t]) rfl ?_
  refine j_putI hx fwX8_399 wf1312 kd1312 h95 (by decide) (by decide +kernel) (ni1312 _) (fi1312 _) ?_
  refine j_ltw rfl (fun W97 hc98 => ?_)
  have h99 : jC W97 t = 13 := (congrFun hc98 _).trans h95
  exact wmo_cut_432 h l1 l2 W97
theorem wmo_cut_353 {x : jCx} {en : (fmo_cut_S ⊕ (jW)) → Option (Outcome × jW)} {t : Nat} (h : hmo_cut x en t) (l1 : Int32) (l2 : Int32) (W : jW) : jJ x 5 353 [(0, vR t), (1, vI l1), (2, vI l2)] [] W (fmo_cut_353 t l1 l2 W) en := by
  have h0 := h
  obtain ⟨hx, hm, hr, he, k26, k51, k196, k232, k320, k467, k488, k524⟩ := h0
  unfold fmo_cut_353
  refine j_runA hx 1 (tb := [(353, .aload_n 0)]) (jtb_ok (by decide +kernel)) (pc' := 354) (lv' := [(0, vR t), (1, vI l1), (2, vI l2)]) (st' := [vR t]) rfl ?_
  refine j_gd (fun h67 => ?_)
  refine j_getR hx flX8_46 kl1318 h67 (by decide) (by decide +kernel) ?_
  refine j_runA hx 1 (tb := [(357, .iload_n 2)]) (jtb_ok (by decide +kernel)) (pc' := 358) (lv' := [(0, vR t), (1, vI l1), (2, vI l2)]) (st' := [vI l2, vR (jR W 1318 t)]) rfl ?_
  refine j_gd (fun h68 => ?_)
  refine j_zald hx (f := 1318) (o := t) kd1318 rfl (by decide +kernel) h68 ?_
  refine j_if_eq hx (off := 73) (tgt := 432) (by decide +kernel) (by decide) (fun _ => ?_) (fun _ => ?_)
  · exact wmo_cut_432 h l1 l2 W
  refine j_runA hx 1 (tb := [(362, .aload_n 0)]) (jtb_ok (by decide +kernel)) (pc' := 363) (lv' := [(0, vR t), (1, vI l1), (2, vI l2)]) (st' := [vR t]) rfl ?_
  refine j_getR hx flX8_50 kl1319 h67 (by decide) (by decide +kernel) ?_
  refine j_runA hx 1 (tb := [(366, .iload_n 1)]) (jtb_ok (by decide +kernel)) (pc' := 367) (lv' := [(0, vR t), (1, vI l1), (2, vI l2)]) (st' := [vI l1, vR (jR W 1319 t)]) rfl ?_
  refine j_gd (fun h69 => ?_)
  refine j_iald hx (f := 1319) (o := t) kd1319 rfl (by decide +kernel) h69 ?_
  refine j_runA hx 1 (tb := [(368, .iload_n 2)]) (jtb_ok (by decide +kernel)) (pc' := 369) (lv' := [(0, vR t), (1, vI l1), (2, vI l2)]) (st' := [vI l2, vI (jA W 1319 t (ix l1))]) rfl ?_
  refine j_icmp_ne hx (off := 13) (tgt := 382) (by decide +kernel) (by decide) (fun _ => ?_) (fun _ => ?_)
  · exact wmo_cut_382 h l1 l2 W
  refine j_runA hx 1 (tb := [(372, .aload_n 0)]) (jtb_ok (by decide +kernel)) (pc' := 373) (lv' := [(0, vR t), (1, vI l1), (2, vI l2)]) (st' := [vR t]) rfl ?_
  refine j_getR hx flX8_56 kl1321 h67 (by decide) (by decide +kernel) ?_
  refine j_runA hx 2 (tb := [(376, .iload_n 1), (377, .aload_n 0)]) (jtb_ok (by decide +kernel)) (pc' := 378) (lv' := [(0, vR t), (1, vI l1), (2, vI l2)]) (st' := [vR t, vI l1, vR (jR W 1321 t)]) rfl ?_
  refine j_getI hx flX8_399 kd1312 h67 (by decide) (by decide +kernel) ?_
  refine j_gd (fun h70 => ?_)
  refine j_iast hx (f := 1321) (o := t) kd1321 rfl (by decide +kernel) h70 ?_
  refine j_ltw rfl (fun W71 hc72 => ?_)
  have h73 : jC W71 t = 13 := (congrFun hc72 _).trans h67
  exact wmo_cut_382 h l1 l2 W71
theorem wmo_cut_607 {x : jCx} {en : (fmo_cut_S ⊕ (jW)) → Option (Outcome × jW)} {t : Nat} (h : hmo_cut x en t) (l2 : Int32) (W : jW) : jJ x 5 607 [(0, vR t), (2, vI l2)] [] W (fmo_cut_607 t l2 W) en := by
  have h0 := h
  obtain ⟨hx, hm, hr, he, k26, k51, k196, k232, k320, k467, k488, k524⟩ := h0
  unfold fmo_cut_607
  refine j_runA hx 1 (tb := [(607, .iinc 2 1)]) (jtb_ok (by decide +kernel)) (pc' := 610) (lv' := [(2, vI (l2 + (kI 1))), (0, vR t)]) (st' := []) rfl ?_
  refine j_let (v := (l2 + (kI 1))) (lv := fun v127 => [(2, vI v127), (0, vR t)]) (st := fun _ => []) (fun v127 => ?_)
  refine j_goto hx (off := -122) (by decide +kernel) (tgt := 488) (by decide) ?_
  refine j_lv (lv' := [(0, vR t), (2, vI v127)]) ⟨rfl, rfl, trivial⟩ ?_
  exact k488 v127 W
theorem wmo_cut_598 {x : jCx} {en : (fmo_cut_S ⊕ (jW)) → Option (Outcome × jW)} {t : Nat} (h : hmo_cut x en t) (l2 : Int32) (l3 : Int64) (W : jW) : jJ x 5 598 [(0, vR t), (2, vI l2), (3, vL l3)] [] W (fmo_cut_598 t l2 l3 W) en := by
  have h0 := h
  obtain ⟨hx, hm, hr, he, k26, k51, k196, k232, k320, k467, k488, k524⟩ := h0
  unfold fmo_cut_598
  refine j_runA hx 1 (tb := [(598, .lload_n 3)]) (jtb_ok (by decide +kernel)) (pc' := 599) (lv' := [(0, vR t), (2, vI l2), (3, vL l3)]) (st' := [vL l3]) rfl ?_
  refine j_ldc2 hx (v := (kJ 24)) (jkd2 q3035 (by decide +kernel)) (by decide +kernel) ?_
  refine j_runA hx 2 (tb := [(602, .ladd), (603, .lstore_n 3)]) (jtb_ok (by decide +kernel)) (pc' := 604) (lv' := [(3, vL (l3 + (kJ 24))), (0, vR t), (2, vI l2)]) (st' := []) rfl ?_
  refine j_let (v := (l3 + (kJ 24))) (lv := fun v145 => [(3, vL v145), (0, vR t), (2, vI l2)]) (st := fun _ => []) (fun v145 => ?_)
  refine j_goto hx (off := -80) (by decide +kernel) (tgt := 524) (by decide) ?_
  refine j_lv (lv' := [(0, vR t), (2, vI l2), (3, vL v145)]) ⟨rfl, rfl, rfl, trivial⟩ ?_
  exact k524 l2 v145 W
theorem wmo_cut_524 {x : jCx} {en : (fmo_cut_S ⊕ (jW)) → Option (Outcome × jW)} {t : Nat} (h : hmo_cut x en t) (l2 : Int32) (l3 : Int64) (W : jW) : jJ x 5 524 [(0, vR t), (2, vI l2), (3, vL l3)] [] W (fmo_cut_524 t l2 l3 W) en := by
  have h0 := h
  obtain ⟨hx, hm, hr, he, k26, k51, k196, k232, k320, k467, k488, k524⟩ := h0
  unfold fmo_cut_524
  refine j_runA hx 2 (tb := [(524, .lload_n 3), (525, .aload_n 0)]) (jtb_ok (by decide +kernel)) (pc' := 526) (lv' := [(0, vR t), (2, vI l2), (3, vL l3)]) (st' := [vR t, vL l3]) rfl ?_
  refine j_gd (fun h129 => ?_)
  refine j_getR hx flX8_23 kl1305 h129 (by decide) (by decide +kernel) ?_
  refine j_gd (fun h130 => ?_)
  refine j_getR hx flX8_301 kl1412 h130 (by decide) (by decide +kernel) ?_
  refine j_runA hx 1 (tb := [(532, .iload_n 2)]) (jtb_ok (by decide +kernel)) (pc' := 533) (lv' := [(0, vR t), (2, vI l2), (3, vL l3)]) (st' := [vI l2, vR (jR W 1412 (jR W 1305 t)), vL l3]) rfl ?_
  refine j_gd (fun h131 => ?_)
  refine j_lald hx (f := 1412) (o := (jR W 1305 t)) kd1412 rfl (by decide +kernel) h131 ?_
  refine j_runA hx 1 (tb := [(534, .aload_n 0)]) (jtb_ok (by decide +kernel)) (pc' := 535) (lv' := [(0, vR t), (2, vI l2), (3, vL l3)]) (st' := [vR t, vL (jB W 1412 (jR W 1305 t) (ix l2)), vL l3]) rfl ?_
  refine j_getR hx flX8_23 kl1305 h129 (by decide) (by decide +kernel) ?_
  refine j_getR hx flX8_313 kl1414 h130 (by decide) (by decide +kernel) ?_
  refine j_runA hx 1 (tb := [(541, .iload_n 2)]) (jtb_ok (by decide +kernel)) (pc' := 542) (lv' := [(0, vR t), (2, vI l2), (3, vL l3)]) (st' := [vI l2, vR (jR W 1414 (jR W 1305 t)), vL (jB W 1412 (jR W 1305 t) (ix l2)), vL l3]) rfl ?_
  refine j_gd (fun h132 => ?_)
  refine j_lald hx (f := 1414) (o := (jR W 1305 t)) kd1414 rfl (by decide +kernel) h132 ?_
  refine j_runA hx 1 (tb := [(543, .ladd)]) (jtb_ok (by decide +kernel)) (pc' := 544) (lv' := [(0, vR t), (2, vI l2), (3, vL l3)]) (st' := [vL ((jB W 1412 (jR W 1305 t) (ix l2)) + (jB W 1414 (jR W 1305 t) (ix l2))), vL l3]) rfl ?_
  refine j_lcmp_ge hx (off := 62) (tgt := 607) (by decide +kernel) (by decide +kernel) (by decide) (fun _ => ?_) (fun _ => ?_)
  · refine j_lv (lv' := [(0, vR t), (2, vI l2)]) ⟨rfl, rfl, trivial⟩ ?_
    exact wmo_cut_607 h l2 W
  refine j_runA hx 2 (tb := [(548, .aload_n 0), (549, .lload_n 3)]) (jtb_ok (by decide +kernel)) (pc' := 550) (lv' := [(0, vR t), (2, vI l2), (3, vL l3)]) (st' := [vL l3, vR t]) rfl ?_
  refine j_OI (j_callV (av := [vL l3]) (st := []) hx hr (Or.inl q3010) q3012 qs139 rfl md_fmo_fixType np_fmo_fixType (cmo_fixType t l3 W) (by decide) (Nat.le_of_ble_eq_true rfl) h129 (by decide) (by decide +kernel)) (fun q133 _ => ?_)
  refine j_runA hx 1 (tb := [(553, .sipush 257)]) (jtb_ok (by decide +kernel)) (pc' := 556) (lv' := [(0, vR t), (2, vI l2), (3, vL l3)]) (st' := [vI (kI 257), vI q133]) rfl ?_
  refine j_icmp_ne hx (off := 42) (tgt := 598) (by decide +kernel) (by decide) (fun _ => ?_) (fun _ => ?_)
  · exact wmo_cut_598 h l2 l3 W
  refine j_runA hx 1 (tb := [(559, .aload_n 0)]) (jtb_ok (by decide +kernel)) (pc' := 560) (lv' := [(0, vR t), (2, vI l2), (3, vL l3)]) (st' := [vR t]) rfl ?_
  refine j_getR hx flX8_23 kl1305 h129 (by decide) (by decide +kernel) ?_
  refine j_runA hx 2 (tb := [(563, .aload_n 0), (564, .lload_n 3)]) (jtb_ok (by decide +kernel)) (pc' := 565) (lv' := [(0, vR t), (2, vI l2), (3, vL l3)]) (st' := [vL l3, vR t, vR (jR W 1305 t)]) rfl ?_
  refine j_OL (j_callV (av := [vL l3]) (st := [vR (jR W 1305 t)]) hx hr (Or.inl q3014) q3016 qs140 rfl md_fmo_target np_fmo_target (cmo_target t l3 W) (by decide) (Nat.le_of_ble_eq_true rfl) h129 (by decide) (by decide +kernel)) (fun q134 _ => ?_)
  refine j_OI (j_callV (av := [vL q134]) (st := []) hx hr (Or.inl q3019) q2924 q2925 rfl md_fhd_isIn np_fhd_isIn (chd_isIn (jR W 1305 t) q134 W) (by decide) (Nat.le_of_ble_eq_true rfl) h130 (by decide) (by decide +kernel)) (fun q135 _ => ?_)
  refine j_if_eq hx (off := 27) (tgt := 598) (by decide +kernel) (by decide) (fun _ => ?_) (fun _ => ?_)
  · exact wmo_cut_598 h l2 l3 W
  refine j_runA hx 1 (tb := [(574, .aload_n 0)]) (jtb_ok (by decide +kernel)) (pc' := 575) (lv' := [(0, vR t), (2, vI l2), (3, vL l3)]) (st' := [vR t]) rfl ?_
  refine j_getR hx flX8_74 kl1327 h129 (by decide) (by decide +kernel) ?_
  refine j_runA hx 1 (tb := [(578, .aload_n 0)]) (jtb_ok (by decide +kernel)) (pc' := 579) (lv' := [(0, vR t), (2, vI l2), (3, vL l3)]) (st' := [vR t, vR (jR W 1327 t)]) rfl ?_
  refine j_getR hx flX8_43 kl1317 h129 (by decide) (by decide +kernel) ?_
  refine j_runA hx 2 (tb := [(582, .aload_n 0), (583, .lload_n 3)]) (jtb_ok (by decide +kernel)) (pc' := 584) (lv' := [(0, vR t), (2, vI l2), (3, vL l3)]) (st' := [vL l3, vR t, vR (jR W 1317 t), vR (jR W 1327 t)]) rfl ?_
  refine j_OL (j_callV (av := [vL l3]) (st := [vR (jR W 1317 t), vR (jR W 1327 t)]) hx hr (Or.inl q3014) q3016 qs140 rfl md_fmo_target np_fmo_target (cmo_target t l3 W) (by decide) (Nat.le_of_ble_eq_true rfl) h129 (by decide) (by decide +kernel)) (fun q136 _ => ?_)
  refine j_runA hx 1 (tb := [(587, .aload_n 0)]) (jtb_ok (by decide +kernel)) (pc' := 588) (lv' := [(0, vR t), (2, vI l2), (3, vL l3)]) (st' := [vR t, vL q136, vR (jR W 1317 t), vR (jR W 1327 t)]) rfl ?_
  refine j_getL hx flX8_310 kd1313 h129 (by decide) (by decide +kernel) ?_
  refine j_runA hx 3 (tb := [(591, .lsub), (592, .l2i), (593, .iconst 4)]) (jtb_ok (by decide +kernel)) (pc' := 594) (lv' := [(0, vR t), (2, vI l2), (3, vL l3)]) (st' := [vI (kI 4), vI ((q136 - (jL W 1313 t)).toInt32), vR (jR W 1317 t), vR (jR W 1327 t)]) rfl ?_
  refine j_idiv hx (by decide +kernel) (by decide +kernel) ?_
  refine j_gd (fun h137 => ?_)
  refine j_iald hx (f := 1317) (o := t) kd1317 rfl (by decide +kernel) h137 ?_
  refine j_runA hx 1 (tb := [(596, .iconst 1)]) (jtb_ok (by decide +kernel)) (pc' := 597) (lv' := [(0, vR t), (2, vI l2), (3, vL l3)]) (st' := [vI (kI 1), vI (jA W 1317 t (ix (((q136 - (jL W 1313 t)).toInt32) / (kI 4)))), vR (jR W 1327 t)]) rfl ?_
  refine j_gd (fun h138 => ?_)
  refine j_zast hx (f := 1327) (o := t) kd1327 rfl (by decide +kernel) h138 ?_
  refine j_ltw rfl (fun W139 hc140 => ?_)
  have h141 : jC W139 t = 13 := (congrFun hc140 _).trans h129
  have h142 : jC W139 (jR W 1305 t) = 14 := (congrFun hc140 _).trans h130
  exact wmo_cut_598 h l2 l3 W139
theorem wmo_cut_488 {x : jCx} {en : (fmo_cut_S ⊕ (jW)) → Option (Outcome × jW)} {t : Nat} (h : hmo_cut x en t) (l2 : Int32) (W : jW) : jJ x 5 488 [(0, vR t), (2, vI l2)] [] W (fmo_cut_488 t l2 W) en := by
  have h0 := h
  obtain ⟨hx, hm, hr, he, k26, k51, k196, k232, k320, k467, k488, k524⟩ := h0
  unfold fmo_cut_488
  refine j_runA hx 2 (tb := [(488, .iload_n 2), (489, .aload_n 0)]) (jtb_ok (by decide +kernel)) (pc' := 490) (lv' := [(0, vR t), (2, vI l2)]) (st' := [vR t, vI l2]) rfl ?_
  refine j_gd (fun h121 => ?_)
  refine j_getR hx flX8_23 kl1305 h121 (by decide) (by decide +kernel) ?_
  refine j_gd (fun h122 => ?_)
  refine j_getI hx flX8_333 kd1403 h122 (by decide) (by decide +kernel) ?_
  refine j_icmp_ge hx (off := 117) (tgt := 613) (by decide +kernel) (by decide) (fun _ => ?_) (fun _ => ?_)
  · exact j_vret hx hm (by decide +kernel) (he _)
  refine j_runA hx 1 (tb := [(499, .aload_n 0)]) (jtb_ok (by decide +kernel)) (pc' := 500) (lv' := [(0, vR t), (2, vI l2)]) (st' := [vR t]) rfl ?_
  refine j_getR hx flX8_23 kl1305 h121 (by decide) (by decide +kernel) ?_
  refine j_runA hx 1 (tb := [(503, .iload_n 2)]) (jtb_ok (by decide +kernel)) (pc' := 504) (lv' := [(0, vR t), (2, vI l2)]) (st' := [vI l2, vR (jR W 1305 t)]) rfl ?_
  refine j_OI (j_callV (av := [vI l2]) (st := []) hx hr (Or.inl q3005) q2878 q2879 rfl md_fhd_what np_fhd_what (chd_what (jR W 1305 t) l2 W) (by decide) (Nat.le_of_ble_eq_true rfl) h122 (by decide) (by decide +kernel)) (fun q123 _ => ?_)
  refine j_runA hx 1 (tb := [(507, .iconst 4)]) (jtb_ok (by decide +kernel)) (pc' := 508) (lv' := [(0, vR t), (2, vI l2)]) (st' := [vI (kI 4), vI q123]) rfl ?_
  refine j_icmp_eq hx (off := 6) (tgt := 514) (by decide +kernel) (by decide) (fun _ => ?_) (fun _ => ?_)
  · refine j_runA hx 1 (tb := [(514, .aload_n 0)]) (jtb_ok (by decide +kernel)) (pc' := 515) (lv' := [(0, vR t), (2, vI l2)]) (st' := [vR t]) rfl ?_
    refine j_getR hx flX8_23 kl1305 h121 (by decide) (by decide +kernel) ?_
    refine j_getR hx flX8_301 kl1412 h122 (by decide) (by decide +kernel) ?_
    refine j_runA hx 1 (tb := [(521, .iload_n 2)]) (jtb_ok (by decide +kernel)) (pc' := 522) (lv' := [(0, vR t), (2, vI l2)]) (st' := [vI l2, vR (jR W 1412 (jR W 1305 t))]) rfl ?_
    refine j_gd (fun h124 => ?_)
    refine j_lald hx (f := 1412) (o := (jR W 1305 t)) kd1412 rfl (by decide +kernel) h124 ?_
    refine j_runA hx 1 (tb := [(523, .lstore_n 3)]) (jtb_ok (by decide +kernel)) (pc' := 524) (lv' := [(3, vL (jB W 1412 (jR W 1305 t) (ix l2))), (0, vR t), (2, vI l2)]) (st' := []) rfl ?_
    refine j_let (v := (jB W 1412 (jR W 1305 t) (ix l2))) (lv := fun v125 => [(3, vL v125), (0, vR t), (2, vI l2)]) (st := fun _ => []) (fun v125 => ?_)
    refine j_lv (lv' := [(0, vR t), (2, vI l2), (3, vL v125)]) ⟨rfl, rfl, rfl, trivial⟩ ?_
    exact k524 l2 v125 W
  refine j_goto hx (off := 96) (by decide +kernel) (tgt := 607) (by decide) ?_
  exact wmo_cut_607 h l2 W
theorem wmo_cut_467 {x : jCx} {en : (fmo_cut_S ⊕ (jW)) → Option (Outcome × jW)} {t : Nat} (h : hmo_cut x en t) (l2 : Int32) (W : jW) : jJ x 5 467 [(0, vR t), (2, vI l2)] [] W (fmo_cut_467 t l2 W) en := by
  have h0 := h
  obtain ⟨hx, hm, hr, he, k26, k51, k196, k232, k320, k467, k488, k524⟩ := h0
  unfold fmo_cut_467
  refine j_runA hx 2 (tb := [(467, .iload_n 2), (468, .aload_n 0)]) (jtb_ok (by decide +kernel)) (pc' := 469) (lv' := [(0, vR t), (2, vI l2)]) (st' := [vR t, vI l2]) rfl ?_
  refine j_gd (fun h116 => ?_)
  refine j_getI hx flX8_399 kd1312 h116 (by decide) (by decide +kernel) ?_
  refine j_icmp_ge hx (off := 14) (tgt := 486) (by decide +kernel) (by decide) (fun _ => ?_) (fun _ => ?_)
  · refine j_runA hx 2 (tb := [(486, .iconst 1), (487, .istore_n 2)]) (jtb_ok (by decide +kernel)) (pc' := 488) (lv' := [(2, vI (kI 1)), (0, vR t)]) (st' := []) rfl ?_
    refine j_lv (lv' := [(0, vR t), (2, vI (kI 1))]) ⟨rfl, rfl, trivial⟩ ?_
    exact k488 (kI 1) W
  refine j_runA hx 2 (tb := [(475, .aload_n 0), (476, .iload_n 2)]) (jtb_ok (by decide +kernel)) (pc' := 477) (lv' := [(0, vR t), (2, vI l2)]) (st' := [vI l2, vR t]) rfl ?_
  refine j_WV (j_callV (av := [vI l2]) (st := []) hx hr (Or.inl q3059) q3061 qs146 rfl md_fmo_close np_fmo_close (cmo_close t l2 W) (by decide) (Nat.le_of_ble_eq_true rfl) h116 (by decide) (by decide +kernel)) (fun q117 _ => ?_)
  refine j_runA hx 1 (tb := [(480, .iinc 2 1)]) (jtb_ok (by decide +kernel)) (pc' := 483) (lv' := [(2, vI (l2 + (kI 1))), (0, vR t)]) (st' := []) rfl ?_
  refine j_let (v := (l2 + (kI 1))) (lv := fun v119 => [(2, vI v119), (0, vR t)]) (st := fun _ => []) (fun v119 => ?_)
  refine j_goto hx (off := -16) (by decide +kernel) (tgt := 467) (by decide) ?_
  refine j_lv (lv' := [(0, vR t), (2, vI v119)]) ⟨rfl, rfl, trivial⟩ ?_
  exact k467 v119 q117
theorem wmo_cut_320 {x : jCx} {en : (fmo_cut_S ⊕ (jW)) → Option (Outcome × jW)} {t : Nat} (h : hmo_cut x en t) (l1 : Int32) (l2 : Int32) (W : jW) : jJ x 5 320 [(0, vR t), (1, vI l1), (2, vI l2)] [] W (fmo_cut_320 t l1 l2 W) en := by
  have h0 := h
  obtain ⟨hx, hm, hr, he, k26, k51, k196, k232, k320, k467, k488, k524⟩ := h0
  unfold fmo_cut_320
  refine j_runA hx 2 (tb := [(320, .iload_n 2), (321, .aload_n 0)]) (jtb_ok (by decide +kernel)) (pc' := 322) (lv' := [(0, vR t), (1, vI l1), (2, vI l2)]) (st' := [vR t, vI l2]) rfl ?_
  refine j_gd (fun h63 => ?_)
  refine j_getI hx flX8_316 kd1310 h63 (by decide) (by decide +kernel) ?_
  refine j_icmp_ge hx (off := 140) (tgt := 465) (by decide +kernel) (by decide) (fun _ => ?_) (fun _ => ?_)
  · refine j_runA hx 2 (tb := [(465, .iconst 0), (466, .istore_n 2)]) (jtb_ok (by decide +kernel)) (pc' := 467) (lv' := [(2, vI (kI 0)), (0, vR t), (1, vI l1)]) (st' := []) rfl ?_
    refine j_lv (lv' := [(0, vR t), (2, vI (kI 0))]) ⟨rfl, rfl, trivial⟩ ?_
    exact k467 (kI 0) W
  refine j_runA hx 4 (tb := [(328, .iload_n 1), (329, .iconst 1), (330, .iadd), (331, .aload_n 0)]) (jtb_ok (by decide +kernel)) (pc' := 332) (lv' := [(0, vR t), (1, vI l1), (2, vI l2)]) (st' := [vR t, vI (l1 + (kI 1))]) rfl ?_
  refine j_getI hx flX8_281 kd1311 h63 (by decide) (by decide +kernel) ?_
  refine j_icmp_ge hx (off := 18) (tgt := 353) (by decide +kernel) (by decide) (fun _ => ?_) (fun _ => ?_)
  · exact wmo_cut_353 h l1 l2 W
  refine j_runA hx 1 (tb := [(338, .aload_n 0)]) (jtb_ok (by decide +kernel)) (pc' := 339) (lv' := [(0, vR t), (1, vI l1), (2, vI l2)]) (st' := [vR t]) rfl ?_
  refine j_getR hx flX8_50 kl1319 h63 (by decide) (by decide +kernel) ?_
  refine j_runA hx 3 (tb := [(342, .iload_n 1), (343, .iconst 1), (344, .iadd)]) (jtb_ok (by decide +kernel)) (pc' := 345) (lv' := [(0, vR t), (1, vI l1), (2, vI l2)]) (st' := [vI (l1 + (kI 1)), vR (jR W 1319 t)]) rfl ?_
  refine j_gd (fun h64 => ?_)
  refine j_iald hx (f := 1319) (o := t) kd1319 rfl (by decide +kernel) h64 ?_
  refine j_runA hx 1 (tb := [(346, .iload_n 2)]) (jtb_ok (by decide +kernel)) (pc' := 347) (lv' := [(0, vR t), (1, vI l1), (2, vI l2)]) (st' := [vI l2, vI (jA W 1319 t (ix (l1 + (kI 1))))]) rfl ?_
  refine j_icmp_ne hx (off := 6) (tgt := 353) (by decide +kernel) (by decide) (fun _ => ?_) (fun _ => ?_)
  · exact wmo_cut_353 h l1 l2 W
  refine j_runA hx 1 (tb := [(350, .iinc 1 1)]) (jtb_ok (by decide +kernel)) (pc' := 353) (lv' := [(1, vI (l1 + (kI 1))), (0, vR t), (2, vI l2)]) (st' := []) rfl ?_
  refine j_let (v := (l1 + (kI 1))) (lv := fun v65 => [(1, vI v65), (0, vR t), (2, vI l2)]) (st := fun _ => []) (fun v65 => ?_)
  refine j_lv (lv' := [(0, vR t), (1, vI v65), (2, vI l2)]) ⟨rfl, rfl, rfl, trivial⟩ ?_
  exact wmo_cut_353 h v65 l2 W
theorem wmo_cut_196 {x : jCx} {en : (fmo_cut_S ⊕ (jW)) → Option (Outcome × jW)} {t : Nat} (h : hmo_cut x en t) (l1 : Int32) (W : jW) : jJ x 5 196 [(0, vR t), (1, vI l1)] [] W (fmo_cut_196 t l1 W) en := by
  have h0 := h
  obtain ⟨hx, hm, hr, he, k26, k51, k196, k232, k320, k467, k488, k524⟩ := h0
  unfold fmo_cut_196
  refine j_runA hx 2 (tb := [(196, .iload_n 1), (197, .aload_n 0)]) (jtb_ok (by decide +kernel)) (pc' := 198) (lv' := [(0, vR t), (1, vI l1)]) (st' := [vR t, vI l1]) rfl ?_
  refine j_gd (fun h37 => ?_)
  refine j_getR hx flX8_23 kl1305 h37 (by decide) (by decide +kernel) ?_
  refine j_gd (fun h38 => ?_)
  refine j_getI hx flX8_333 kd1403 h38 (by decide) (by decide +kernel) ?_
  refine j_icmp_ge hx (off := 107) (tgt := 311) (by decide +kernel) (by decide) (fun _ => ?_) (fun _ => ?_)
  · refine j_runA hx 2 (tb := [(311, .aload_n 0), (312, .iconst 0)]) (jtb_ok (by decide +kernel)) (pc' := 313) (lv' := [(0, vR t), (1, vI l1)]) (st' := [vI (kI 0), vR t]) rfl ?_
    refine j_putI hx fwX8_399 wf1312 kd1312 h37 (by decide) (by decide +kernel) (ni1312 _) (fi1312 _) ?_
    refine j_ltw rfl (fun W39 hc40 => ?_)
    have h41 : jC W39 t = 13 := (congrFun hc40 _).trans h37
    have h42 : jC W39 (jR W 1305 t) = 14 := (congrFun hc40 _).trans h38
    refine j_runA hx 4 (tb := [(316, .iconst 0), (317, .istore_n 1), (318, .iconst 0), (319, .istore_n 2)]) (jtb_ok (by decide +kernel)) (pc' := 320) (lv' := [(2, vI (kI 0)), (1, vI (kI 0)), (0, vR t)]) (st' := []) rfl ?_
    refine j_lv (lv' := [(0, vR t), (1, vI (kI 0)), (2, vI (kI 0))]) ⟨rfl, rfl, rfl, trivial⟩ ?_
    exact k320 (kI 0) (kI 0) W39
  refine j_runA hx 1 (tb := [(207, .aload_n 0)]) (jtb_ok (by decide +kernel)) (pc' := 208) (lv' := [(0, vR t), (1, vI l1)]) (st' := [vR t]) rfl ?_
  refine j_getR hx flX8_23 kl1305 h37 (by decide) (by decide +kernel) ?_
  refine j_runA hx 1 (tb := [(211, .iload_n 1)]) (jtb_ok (by decide +kernel)) (pc' := 212) (lv' := [(0, vR t), (1, vI l1)]) (st' := [vI l1, vR (jR W 1305 t)]) rfl ?_
  refine j_OI (j_callV (av := [vI l1]) (st := []) hx hr (Or.inl q3005) q2878 q2879 rfl md_fhd_what np_fhd_what (chd_what (jR W 1305 t) l1 W) (by decide) (Nat.le_of_ble_eq_true rfl) h38 (by decide) (by decide +kernel)) (fun q44 _ => ?_)
  refine j_runA hx 1 (tb := [(215, .iconst 4)]) (jtb_ok (by decide +kernel)) (pc' := 216) (lv' := [(0, vR t), (1, vI l1)]) (st' := [vI (kI 4), vI q44]) rfl ?_
  refine j_icmp_eq hx (off := 6) (tgt := 222) (by decide +kernel) (by decide) (fun _ => ?_) (fun _ => ?_)
  · refine j_runA hx 1 (tb := [(222, .aload_n 0)]) (jtb_ok (by decide +kernel)) (pc' := 223) (lv' := [(0, vR t), (1, vI l1)]) (st' := [vR t]) rfl ?_
    refine j_getR hx flX8_23 kl1305 h37 (by decide) (by decide +kernel) ?_
    refine j_getR hx flX8_301 kl1412 h38 (by decide) (by decide +kernel) ?_
    refine j_runA hx 1 (tb := [(229, .iload_n 1)]) (jtb_ok (by decide +kernel)) (pc' := 230) (lv' := [(0, vR t), (1, vI l1)]) (st' := [vI l1, vR (jR W 1412 (jR W 1305 t))]) rfl ?_
    refine j_gd (fun h45 => ?_)
    refine j_lald hx (f := 1412) (o := (jR W 1305 t)) kd1412 rfl (by decide +kernel) h45 ?_
    refine j_runA hx 1 (tb := [(231, .lstore_n 2)]) (jtb_ok (by decide +kernel)) (pc' := 232) (lv' := [(2, vL (jB W 1412 (jR W 1305 t) (ix l1))), (0, vR t), (1, vI l1)]) (st' := []) rfl ?_
    refine j_let (v := (jB W 1412 (jR W 1305 t) (ix l1))) (lv := fun v46 => [(2, vL v46), (0, vR t), (1, vI l1)]) (st := fun _ => []) (fun v46 => ?_)
    refine j_lv (lv' := [(0, vR t), (1, vI l1), (2, vL v46)]) ⟨rfl, rfl, rfl, trivial⟩ ?_
    exact k232 l1 v46 W
  refine j_goto hx (off := 86) (by decide +kernel) (tgt := 305) (by decide) ?_
  exact wmo_cut_305 h l1 W
theorem wmo_cut_26 {x : jCx} {en : (fmo_cut_S ⊕ (jW)) → Option (Outcome × jW)} {t : Nat} (h : hmo_cut x en t) (l1 : Int32) (W : jW) : jJ x 5 26 [(0, vR t), (1, vI l1)] [] W (fmo_cut_26 t l1 W) en := by
  have h0 := h
  obtain ⟨hx, hm, hr, he, k26, k51, k196, k232, k320, k467, k488, k524⟩ := h0
  unfold fmo_cut_26
  refine j_runA hx 2 (tb := [(26, .iload_n 1), (27, .aload_n 0)]) (jtb_ok (by decide +kernel)) (pc' := 28) (lv' := [(0, vR t), (1, vI l1)]) (st' := [vR t, vI l1]) rfl ?_
  refine j_gd (fun h7 => ?_)
  refine j_getI hx flX8_281 kd1311 h7 (by decide) (by decide +kernel) ?_
  refine j_icmp_ge hx (off := 163) (tgt := 194) (by decide +kernel) (by decide) (fun _ => ?_) (fun _ => ?_)
  · refine j_runA hx 2 (tb := [(194, .iconst 1), (195, .istore_n 1)]) (jtb_ok (by decide +kernel)) (pc' := 196) (lv' := [(1, vI (kI 1)), (0, vR t)]) (st' := []) rfl ?_
    refine j_lv (lv' := [(0, vR t), (1, vI (kI 1))]) ⟨rfl, rfl, trivial⟩ ?_
    exact k196 (kI 1) W
  refine j_runA hx 2 (tb := [(34, .aload_n 0), (35, .aload_n 0)]) (jtb_ok (by decide +kernel)) (pc' := 36) (lv' := [(0, vR t), (1, vI l1)]) (st' := [vR t, vR t]) rfl ?_
  refine j_getR hx flX8_50 kl1319 h7 (by decide) (by decide +kernel) ?_
  refine j_runA hx 1 (tb := [(39, .iload_n 1)]) (jtb_ok (by decide +kernel)) (pc' := 40) (lv' := [(0, vR t), (1, vI l1)]) (st' := [vI l1, vR (jR W 1319 t), vR t]) rfl ?_
  refine j_gd (fun h8 => ?_)
  refine j_iald hx (f := 1319) (o := t) kd1319 rfl (by decide +kernel) h8 ?_
  refine j_WV (j_callV (av := [vI (jA W 1319 t (ix l1))]) (st := []) hx hr (Or.inl q3055) q3057 qs145 rfl md_fmo_lead np_fmo_lead (cmo_lead t (jA W 1319 t (ix l1)) W) (by decide) (Nat.le_of_ble_eq_true rfl) h7 (by decide) (by decide +kernel)) (fun q9 _ => ?_)
  refine j_runA hx 1 (tb := [(44, .aload_n 0)]) (jtb_ok (by decide +kernel)) (pc' := 45) (lv' := [(0, vR t), (1, vI l1)]) (st' := [vR t]) rfl ?_
  refine j_gd (fun h11 => ?_)
  refine j_getR hx flX8_50 kl1319 h11 (by decide) (by decide +kernel) ?_
  refine j_runA hx 1 (tb := [(48, .iload_n 1)]) (jtb_ok (by decide +kernel)) (pc' := 49) (lv' := [(0, vR t), (1, vI l1)]) (st' := [vI l1, vR (jR q9 1319 t)]) rfl ?_
  refine j_gd (fun h12 => ?_)
  refine j_iald hx (f := 1319) (o := t) kd1319 rfl (by decide +kernel) h12 ?_
  refine j_runA hx 1 (tb := [(50, .istore_n 2)]) (jtb_ok (by decide +kernel)) (pc' := 51) (lv' := [(2, vI (jA q9 1319 t (ix l1))), (0, vR t), (1, vI l1)]) (st' := []) rfl ?_
  refine j_let (v := (jA q9 1319 t (ix l1))) (lv := fun v13 => [(2, vI v13), (0, vR t), (1, vI l1)]) (st := fun _ => []) (fun v13 => ?_)
  refine j_lv (lv' := [(0, vR t), (1, vI l1), (2, vI v13)]) ⟨rfl, rfl, rfl, trivial⟩ ?_
  exact k51 l1 v13 q9
theorem wmo_cut {x : jCx} {en : (fmo_cut_S ⊕ (jW)) → Option (Outcome × jW)} {t : Nat} (h : hmo_cut x en t) (W : jW) : jJ x 5 0 [(0, vR t)] [] W (fmo_cut_0 t W) en := by
  have h0 := h
  obtain ⟨hx, hm, hr, he, k26, k51, k196, k232, k320, k467, k488, k524⟩ := h0
  unfold fmo_cut_0
  refine j_runA hx 2 (tb := [(0, .aload_n 0), (1, .aload_n 0)]) (jtb_ok (by decide +kernel)) (pc' := 2) (lv' := [(0, vR t)]) (st' := [vR t, vR t]) rfl ?_
  refine j_gd (fun h1 => ?_)
  refine j_getR hx flX8_23 kl1305 h1 (by decide) (by decide +kernel) ?_
  refine j_ldc2 hx (v := (kJ 24)) (jkd2 q3035 (by decide +kernel)) (by decide +kernel) ?_
  refine j_runA hx 1 (tb := [(8, .bipush 8)]) (jtb_ok (by decide +kernel)) (pc' := 10) (lv' := [(0, vR t)]) (st' := [vI (kI 8), vL (kJ 24), vR (jR W 1305 t), vR t]) rfl ?_
  refine j_gd (fun h2 => ?_)
  refine j_OL (j_callV (av := [vL (kJ 24), vI (kI 8)]) (st := [vR t]) hx hr (Or.inl q2932) q2823 q2824 rfl md_fhd_num np_fhd_num (chd_num (jR W 1305 t) (kJ 24) (kI 8) W) (by decide) (Nat.le_of_ble_eq_true rfl) h2 (by decide) (by decide +kernel)) (fun q3 _ => ?_)
  refine j_runA hx 1 (tb := [(13, .aload_n 0)]) (jtb_ok (by decide +kernel)) (pc' := 14) (lv' := [(0, vR t)]) (st' := [vR t, vL q3, vR t]) rfl ?_
  refine j_getL hx flX8_310 kd1313 h1 (by decide) (by decide +kernel) ?_
  refine j_runA hx 3 (tb := [(17, .lsub), (18, .l2i), (19, .iconst 4)]) (jtb_ok (by decide +kernel)) (pc' := 20) (lv' := [(0, vR t)]) (st' := [vI (kI 4), vI ((q3 - (jL W 1313 t)).toInt32), vR t]) rfl ?_
  refine j_idiv hx (by decide +kernel) (by decide +kernel) ?_
  refine j_WV (j_callV (av := [vI (((q3 - (jL W 1313 t)).toInt32) / (kI 4))]) (st := []) hx hr (Or.inl q3055) q3057 qs145 rfl md_fmo_lead np_fmo_lead (cmo_lead t (((q3 - (jL W 1313 t)).toInt32) / (kI 4)) W) (by decide) (Nat.le_of_ble_eq_true rfl) h1 (by decide) (by decide +kernel)) (fun q4 _ => ?_)
  refine j_runA hx 2 (tb := [(24, .iconst 0), (25, .istore_n 1)]) (jtb_ok (by decide +kernel)) (pc' := 26) (lv' := [(1, vI (kI 0)), (0, vR t)]) (st' := []) rfl ?_
  refine j_lv (lv' := [(0, vR t), (1, vI (kI 0))]) ⟨rfl, rfl, trivial⟩ ?_
  exact k26 (kI 0) q4
theorem cmo_cut (t : Nat) (W : jW) : jM yX8_cut cX8_cut 5 (Option.none : Option Jvm.ClassFile.FieldType) [] 4 60 [vR t] W ((fmo_cut t W).bind (fun q => some (.returned none, q))) := by
  refine jM.of (Nat.le_of_ble_eq_true rfl) (fun x hx hm hr => ?_)
  refine j_begin (P := (Sum.elim (fun s => (26, [(0, vR t), (1, vI s.1)], s.2)) (Sum.elim (fun s => (51, [(0, vR t), (1, vI s.1), (2, vI s.2.1)], s.2.2)) (Sum.elim (fun s => (196, [(0, vR t), (1, vI s.1)], s.2)) (Sum.elim (fun s => (232, [(0, vR t), (1, vI s.1), (2, vL s.2.1)], s.2.2)) (Sum.elim (fun s => (320, [(0, vR t), (1, vI s.1), (2, vI s.2.1)], s.2.2)) (Sum.elim (fun s => (467, [(0, vR t), (2, vI s.1)], s.2)) (Sum.elim (fun s => (488, [(0, vR t), (2, vI s.1)], s.2)) (fun s => (524, [(0, vR t), (2, vI s.1), (3, vL s.2.1)], s.2.2)))))))))) (fun en he hk => ?_)
  have h : hmo_cut x en t := ⟨hx, hm, hr, fun q => he _, fun l1 W => hk (.inl (l1, W)), fun l1 l2 W => hk (.inr (.inl (l1, l2, W))), fun l1 W => hk (.inr (.inr (.inl (l1, W)))), fun l1 l2 W => hk (.inr (.inr (.inr (.inl (l1, l2, W))))), fun l1 l2 W => hk (.inr (.inr (.inr (.inr (.inl (l1, l2, W)))))), fun l2 W => hk (.inr (.inr (.inr (.inr (.inr (.inl (l2, W))))))), fun l2 W => hk (.inr (.inr (.inr (.inr (.inr (.inr (.inl (l2, W)))))))), fun l2 l3 W => hk (.inr (.inr (.inr (.inr (.inr (.inr (.inr (l2, l3, W))))))))⟩
  refine ⟨fun s => ?_, wmo_cut h W⟩
  rcases s with s | s | s | s | s | s | s | s
  · exact wmo_cut_26 h s.1 s.2
  · exact wmo_cut_51 h s.1 s.2.1 s.2.2
  · exact wmo_cut_196 h s.1 s.2
  · exact wmo_cut_232 h s.1 s.2.1 s.2.2
  · exact wmo_cut_320 h s.1 s.2.1 s.2.2
  · exact wmo_cut_467 h s.1 s.2
  · exact wmo_cut_488 h s.1 s.2
  · exact wmo_cut_524 h s.1 s.2.1 s.2.2
def hmo_apart (x : jCx) (en : (fmo_apart_S ⊕ (Int32 × jW)) → Option (Outcome × jW)) (t : Nat) : Prop :=
  jOK x RX8 cX8_apart 5 ∧
  jMt x "apart" (Option.some Jvm.ClassFile.FieldType.int) [] ∧
  jRm x 5 76 ∧
  (∀ q : Int32 × jW, en (.inr q) = some (.returned (some (.int q.1)), q.2)) ∧
  (∀ (l2 : Int32) (W : jW), jJ x 5 53 [(0, vR t), (2, vI l2)] [] W (some (.inl (.inl (l2, W)))) en) ∧
  (∀ (l2 : Int32) (W : jW), jJ x 5 129 [(0, vR t), (2, vI l2)] [] W (some (.inl (.inr (.inl (l2, W))))) en) ∧
  (∀ (l2 : Int32) (W : jW), jJ x 5 181 [(0, vR t), (2, vI l2)] [] W (some (.inl (.inr (.inr (.inl (l2, W)))))) en) ∧
  (∀ (l2 : Int32) (l3 : Int64) (W : jW), jJ x 5 217 [(0, vR t), (2, vI l2), (3, vL l3)] [] W (some (.inl (.inr (.inr (.inr (.inl (l2, l3, W))))))) en) ∧
  (∀ (l2 : Int32) (W : jW), jJ x 5 275 [(0, vR t), (2, vI l2)] [] W (some (.inl (.inr (.inr (.inr (.inr (.inl (l2, W)))))))) en) ∧
  (∀ (l2 : Int32) (W : jW), jJ x 5 349 [(0, vR t), (2, vI l2)] [] W (some (.inl (.inr (.inr (.inr (.inr (.inr (.inl (l2, W))))))))) en) ∧
  (∀ (l2 : Int32) (l3 : Int32) (W : jW), jJ x 5 364 [(0, vR t), (2, vI l2), (3, vI l3)] [] W (some (.inl (.inr (.inr (.inr (.inr (.inr (.inr (.inl (l2, l3, W)))))))))) en) ∧
  (∀ (l2 : Int32) (W : jW), jJ x 5 423 [(0, vR t), (2, vI l2)] [] W (some (.inl (.inr (.inr (.inr (.inr (.inr (.inr (.inr (l2, W)))))))))) en)
theorem wmo_apart_267 {x : jCx} {en : (fmo_apart_S ⊕ (Int32 × jW)) → Option (Outcome × jW)} {t : Nat} (h : hmo_apart x en t) (l2 : Int32) (W : jW) : jJ x 5 267 [(0, vR t), (2, vI l2)] [] W (fmo_apart_267 t l2 W) en := by
  have h0 := h
  obtain ⟨hx, hm, hr, he, k53, k129, k181, k217, k275, k349, k364, k423⟩ := h0
  unfold fmo_apart_267
  refine j_runA hx 1 (tb := [(267, .iinc 2 1)]) (jtb_ok (by decide +kernel)) (pc' := 270) (lv' := [(2, vI (l2 + (kI 1))), (0, vR t)]) (st' := []) rfl ?_
  refine j_let (v := (l2 + (kI 1))) (lv := fun v72 => [(2, vI v72), (0, vR t)]) (st := fun _ => []) (fun v72 => ?_)
  refine j_goto hx (off := -89) (by decide +kernel) (tgt := 181) (by decide) ?_
  refine j_lv (lv' := [(0, vR t), (2, vI v72)]) ⟨rfl, rfl, trivial⟩ ?_
  exact k181 v72 W
theorem wmo_apart_217 {x : jCx} {en : (fmo_apart_S ⊕ (Int32 × jW)) → Option (Outcome × jW)} {t : Nat} (h : hmo_apart x en t) (l2 : Int32) (l3 : Int64) (W : jW) : jJ x 5 217 [(0, vR t), (2, vI l2), (3, vL l3)] [] W (fmo_apart_217 t l2 l3 W) en := by
  have h0 := h
  obtain ⟨hx, hm, hr, he, k53, k129, k181, k217, k275, k349, k364, k423⟩ := h0
  unfold fmo_apart_217
  refine j_runA hx 2 (tb := [(217, .lload_n 3), (218, .aload_n 0)]) (jtb_ok (by decide +kernel)) (pc' := 219) (lv' := [(0, vR t), (2, vI l2), (3, vL l3)]) (st' := [vR t, vL l3]) rfl ?_
  refine j_gd (fun h74 => ?_)
  refine j_getR hx flX8_23 kl1305 h74 (by decide) (by decide +kernel) ?_
  refine j_gd (fun h75 => ?_)
  refine j_getR hx flX8_301 kl1412 h75 (by decide) (by decide +kernel) ?_
  refine j_runA hx 1 (tb := [(225, .iload_n 2)]) (jtb_ok (by decide +kernel)) (pc' := 226) (lv' := [(0, vR t), (2, vI l2), (3, vL l3)]) (st' := [vI l2, vR (jR W 1412 (jR W 1305 t)), vL l3]) rfl ?_
  refine j_gd (fun h76 => ?_)
  refine j_lald hx (f := 1412) (o := (jR W 1305 t)) kd1412 rfl (by decide +kernel) h76 ?_
  refine j_runA hx 1 (tb := [(227, .aload_n 0)]) (jtb_ok (by decide +kernel)) (pc' := 228) (lv' := [(0, vR t), (2, vI l2), (3, vL l3)]) (st' := [vR t, vL (jB W 1412 (jR W 1305 t) (ix l2)), vL l3]) rfl ?_
  refine j_getR hx flX8_23 kl1305 h74 (by decide) (by decide +kernel) ?_
  refine j_getR hx flX8_313 kl1414 h75 (by decide) (by decide +kernel) ?_
  refine j_runA hx 1 (tb := [(234, .iload_n 2)]) (jtb_ok (by decide +kernel)) (pc' := 235) (lv' := [(0, vR t), (2, vI l2), (3, vL l3)]) (st' := [vI l2, vR (jR W 1414 (jR W 1305 t)), vL (jB W 1412 (jR W 1305 t) (ix l2)), vL l3]) rfl ?_
  refine j_gd (fun h77 => ?_)
  refine j_lald hx (f := 1414) (o := (jR W 1305 t)) kd1414 rfl (by decide +kernel) h77 ?_
  refine j_runA hx 1 (tb := [(236, .ladd)]) (jtb_ok (by decide +kernel)) (pc' := 237) (lv' := [(0, vR t), (2, vI l2), (3, vL l3)]) (st' := [vL ((jB W 1412 (jR W 1305 t) (ix l2)) + (jB W 1414 (jR W 1305 t) (ix l2))), vL l3]) rfl ?_
  refine j_lcmp_ge hx (off := 29) (tgt := 267) (by decide +kernel) (by decide +kernel) (by decide) (fun _ => ?_) (fun _ => ?_)
  · refine j_lv (lv' := [(0, vR t), (2, vI l2)]) ⟨rfl, rfl, trivial⟩ ?_
    exact wmo_apart_267 h l2 W
  refine j_runA hx 3 (tb := [(241, .aload_n 0), (242, .iload_n 2), (243, .lload_n 3)]) (jtb_ok (by decide +kernel)) (pc' := 244) (lv' := [(0, vR t), (2, vI l2), (3, vL l3)]) (st' := [vL l3, vI l2, vR t]) rfl ?_
  refine j_WI (j_callV (av := [vI l2, vL l3]) (st := []) hx hr (Or.inl q3006) q3008 qs138 rfl md_fmo_isRight np_fmo_isRight (cmo_isRight t l2 l3 W) (by decide) (Nat.le_of_ble_eq_true rfl) h74 (by decide) (by decide +kernel)) (fun q78 _ => ?_)
  refine j_if_ne hx (off := 11) (tgt := 258) (by decide +kernel) (by decide) (fun _ => ?_) (fun _ => ?_)
  · refine j_runA hx 1 (tb := [(258, .lload_n 3)]) (jtb_ok (by decide +kernel)) (pc' := 259) (lv' := [(0, vR t), (2, vI l2), (3, vL l3)]) (st' := [vL l3]) rfl ?_
    refine j_ldc2 hx (v := (kJ 24)) (jkd2 q3035 (by decide +kernel)) (by decide +kernel) ?_
    refine j_runA hx 2 (tb := [(262, .ladd), (263, .lstore_n 3)]) (jtb_ok (by decide +kernel)) (pc' := 264) (lv' := [(3, vL (l3 + (kJ 24))), (0, vR t), (2, vI l2)]) (st' := []) rfl ?_
    refine j_let (v := (l3 + (kJ 24))) (lv := fun v80 => [(3, vL v80), (0, vR t), (2, vI l2)]) (st := fun _ => []) (fun v80 => ?_)
    refine j_goto hx (off := -47) (by decide +kernel) (tgt := 217) (by decide) ?_
    refine j_lv (lv' := [(0, vR t), (2, vI l2), (3, vL v80)]) ⟨rfl, rfl, rfl, trivial⟩ ?_
    exact k217 l2 v80 q78.2
  refine j_runA hx 3 (tb := [(250, .aload_n 0), (251, .bipush 9), (253, .lload_n 3)]) (jtb_ok (by decide +kernel)) (pc' := 254) (lv' := [(0, vR t), (2, vI l2), (3, vL l3)]) (st' := [vL l3, vI (kI 9), vR t]) rfl ?_
  refine j_gd (fun h81 => ?_)
  refine j_WI (j_callV (av := [vI (kI 9), vL l3]) (st := []) hx hr (Or.inl q2949) q2951 qs137 rfl md_fmo_broken np_fmo_broken (cmo_broken t (kI 9) l3 q78.2) (by decide) (Nat.le_of_ble_eq_true rfl) h81 (by decide) (by decide +kernel)) (fun q82 _ => ?_)
  exact j_iret hx hm (by decide +kernel) rfl (he _)
theorem wmo_apart_322 {x : jCx} {en : (fmo_apart_S ⊕ (Int32 × jW)) → Option (Outcome × jW)} {t : Nat} (h : hmo_apart x en t) (l2 : Int32) (W : jW) : jJ x 5 322 [(0, vR t), (2, vI l2)] [] W (fmo_apart_322 t l2 W) en := by
  have h0 := h
  obtain ⟨hx, hm, hr, he, k53, k129, k181, k217, k275, k349, k364, k423⟩ := h0
  unfold fmo_apart_322
  refine j_runA hx 3 (tb := [(322, .aload_n 0), (323, .bipush 10), (325, .aload_n 0)]) (jtb_ok (by decide +kernel)) (pc' := 326) (lv' := [(0, vR t), (2, vI l2)]) (st' := [vR t, vI (kI 10), vR t]) rfl ?_
  refine j_gd (fun h91 => ?_)
  refine j_getI hx flX8_304 kd1309 h91 (by decide) (by decide +kernel) ?_
  refine j_runA hx 1 (tb := [(329, .i2l)]) (jtb_ok (by decide +kernel)) (pc' := 330) (lv' := [(0, vR t), (2, vI l2)]) (st' := [vL ((jI W 1309 t).toInt64), vI (kI 10), vR t]) rfl ?_
  refine j_ldc2 hx (v := (kJ 4)) (jkd2 q2931 (by decide +kernel)) (by decide +kernel) ?_
  refine j_runA hx 4 (tb := [(333, .iload_n 2), (334, .i2l), (335, .lmul), (336, .ladd)]) (jtb_ok (by decide +kernel)) (pc' := 337) (lv' := [(0, vR t), (2, vI l2)]) (st' := [vL (((jI W 1309 t).toInt64) + ((kJ 4) * l2.toInt64)), vI (kI 10), vR t]) rfl ?_
  refine j_WI (j_callV (av := [vI (kI 10), vL (((jI W 1309 t).toInt64) + ((kJ 4) * l2.toInt64))]) (st := []) hx hr (Or.inl q2949) q2951 qs137 rfl md_fmo_broken np_fmo_broken (cmo_broken t (kI 10) (((jI W 1309 t).toInt64) + ((kJ 4) * l2.toInt64)) W) (by decide) (Nat.le_of_ble_eq_true rfl) h91 (by decide) (by decide +kernel)) (fun q92 _ => ?_)
  exact j_iret hx hm (by decide +kernel) rfl (he _)
theorem wmo_apart_341 {x : jCx} {en : (fmo_apart_S ⊕ (Int32 × jW)) → Option (Outcome × jW)} {t : Nat} (h : hmo_apart x en t) (l2 : Int32) (W : jW) : jJ x 5 341 [(0, vR t), (2, vI l2)] [] W (fmo_apart_341 t l2 W) en := by
  have h0 := h
  obtain ⟨hx, hm, hr, he, k53, k129, k181, k217, k275, k349, k364, k423⟩ := h0
  unfold fmo_apart_341
  refine j_runA hx 1 (tb := [(341, .iinc 2 1)]) (jtb_ok (by decide +kernel)) (pc' := 344) (lv' := [(2, vI (l2 + (kI 1))), (0, vR t)]) (st' := []) rfl ?_
  refine j_let (v := (l2 + (kI 1))) (lv := fun v95 => [(2, vI v95), (0, vR t)]) (st := fun _ => []) (fun v95 => ?_)
  refine j_goto hx (off := -69) (by decide +kernel) (tgt := 275) (by decide) ?_
  refine j_lv (lv' := [(0, vR t), (2, vI v95)]) ⟨rfl, rfl, trivial⟩ ?_
  exact k275 v95 W
theorem wmo_apart_364 {x : jCx} {en : (fmo_apart_S ⊕ (Int32 × jW)) → Option (Outcome × jW)} {t : Nat} (h : hmo_apart x en t) (l2 : Int32) (l3 : Int32) (W : jW) : jJ x 5 364 [(0, vR t), (2, vI l2), (3, vI l3)] [] W (fmo_apart_364 t l2 l3 W) en := by
  have h0 := h
  obtain ⟨hx, hm, hr, he, k53, k129, k181, k217, k275, k349, k364, k423⟩ := h0
  unfold fmo_apart_364
  refine j_runA hx 2 (tb := [(364, .iload_n 3), (365, .aload_n 0)]) (jtb_ok (by decide +kernel)) (pc' := 366) (lv' := [(0, vR t), (2, vI l2), (3, vI l3)]) (st' := [vR t, vI l3]) rfl ?_
  refine j_gd (fun h101 => ?_)
  refine j_getR hx flX8_50 kl1319 h101 (by decide) (by decide +kernel) ?_
  refine j_runA hx 1 (tb := [(369, .iload_n 2)]) (jtb_ok (by decide +kernel)) (pc' := 370) (lv' := [(0, vR t), (2, vI l2), (3, vI l3)]) (st' := [vI l2, vR (jR W 1319 t), vI l3]) rfl ?_
  refine j_gd (fun h102 => ?_)
  refine j_iald hx (f := 1319) (o := t) kd1319 rfl (by decide +kernel) h102 ?_
  refine j_runA hx 1 (tb := [(371, .aload_n 0)]) (jtb_ok (by decide +kernel)) (pc' := 372) (lv' := [(0, vR t), (2, vI l2), (3, vI l3)]) (st' := [vR t, vI (jA W 1319 t (ix l2)), vI l3]) rfl ?_
  refine j_getR hx flX8_53 kl1320 h101 (by decide) (by decide +kernel) ?_
  refine j_runA hx 1 (tb := [(375, .iload_n 2)]) (jtb_ok (by decide +kernel)) (pc' := 376) (lv' := [(0, vR t), (2, vI l2), (3, vI l3)]) (st' := [vI l2, vR (jR W 1320 t), vI (jA W 1319 t (ix l2)), vI l3]) rfl ?_
  refine j_gd (fun h103 => ?_)
  refine j_iald hx (f := 1320) (o := t) kd1320 rfl (by decide +kernel) h103 ?_
  refine j_runA hx 1 (tb := [(377, .iadd)]) (jtb_ok (by decide +kernel)) (pc' := 378) (lv' := [(0, vR t), (2, vI l2), (3, vI l3)]) (st' := [vI ((jA W 1319 t (ix l2)) + (jA W 1320 t (ix l2))), vI l3]) rfl ?_
  refine j_icmp_ge hx (off := 37) (tgt := 415) (by decide +kernel) (by decide) (fun _ => ?_) (fun _ => ?_)
  · refine j_runA hx 1 (tb := [(415, .iinc 2 1)]) (jtb_ok (by decide +kernel)) (pc' := 418) (lv' := [(2, vI (l2 + (kI 1))), (0, vR t), (3, vI l3)]) (st' := []) rfl ?_
    refine j_let (v := (l2 + (kI 1))) (lv := fun v104 => [(2, vI v104), (0, vR t), (3, vI l3)]) (st := fun _ => []) (fun v104 => ?_)
    refine j_goto hx (off := -69) (by decide +kernel) (tgt := 349) (by decide) ?_
    refine j_lv (lv' := [(0, vR t), (2, vI v104)]) ⟨rfl, rfl, trivial⟩ ?_
    exact k349 v104 W
  refine j_runA hx 3 (tb := [(381, .aload_n 0), (382, .iload_n 2), (383, .iload_n 3)]) (jtb_ok (by decide +kernel)) (pc' := 384) (lv' := [(0, vR t), (2, vI l2), (3, vI l3)]) (st' := [vI l3, vI l2, vR t]) rfl ?_
  refine j_OI (j_callV (av := [vI l2, vI l3]) (st := []) hx hr (Or.inl q3036) q3038 qs141 rfl md_fmo_goesRight np_fmo_goesRight (cmo_goesRight t l2 l3 W) (by decide) (Nat.le_of_ble_eq_true rfl) h101 (by decide) (by decide +kernel)) (fun q105 _ => ?_)
  refine j_if_ne hx (off := 22) (tgt := 409) (by decide +kernel) (by decide) (fun _ => ?_) (fun _ => ?_)
  · refine j_runA hx 1 (tb := [(409, .iinc 3 1)]) (jtb_ok (by decide +kernel)) (pc' := 412) (lv' := [(3, vI (l3 + (kI 1))), (0, vR t), (2, vI l2)]) (st' := []) rfl ?_
    refine j_let (v := (l3 + (kI 1))) (lv := fun v106 => [(3, vI v106), (0, vR t), (2, vI l2)]) (st := fun _ => []) (fun v106 => ?_)
    refine j_goto hx (off := -48) (by decide +kernel) (tgt := 364) (by decide) ?_
    refine j_lv (lv' := [(0, vR t), (2, vI l2), (3, vI v106)]) ⟨rfl, rfl, rfl, trivial⟩ ?_
    exact k364 l2 v106 W
  refine j_runA hx 3 (tb := [(390, .aload_n 0), (391, .bipush 11), (393, .aload_n 0)]) (jtb_ok (by decide +kernel)) (pc' := 394) (lv' := [(0, vR t), (2, vI l2), (3, vI l3)]) (st' := [vR t, vI (kI 11), vR t]) rfl ?_
  refine j_getI hx flX8_304 kd1309 h101 (by decide) (by decide +kernel) ?_
  refine j_runA hx 1 (tb := [(397, .i2l)]) (jtb_ok (by decide +kernel)) (pc' := 398) (lv' := [(0, vR t), (2, vI l2), (3, vI l3)]) (st' := [vL ((jI W 1309 t).toInt64), vI (kI 11), vR t]) rfl ?_
  refine j_ldc2 hx (v := (kJ 4)) (jkd2 q2931 (by decide +kernel)) (by decide +kernel) ?_
  refine j_runA hx 4 (tb := [(401, .iload_n 3), (402, .i2l), (403, .lmul), (404, .ladd)]) (jtb_ok (by decide +kernel)) (pc' := 405) (lv' := [(0, vR t), (2, vI l2), (3, vI l3)]) (st' := [vL (((jI W 1309 t).toInt64) + ((kJ 4) * l3.toInt64)), vI (kI 11), vR t]) rfl ?_
  refine j_WI (j_callV (av := [vI (kI 11), vL (((jI W 1309 t).toInt64) + ((kJ 4) * l3.toInt64))]) (st := []) hx hr (Or.inl q2949) q2951 qs137 rfl md_fmo_broken np_fmo_broken (cmo_broken t (kI 11) (((jI W 1309 t).toInt64) + ((kJ 4) * l3.toInt64)) W) (by decide) (Nat.le_of_ble_eq_true rfl) h101 (by decide) (by decide +kernel)) (fun q107 _ => ?_)
  exact j_iret hx hm (by decide +kernel) rfl (he _)
theorem wmo_apart_498 {x : jCx} {en : (fmo_apart_S ⊕ (Int32 × jW)) → Option (Outcome × jW)} {t : Nat} (h : hmo_apart x en t) (l2 : Int32) (W : jW) : jJ x 5 498 [(0, vR t), (2, vI l2)] [] W (fmo_apart_498 t l2 W) en := by
  have h0 := h
  obtain ⟨hx, hm, hr, he, k53, k129, k181, k217, k275, k349, k364, k423⟩ := h0
  unfold fmo_apart_498
  refine j_runA hx 1 (tb := [(498, .iinc 2 1)]) (jtb_ok (by decide +kernel)) (pc' := 501) (lv' := [(2, vI (l2 + (kI 1))), (0, vR t)]) (st' := []) rfl ?_
  refine j_let (v := (l2 + (kI 1))) (lv := fun v121 => [(2, vI v121), (0, vR t)]) (st := fun _ => []) (fun v121 => ?_)
  refine j_goto hx (off := -78) (by decide +kernel) (tgt := 423) (by decide) ?_
  refine j_lv (lv' := [(0, vR t), (2, vI v121)]) ⟨rfl, rfl, trivial⟩ ?_
  exact k423 v121 W
theorem wmo_apart_423 {x : jCx} {en : (fmo_apart_S ⊕ (Int32 × jW)) → Option (Outcome × jW)} {t : Nat} (h : hmo_apart x en t) (l2 : Int32) (W : jW) : jJ x 5 423 [(0, vR t), (2, vI l2)] [] W (fmo_apart_423 t l2 W) en := by
  have h0 := h
  obtain ⟨hx, hm, hr, he, k53, k129, k181, k217, k275, k349, k364, k423⟩ := h0
  unfold fmo_apart_423
  refine j_runA hx 2 (tb := [(423, .iload_n 2), (424, .aload_n 0)]) (jtb_ok (by decide +kernel)) (pc' := 425) (lv' := [(0, vR t), (2, vI l2)]) (st' := [vR t, vI l2]) rfl ?_
  refine j_gd (fun h110 => ?_)
  refine j_getI hx flX8_281 kd1311 h110 (by decide) (by decide +kernel) ?_
  refine j_icmp_ge hx (off := 76) (tgt := 504) (by decide +kernel) (by decide) (fun _ => ?_) (fun _ => ?_)
  · refine j_runA hx 1 (tb := [(504, .aload_n 0)]) (jtb_ok (by decide +kernel)) (pc' := 505) (lv' := [(0, vR t), (2, vI l2)]) (st' := [vR t]) rfl ?_
    refine j_WV (j_callV (av := []) (st := []) hx hr (Or.inl q3051) q3053 qs144 rfl md_fmo_cut np_fmo_cut (cmo_cut t W) (by decide) (Nat.le_of_ble_eq_true rfl) h110 (by decide) (by decide +kernel)) (fun q111 _ => ?_)
    refine j_runA hx 1 (tb := [(508, .iconst 0)]) (jtb_ok (by decide +kernel)) (pc' := 509) (lv' := [(0, vR t), (2, vI l2)]) (st' := [vI (kI 0)]) rfl ?_
    exact j_iret hx hm (by decide +kernel) rfl (he _)
  refine j_runA hx 1 (tb := [(431, .aload_n 0)]) (jtb_ok (by decide +kernel)) (pc' := 432) (lv' := [(0, vR t), (2, vI l2)]) (st' := [vR t]) rfl ?_
  refine j_getR hx flX8_50 kl1319 h110 (by decide) (by decide +kernel) ?_
  refine j_runA hx 1 (tb := [(435, .iload_n 2)]) (jtb_ok (by decide +kernel)) (pc' := 436) (lv' := [(0, vR t), (2, vI l2)]) (st' := [vI l2, vR (jR W 1319 t)]) rfl ?_
  refine j_gd (fun h113 => ?_)
  refine j_iald hx (f := 1319) (o := t) kd1319 rfl (by decide +kernel) h113 ?_
  refine j_runA hx 1 (tb := [(437, .aload_n 0)]) (jtb_ok (by decide +kernel)) (pc' := 438) (lv' := [(0, vR t), (2, vI l2)]) (st' := [vR t, vI (jA W 1319 t (ix l2))]) rfl ?_
  refine j_getR hx flX8_53 kl1320 h110 (by decide) (by decide +kernel) ?_
  refine j_runA hx 1 (tb := [(441, .iload_n 2)]) (jtb_ok (by decide +kernel)) (pc' := 442) (lv' := [(0, vR t), (2, vI l2)]) (st' := [vI l2, vR (jR W 1320 t), vI (jA W 1319 t (ix l2))]) rfl ?_
  refine j_gd (fun h114 => ?_)
  refine j_iald hx (f := 1320) (o := t) kd1320 rfl (by decide +kernel) h114 ?_
  refine j_runA hx 4 (tb := [(443, .iadd), (444, .iconst 1), (445, .isub), (446, .istore_n 3)]) (jtb_ok (by decide +kernel)) (pc' := 447) (lv' := [(3, vI (((jA W 1319 t (ix l2)) + (jA W 1320 t (ix l2))) - (kI 1))), (0, vR t), (2, vI l2)]) (st' := []) rfl ?_
  refine j_let (v := (((jA W 1319 t (ix l2)) + (jA W 1320 t (ix l2))) - (kI 1))) (lv := fun v115 => [(3, vI v115), (0, vR t), (2, vI l2)]) (st := fun _ => []) (fun v115 => ?_)
  refine j_runA hx 1 (tb := [(447, .aload_n 0)]) (jtb_ok (by decide +kernel)) (pc' := 448) (lv' := [(3, vI v115), (0, vR t), (2, vI l2)]) (st' := [vR t]) rfl ?_
  refine j_getR hx flX8_36 kl1315 h110 (by decide) (by decide +kernel) ?_
  refine j_runA hx 1 (tb := [(451, .iload_n 3)]) (jtb_ok (by decide +kernel)) (pc' := 452) (lv' := [(3, vI v115), (0, vR t), (2, vI l2)]) (st' := [vI v115, vR (jR W 1315 t)]) rfl ?_
  refine j_gd (fun h116 => ?_)
  refine j_iald hx (f := 1315) (o := t) kd1315 rfl (by decide +kernel) h116 ?_
  refine j_TI (j_callS (av := [vI (jA W 1315 t (ix v115))]) (st := []) hx hr (Or.inl q2953) q2954 q241 md_fmo_sort np_fmo_sort (cmo_sort (jA W 1315 t (ix v115)) W) (by decide) (Nat.le_of_ble_eq_true rfl) (by decide +kernel)) ?_
  refine j_runA hx 1 (tb := [(456, .istore 4)]) (jtb_ok (by decide +kernel)) (pc' := 458) (lv' := [(4, vI (fmo_sort (jA W 1315 t (ix v115)))), (3, vI v115), (0, vR t), (2, vI l2)]) (st' := []) rfl ?_
  refine j_let (v := (fmo_sort (jA W 1315 t (ix v115)))) (lv := fun v117 => [(4, vI v117), (3, vI v115), (0, vR t), (2, vI l2)]) (st := fun _ => []) (fun v117 => ?_)
  refine j_runA hx 2 (tb := [(458, .iload 4), (460, .bipush 12)]) (jtb_ok (by decide +kernel)) (pc' := 462) (lv' := [(4, vI v117), (3, vI v115), (0, vR t), (2, vI l2)]) (st' := [vI (kI 12), vI v117]) rfl ?_
  refine j_icmp_eq hx (off := 36) (tgt := 498) (by decide +kernel) (by decide) (fun _ => ?_) (fun _ => ?_)
  · refine j_lv (lv' := [(0, vR t), (2, vI l2)]) ⟨rfl, rfl, trivial⟩ ?_
    exact wmo_apart_498 h l2 W
  refine j_runA hx 2 (tb := [(465, .iload 4), (467, .bipush 17)]) (jtb_ok (by decide +kernel)) (pc' := 469) (lv' := [(4, vI v117), (3, vI v115), (0, vR t), (2, vI l2)]) (st' := [vI (kI 17), vI v117]) rfl ?_
  refine j_icmp_eq hx (off := 29) (tgt := 498) (by decide +kernel) (by decide) (fun _ => ?_) (fun _ => ?_)
  · refine j_lv (lv' := [(0, vR t), (2, vI l2)]) ⟨rfl, rfl, trivial⟩ ?_
    exact wmo_apart_498 h l2 W
  refine j_runA hx 2 (tb := [(472, .iload 4), (474, .bipush 19)]) (jtb_ok (by decide +kernel)) (pc' := 476) (lv' := [(4, vI v117), (3, vI v115), (0, vR t), (2, vI l2)]) (st' := [vI (kI 19), vI v117]) rfl ?_
  refine j_icmp_eq hx (off := 22) (tgt := 498) (by decide +kernel) (by decide) (fun _ => ?_) (fun _ => ?_)
  · refine j_lv (lv' := [(0, vR t), (2, vI l2)]) ⟨rfl, rfl, trivial⟩ ?_
    exact wmo_apart_498 h l2 W
  refine j_runA hx 3 (tb := [(479, .aload_n 0), (480, .bipush 12), (482, .aload_n 0)]) (jtb_ok (by decide +kernel)) (pc' := 483) (lv' := [(4, vI v117), (3, vI v115), (0, vR t), (2, vI l2)]) (st' := [vR t, vI (kI 12), vR t]) rfl ?_
  refine j_getI hx flX8_304 kd1309 h110 (by decide) (by decide +kernel) ?_
  refine j_runA hx 1 (tb := [(486, .i2l)]) (jtb_ok (by decide +kernel)) (pc' := 487) (lv' := [(4, vI v117), (3, vI v115), (0, vR t), (2, vI l2)]) (st' := [vL ((jI W 1309 t).toInt64), vI (kI 12), vR t]) rfl ?_
  refine j_ldc2 hx (v := (kJ 4)) (jkd2 q2931 (by decide +kernel)) (by decide +kernel) ?_
  refine j_runA hx 4 (tb := [(490, .iload_n 3), (491, .i2l), (492, .lmul), (493, .ladd)]) (jtb_ok (by decide +kernel)) (pc' := 494) (lv' := [(4, vI v117), (3, vI v115), (0, vR t), (2, vI l2)]) (st' := [vL (((jI W 1309 t).toInt64) + ((kJ 4) * v115.toInt64)), vI (kI 12), vR t]) rfl ?_
  refine j_WI (j_callV (av := [vI (kI 12), vL (((jI W 1309 t).toInt64) + ((kJ 4) * v115.toInt64))]) (st := []) hx hr (Or.inl q2949) q2951 qs137 rfl md_fmo_broken np_fmo_broken (cmo_broken t (kI 12) (((jI W 1309 t).toInt64) + ((kJ 4) * v115.toInt64)) W) (by decide) (Nat.le_of_ble_eq_true rfl) h110 (by decide) (by decide +kernel)) (fun q118 _ => ?_)
  exact j_iret hx hm (by decide +kernel) rfl (he _)
theorem wmo_apart_349 {x : jCx} {en : (fmo_apart_S ⊕ (Int32 × jW)) → Option (Outcome × jW)} {t : Nat} (h : hmo_apart x en t) (l2 : Int32) (W : jW) : jJ x 5 349 [(0, vR t), (2, vI l2)] [] W (fmo_apart_349 t l2 W) en := by
  have h0 := h
  obtain ⟨hx, hm, hr, he, k53, k129, k181, k217, k275, k349, k364, k423⟩ := h0
  unfold fmo_apart_349
  refine j_runA hx 2 (tb := [(349, .iload_n 2), (350, .aload_n 0)]) (jtb_ok (by decide +kernel)) (pc' := 351) (lv' := [(0, vR t), (2, vI l2)]) (st' := [vR t, vI l2]) rfl ?_
  refine j_gd (fun h97 => ?_)
  refine j_getI hx flX8_281 kd1311 h97 (by decide) (by decide +kernel) ?_
  refine j_icmp_ge hx (off := 67) (tgt := 421) (by decide +kernel) (by decide) (fun _ => ?_) (fun _ => ?_)
  · refine j_runA hx 2 (tb := [(421, .iconst 0), (422, .istore_n 2)]) (jtb_ok (by decide +kernel)) (pc' := 423) (lv' := [(2, vI (kI 0)), (0, vR t)]) (st' := []) rfl ?_
    refine j_lv (lv' := [(0, vR t), (2, vI (kI 0))]) ⟨rfl, rfl, trivial⟩ ?_
    exact k423 (kI 0) W
  refine j_runA hx 1 (tb := [(357, .aload_n 0)]) (jtb_ok (by decide +kernel)) (pc' := 358) (lv' := [(0, vR t), (2, vI l2)]) (st' := [vR t]) rfl ?_
  refine j_getR hx flX8_50 kl1319 h97 (by decide) (by decide +kernel) ?_
  refine j_runA hx 1 (tb := [(361, .iload_n 2)]) (jtb_ok (by decide +kernel)) (pc' := 362) (lv' := [(0, vR t), (2, vI l2)]) (st' := [vI l2, vR (jR W 1319 t)]) rfl ?_
  refine j_gd (fun h98 => ?_)
  refine j_iald hx (f := 1319) (o := t) kd1319 rfl (by decide +kernel) h98 ?_
  refine j_runA hx 1 (tb := [(363, .istore_n 3)]) (jtb_ok (by decide +kernel)) (pc' := 364) (lv' := [(3, vI (jA W 1319 t (ix l2))), (0, vR t), (2, vI l2)]) (st' := []) rfl ?_
  refine j_let (v := (jA W 1319 t (ix l2))) (lv := fun v99 => [(3, vI v99), (0, vR t), (2, vI l2)]) (st := fun _ => []) (fun v99 => ?_)
  refine j_lv (lv' := [(0, vR t), (2, vI l2), (3, vI v99)]) ⟨rfl, rfl, rfl, trivial⟩ ?_
  exact k364 l2 v99 W
theorem wmo_apart_275 {x : jCx} {en : (fmo_apart_S ⊕ (Int32 × jW)) → Option (Outcome × jW)} {t : Nat} (h : hmo_apart x en t) (l2 : Int32) (W : jW) : jJ x 5 275 [(0, vR t), (2, vI l2)] [] W (fmo_apart_275 t l2 W) en := by
  have h0 := h
  obtain ⟨hx, hm, hr, he, k53, k129, k181, k217, k275, k349, k364, k423⟩ := h0
  unfold fmo_apart_275
  refine j_runA hx 2 (tb := [(275, .iload_n 2), (276, .aload_n 0)]) (jtb_ok (by decide +kernel)) (pc' := 277) (lv' := [(0, vR t), (2, vI l2)]) (st' := [vR t, vI l2]) rfl ?_
  refine j_gd (fun h85 => ?_)
  refine j_getI hx flX8_316 kd1310 h85 (by decide) (by decide +kernel) ?_
  refine j_icmp_ge hx (off := 67) (tgt := 347) (by decide +kernel) (by decide) (fun _ => ?_) (fun _ => ?_)
  · refine j_runA hx 2 (tb := [(347, .iconst 0), (348, .istore_n 2)]) (jtb_ok (by decide +kernel)) (pc' := 349) (lv' := [(2, vI (kI 0)), (0, vR t)]) (st' := []) rfl ?_
    refine j_lv (lv' := [(0, vR t), (2, vI (kI 0))]) ⟨rfl, rfl, trivial⟩ ?_
    exact k349 (kI 0) W
  refine j_runA hx 1 (tb := [(283, .aload_n 0)]) (jtb_ok (by decide +kernel)) (pc' := 284) (lv' := [(0, vR t), (2, vI l2)]) (st' := [vR t]) rfl ?_
  refine j_getR hx flX8_36 kl1315 h85 (by decide) (by decide +kernel) ?_
  refine j_runA hx 1 (tb := [(287, .iload_n 2)]) (jtb_ok (by decide +kernel)) (pc' := 288) (lv' := [(0, vR t), (2, vI l2)]) (st' := [vI l2, vR (jR W 1315 t)]) rfl ?_
  refine j_gd (fun h86 => ?_)
  refine j_iald hx (f := 1315) (o := t) kd1315 rfl (by decide +kernel) h86 ?_
  refine j_TI (j_callS (av := [vI (jA W 1315 t (ix l2))]) (st := []) hx hr (Or.inl q2953) q2954 q241 md_fmo_sort np_fmo_sort (cmo_sort (jA W 1315 t (ix l2)) W) (by decide) (Nat.le_of_ble_eq_true rfl) (by decide +kernel)) ?_
  refine j_runA hx 1 (tb := [(292, .iconst 5)]) (jtb_ok (by decide +kernel)) (pc' := 293) (lv' := [(0, vR t), (2, vI l2)]) (st' := [vI (kI 5), vI (fmo_sort (jA W 1315 t (ix l2)))]) rfl ?_
  refine j_icmp_ne hx (off := 48) (tgt := 341) (by decide +kernel) (by decide) (fun _ => ?_) (fun _ => ?_)
  · exact wmo_apart_341 h l2 W
  refine j_runA hx 1 (tb := [(296, .aload_n 0)]) (jtb_ok (by decide +kernel)) (pc' := 297) (lv' := [(0, vR t), (2, vI l2)]) (st' := [vR t]) rfl ?_
  refine j_getR hx flX8_40 kl1316 h85 (by decide) (by decide +kernel) ?_
  refine j_runA hx 1 (tb := [(300, .iload_n 2)]) (jtb_ok (by decide +kernel)) (pc' := 301) (lv' := [(0, vR t), (2, vI l2)]) (st' := [vI l2, vR (jR W 1316 t)]) rfl ?_
  refine j_gd (fun h87 => ?_)
  refine j_iald hx (f := 1316) (o := t) kd1316 rfl (by decide +kernel) h87 ?_
  refine j_if_lt hx (off := 20) (tgt := 322) (by decide +kernel) (by decide) (fun _ => ?_) (fun _ => ?_)
  · exact wmo_apart_322 h l2 W
  refine j_runA hx 2 (tb := [(305, .aload_n 0), (306, .aload_n 0)]) (jtb_ok (by decide +kernel)) (pc' := 307) (lv' := [(0, vR t), (2, vI l2)]) (st' := [vR t, vR t]) rfl ?_
  refine j_getR hx flX8_40 kl1316 h85 (by decide) (by decide +kernel) ?_
  refine j_runA hx 1 (tb := [(310, .iload_n 2)]) (jtb_ok (by decide +kernel)) (pc' := 311) (lv' := [(0, vR t), (2, vI l2)]) (st' := [vI l2, vR (jR W 1316 t), vR t]) rfl ?_
  refine j_gd (fun h88 => ?_)
  refine j_iald hx (f := 1316) (o := t) kd1316 rfl (by decide +kernel) h88 ?_
  refine j_runA hx 1 (tb := [(312, .i2l)]) (jtb_ok (by decide +kernel)) (pc' := 313) (lv' := [(0, vR t), (2, vI l2)]) (st' := [vL ((jA W 1316 t (ix l2)).toInt64), vR t]) rfl ?_
  refine j_OI (j_callV (av := [vL ((jA W 1316 t (ix l2)).toInt64)]) (st := []) hx hr (Or.inl q3010) q3012 qs139 rfl md_fmo_fixType np_fmo_fixType (cmo_fixType t ((jA W 1316 t (ix l2)).toInt64) W) (by decide) (Nat.le_of_ble_eq_true rfl) h85 (by decide) (by decide +kernel)) (fun q89 _ => ?_)
  refine j_runA hx 1 (tb := [(316, .sipush 275)]) (jtb_ok (by decide +kernel)) (pc' := 319) (lv' := [(0, vR t), (2, vI l2)]) (st' := [vI (kI 275), vI q89]) rfl ?_
  refine j_icmp_eq hx (off := 22) (tgt := 341) (by decide +kernel) (by decide) (fun _ => ?_) (fun _ => ?_)
  · exact wmo_apart_341 h l2 W
  exact wmo_apart_322 h l2 W
theorem wmo_apart_181 {x : jCx} {en : (fmo_apart_S ⊕ (Int32 × jW)) → Option (Outcome × jW)} {t : Nat} (h : hmo_apart x en t) (l2 : Int32) (W : jW) : jJ x 5 181 [(0, vR t), (2, vI l2)] [] W (fmo_apart_181 t l2 W) en := by
  have h0 := h
  obtain ⟨hx, hm, hr, he, k53, k129, k181, k217, k275, k349, k364, k423⟩ := h0
  unfold fmo_apart_181
  refine j_runA hx 2 (tb := [(181, .iload_n 2), (182, .aload_n 0)]) (jtb_ok (by decide +kernel)) (pc' := 183) (lv' := [(0, vR t), (2, vI l2)]) (st' := [vR t, vI l2]) rfl ?_
  refine j_gd (fun h66 => ?_)
  refine j_getR hx flX8_23 kl1305 h66 (by decide) (by decide +kernel) ?_
  refine j_gd (fun h67 => ?_)
  refine j_getI hx flX8_333 kd1403 h67 (by decide) (by decide +kernel) ?_
  refine j_icmp_ge hx (off := 84) (tgt := 273) (by decide +kernel) (by decide) (fun _ => ?_) (fun _ => ?_)
  · refine j_runA hx 2 (tb := [(273, .iconst 0), (274, .istore_n 2)]) (jtb_ok (by decide +kernel)) (pc' := 275) (lv' := [(2, vI (kI 0)), (0, vR t)]) (st' := []) rfl ?_
    refine j_lv (lv' := [(0, vR t), (2, vI (kI 0))]) ⟨rfl, rfl, trivial⟩ ?_
    exact k275 (kI 0) W
  refine j_runA hx 1 (tb := [(192, .aload_n 0)]) (jtb_ok (by decide +kernel)) (pc' := 193) (lv' := [(0, vR t), (2, vI l2)]) (st' := [vR t]) rfl ?_
  refine j_getR hx flX8_23 kl1305 h66 (by decide) (by decide +kernel) ?_
  refine j_runA hx 1 (tb := [(196, .iload_n 2)]) (jtb_ok (by decide +kernel)) (pc' := 197) (lv' := [(0, vR t), (2, vI l2)]) (st' := [vI l2, vR (jR W 1305 t)]) rfl ?_
  refine j_OI (j_callV (av := [vI l2]) (st := []) hx hr (Or.inl q3005) q2878 q2879 rfl md_fhd_what np_fhd_what (chd_what (jR W 1305 t) l2 W) (by decide) (Nat.le_of_ble_eq_true rfl) h67 (by decide) (by decide +kernel)) (fun q68 _ => ?_)
  refine j_runA hx 1 (tb := [(200, .iconst 4)]) (jtb_ok (by decide +kernel)) (pc' := 201) (lv' := [(0, vR t), (2, vI l2)]) (st' := [vI (kI 4), vI q68]) rfl ?_
  refine j_icmp_eq hx (off := 6) (tgt := 207) (by decide +kernel) (by decide) (fun _ => ?_) (fun _ => ?_)
  · refine j_runA hx 1 (tb := [(207, .aload_n 0)]) (jtb_ok (by decide +kernel)) (pc' := 208) (lv' := [(0, vR t), (2, vI l2)]) (st' := [vR t]) rfl ?_
    refine j_getR hx flX8_23 kl1305 h66 (by decide) (by decide +kernel) ?_
    refine j_getR hx flX8_301 kl1412 h67 (by decide) (by decide +kernel) ?_
    refine j_runA hx 1 (tb := [(214, .iload_n 2)]) (jtb_ok (by decide +kernel)) (pc' := 215) (lv' := [(0, vR t), (2, vI l2)]) (st' := [vI l2, vR (jR W 1412 (jR W 1305 t))]) rfl ?_
    refine j_gd (fun h69 => ?_)
    refine j_lald hx (f := 1412) (o := (jR W 1305 t)) kd1412 rfl (by decide +kernel) h69 ?_
    refine j_runA hx 1 (tb := [(216, .lstore_n 3)]) (jtb_ok (by decide +kernel)) (pc' := 217) (lv' := [(3, vL (jB W 1412 (jR W 1305 t) (ix l2))), (0, vR t), (2, vI l2)]) (st' := []) rfl ?_
    refine j_let (v := (jB W 1412 (jR W 1305 t) (ix l2))) (lv := fun v70 => [(3, vL v70), (0, vR t), (2, vI l2)]) (st := fun _ => []) (fun v70 => ?_)
    refine j_lv (lv' := [(0, vR t), (2, vI l2), (3, vL v70)]) ⟨rfl, rfl, rfl, trivial⟩ ?_
    exact k217 l2 v70 W
  refine j_goto hx (off := 63) (by decide +kernel) (tgt := 267) (by decide) ?_
  exact wmo_apart_267 h l2 W
theorem wmo_apart_129 {x : jCx} {en : (fmo_apart_S ⊕ (Int32 × jW)) → Option (Outcome × jW)} {t : Nat} (h : hmo_apart x en t) (l2 : Int32) (W : jW) : jJ x 5 129 [(0, vR t), (2, vI l2)] [] W (fmo_apart_129 t l2 W) en := by
  have h0 := h
  obtain ⟨hx, hm, hr, he, k53, k129, k181, k217, k275, k349, k364, k423⟩ := h0
  unfold fmo_apart_129
  refine j_runA hx 2 (tb := [(129, .iload_n 2), (130, .aload_n 0)]) (jtb_ok (by decide +kernel)) (pc' := 131) (lv' := [(0, vR t), (2, vI l2)]) (st' := [vR t, vI l2]) rfl ?_
  refine j_gd (fun h56 => ?_)
  refine j_getI hx flX8_316 kd1310 h56 (by decide) (by decide +kernel) ?_
  refine j_icmp_ge hx (off := 40) (tgt := 174) (by decide +kernel) (by decide) (fun _ => ?_) (fun _ => ?_)
  · refine j_runA hx 2 (tb := [(174, .aload_n 0), (175, .iconst 0)]) (jtb_ok (by decide +kernel)) (pc' := 176) (lv' := [(0, vR t), (2, vI l2)]) (st' := [vI (kI 0), vR t]) rfl ?_
    refine j_putI hx fwX8_330 wf1328 kd1328 h56 (by decide) (by decide +kernel) (ni1328 _) (fi1328 _) ?_
    refine j_ltw rfl (fun W57 hc58 => ?_)
    have h59 : jC W57 t = 13 := (congrFun hc58 _).trans h56
    refine j_runA hx 2 (tb := [(179, .iconst 1), (180, .istore_n 2)]) (jtb_ok (by decide +kernel)) (pc' := 181) (lv' := [(2, vI (kI 1)), (0, vR t)]) (st' := []) rfl ?_
    refine j_lv (lv' := [(0, vR t), (2, vI (kI 1))]) ⟨rfl, rfl, trivial⟩ ?_
    exact k181 (kI 1) W57
  refine j_runA hx 1 (tb := [(137, .aload_n 0)]) (jtb_ok (by decide +kernel)) (pc' := 138) (lv' := [(0, vR t), (2, vI l2)]) (st' := [vR t]) rfl ?_
  refine j_getR hx flX8_36 kl1315 h56 (by decide) (by decide +kernel) ?_
  refine j_runA hx 1 (tb := [(141, .iload_n 2)]) (jtb_ok (by decide +kernel)) (pc' := 142) (lv' := [(0, vR t), (2, vI l2)]) (st' := [vI l2, vR (jR W 1315 t)]) rfl ?_
  refine j_gd (fun h61 => ?_)
  refine j_iald hx (f := 1315) (o := t) kd1315 rfl (by decide +kernel) h61 ?_
  refine j_TI (j_callS (av := [vI (jA W 1315 t (ix l2))]) (st := []) hx hr (Or.inl q2953) q2954 q241 md_fmo_sort np_fmo_sort (cmo_sort (jA W 1315 t (ix l2)) W) (by decide) (Nat.le_of_ble_eq_true rfl) (by decide +kernel)) ?_
  refine j_if_ne hx (off := 22) (tgt := 168) (by decide +kernel) (by decide) (fun _ => ?_) (fun _ => ?_)
  · refine j_runA hx 1 (tb := [(168, .iinc 2 1)]) (jtb_ok (by decide +kernel)) (pc' := 171) (lv' := [(2, vI (l2 + (kI 1))), (0, vR t)]) (st' := []) rfl ?_
    refine j_let (v := (l2 + (kI 1))) (lv := fun v62 => [(2, vI v62), (0, vR t)]) (st := fun _ => []) (fun v62 => ?_)
    refine j_goto hx (off := -42) (by decide +kernel) (tgt := 129) (by decide) ?_
    refine j_lv (lv' := [(0, vR t), (2, vI v62)]) ⟨rfl, rfl, trivial⟩ ?_
    exact k129 v62 W
  refine j_runA hx 3 (tb := [(149, .aload_n 0), (150, .bipush 8), (152, .aload_n 0)]) (jtb_ok (by decide +kernel)) (pc' := 153) (lv' := [(0, vR t), (2, vI l2)]) (st' := [vR t, vI (kI 8), vR t]) rfl ?_
  refine j_getI hx flX8_304 kd1309 h56 (by decide) (by decide +kernel) ?_
  refine j_runA hx 1 (tb := [(156, .i2l)]) (jtb_ok (by decide +kernel)) (pc' := 157) (lv' := [(0, vR t), (2, vI l2)]) (st' := [vL ((jI W 1309 t).toInt64), vI (kI 8), vR t]) rfl ?_
  refine j_ldc2 hx (v := (kJ 4)) (jkd2 q2931 (by decide +kernel)) (by decide +kernel) ?_
  refine j_runA hx 4 (tb := [(160, .iload_n 2), (161, .i2l), (162, .lmul), (163, .ladd)]) (jtb_ok (by decide +kernel)) (pc' := 164) (lv' := [(0, vR t), (2, vI l2)]) (st' := [vL (((jI W 1309 t).toInt64) + ((kJ 4) * l2.toInt64)), vI (kI 8), vR t]) rfl ?_
  refine j_WI (j_callV (av := [vI (kI 8), vL (((jI W 1309 t).toInt64) + ((kJ 4) * l2.toInt64))]) (st := []) hx hr (Or.inl q2949) q2951 qs137 rfl md_fmo_broken np_fmo_broken (cmo_broken t (kI 8) (((jI W 1309 t).toInt64) + ((kJ 4) * l2.toInt64)) W) (by decide) (Nat.le_of_ble_eq_true rfl) h56 (by decide) (by decide +kernel)) (fun q63 _ => ?_)
  exact j_iret hx hm (by decide +kernel) rfl (he _)
theorem wmo_apart_53 {x : jCx} {en : (fmo_apart_S ⊕ (Int32 × jW)) → Option (Outcome × jW)} {t : Nat} (h : hmo_apart x en t) (l2 : Int32) (W : jW) : jJ x 5 53 [(0, vR t), (2, vI l2)] [] W (fmo_apart_53 t l2 W) en := by
  have h0 := h
  obtain ⟨hx, hm, hr, he, k53, k129, k181, k217, k275, k349, k364, k423⟩ := h0
  unfold fmo_apart_53
  refine j_runA hx 2 (tb := [(53, .iload_n 2), (54, .aload_n 0)]) (jtb_ok (by decide +kernel)) (pc' := 55) (lv' := [(0, vR t), (2, vI l2)]) (st' := [vR t, vI l2]) rfl ?_
  refine j_gd (fun h28 => ?_)
  refine j_getI hx flX8_316 kd1310 h28 (by decide) (by decide +kernel) ?_
  refine j_icmp_ge hx (off := 50) (tgt := 108) (by decide +kernel) (by decide) (fun _ => ?_) (fun _ => ?_)
  · refine j_runA hx 1 (tb := [(108, .aload_n 0)]) (jtb_ok (by decide +kernel)) (pc' := 109) (lv' := [(0, vR t), (2, vI l2)]) (st' := [vR t]) rfl ?_
    refine j_WI (j_callV (av := []) (st := []) hx hr (Or.inl q2933) q2935 qs136 rfl md_fmo_hasFunctions np_fmo_hasFunctions (cmo_hasFunctions t W) (by decide) (Nat.le_of_ble_eq_true rfl) h28 (by decide) (by decide +kernel)) (fun q29 _ => ?_)
    refine j_if_ne hx (off := 15) (tgt := 127) (by decide +kernel) (by decide) (fun _ => ?_) (fun _ => ?_)
    · refine j_runA hx 2 (tb := [(127, .iconst 0), (128, .istore_n 2)]) (jtb_ok (by decide +kernel)) (pc' := 129) (lv' := [(2, vI (kI 0)), (0, vR t)]) (st' := []) rfl ?_
      refine j_lv (lv' := [(0, vR t), (2, vI (kI 0))]) ⟨rfl, rfl, trivial⟩ ?_
      exact k129 (kI 0) q29.2
    refine j_runA hx 3 (tb := [(115, .aload_n 0), (116, .bipush 7), (118, .aload_n 0)]) (jtb_ok (by decide +kernel)) (pc' := 119) (lv' := [(0, vR t), (2, vI l2)]) (st' := [vR t, vI (kI 7), vR t]) rfl ?_
    refine j_gd (fun h31 => ?_)
    refine j_getI hx flX8_304 kd1309 h31 (by decide) (by decide +kernel) ?_
    refine j_runA hx 1 (tb := [(122, .i2l)]) (jtb_ok (by decide +kernel)) (pc' := 123) (lv' := [(0, vR t), (2, vI l2)]) (st' := [vL ((jI q29.2 1309 t).toInt64), vI (kI 7), vR t]) rfl ?_
    refine j_WI (j_callV (av := [vI (kI 7), vL ((jI q29.2 1309 t).toInt64)]) (st := []) hx hr (Or.inl q2949) q2951 qs137 rfl md_fmo_broken np_fmo_broken (cmo_broken t (kI 7) ((jI q29.2 1309 t).toInt64) q29.2) (by decide) (Nat.le_of_ble_eq_true rfl) h31 (by decide) (by decide +kernel)) (fun q32 _ => ?_)
    exact j_iret hx hm (by decide +kernel) rfl (he _)
  refine j_runA hx 1 (tb := [(61, .aload_n 0)]) (jtb_ok (by decide +kernel)) (pc' := 62) (lv' := [(0, vR t), (2, vI l2)]) (st' := [vR t]) rfl ?_
  refine j_getR hx flX8_36 kl1315 h28 (by decide) (by decide +kernel) ?_
  refine j_runA hx 2 (tb := [(65, .iload_n 2), (66, .aload_n 0)]) (jtb_ok (by decide +kernel)) (pc' := 67) (lv' := [(0, vR t), (2, vI l2)]) (st' := [vR t, vI l2, vR (jR W 1315 t)]) rfl ?_
  refine j_getR hx flX8_23 kl1305 h28 (by decide) (by decide +kernel) ?_
  refine j_runA hx 1 (tb := [(70, .aload_n 0)]) (jtb_ok (by decide +kernel)) (pc' := 71) (lv' := [(0, vR t), (2, vI l2)]) (st' := [vR t, vR (jR W 1305 t), vI l2, vR (jR W 1315 t)]) rfl ?_
  refine j_getI hx flX8_304 kd1309 h28 (by decide) (by decide +kernel) ?_
  refine j_runA hx 1 (tb := [(74, .i2l)]) (jtb_ok (by decide +kernel)) (pc' := 75) (lv' := [(0, vR t), (2, vI l2)]) (st' := [vL ((jI W 1309 t).toInt64), vR (jR W 1305 t), vI l2, vR (jR W 1315 t)]) rfl ?_
  refine j_ldc2 hx (v := (kJ 4)) (jkd2 q2931 (by decide +kernel)) (by decide +kernel) ?_
  refine j_runA hx 5 (tb := [(78, .iload_n 2), (79, .i2l), (80, .lmul), (81, .ladd), (82, .iconst 4)]) (jtb_ok (by decide +kernel)) (pc' := 83) (lv' := [(0, vR t), (2, vI l2)]) (st' := [vI (kI 4), vL (((jI W 1309 t).toInt64) + ((kJ 4) * l2.toInt64)), vR (jR W 1305 t), vI l2, vR (jR W 1315 t)]) rfl ?_
  refine j_gd (fun h34 => ?_)
  refine j_OL (j_callV (av := [vL (((jI W 1309 t).toInt64) + ((kJ 4) * l2.toInt64)), vI (kI 4)]) (st := [vI l2, vR (jR W 1315 t)]) hx hr (Or.inl q2932) q2823 q2824 rfl md_fhd_num np_fhd_num (chd_num (jR W 1305 t) (((jI W 1309 t).toInt64) + ((kJ 4) * l2.toInt64)) (kI 4) W) (by decide) (Nat.le_of_ble_eq_true rfl) h34 (by decide) (by decide +kernel)) (fun q35 _ => ?_)
  refine j_runA hx 1 (tb := [(86, .l2i)]) (jtb_ok (by decide +kernel)) (pc' := 87) (lv' := [(0, vR t), (2, vI l2)]) (st' := [vI q35.toInt32, vI l2, vR (jR W 1315 t)]) rfl ?_
  refine j_gd (fun h36 => ?_)
  refine j_iast hx (f := 1315) (o := t) kd1315 rfl (by decide +kernel) h36 ?_
  refine j_ltw rfl (fun W37 hc38 => ?_)
  have h39 : jC W37 t = 13 := (congrFun hc38 _).trans h28
  have h40 : jC W37 (jR W 1305 t) = 14 := (congrFun hc38 _).trans h34
  refine j_runA hx 1 (tb := [(88, .aload_n 0)]) (jtb_ok (by decide +kernel)) (pc' := 89) (lv' := [(0, vR t), (2, vI l2)]) (st' := [vR t]) rfl ?_
  refine j_getR hx flX8_40 kl1316 h39 (by decide) (by decide +kernel) ?_
  refine j_runA hx 2 (tb := [(92, .iload_n 2), (93, .iconst (-1))]) (jtb_ok (by decide +kernel)) (pc' := 94) (lv' := [(0, vR t), (2, vI l2)]) (st' := [vI (kI (-1)), vI l2, vR (jR W37 1316 t)]) rfl ?_
  refine j_gd (fun h42 => ?_)
  refine j_iast hx (f := 1316) (o := t) kd1316 rfl (by decide +kernel) h42 ?_
  refine j_ltw rfl (fun W43 hc44 => ?_)
  have h45 : jC W43 t = 13 := (congrFun hc44 _).trans h39
  have h46 : jC W43 (jR W 1305 t) = 14 := (congrFun hc44 _).trans h40
  refine j_runA hx 1 (tb := [(95, .aload_n 0)]) (jtb_ok (by decide +kernel)) (pc' := 96) (lv' := [(0, vR t), (2, vI l2)]) (st' := [vR t]) rfl ?_
  refine j_getR hx flX8_46 kl1318 h45 (by decide) (by decide +kernel) ?_
  refine j_runA hx 2 (tb := [(99, .iload_n 2), (100, .iconst 0)]) (jtb_ok (by decide +kernel)) (pc' := 101) (lv' := [(0, vR t), (2, vI l2)]) (st' := [vI (kI 0), vI l2, vR (jR W43 1318 t)]) rfl ?_
  refine j_gd (fun h48 => ?_)
  refine j_zast hx (f := 1318) (o := t) kd1318 rfl (by decide +kernel) h48 ?_
  refine j_ltw rfl (fun W49 hc50 => ?_)
  have h51 : jC W49 t = 13 := (congrFun hc50 _).trans h45
  have h52 : jC W49 (jR W 1305 t) = 14 := (congrFun hc50 _).trans h46
  refine j_runA hx 1 (tb := [(102, .iinc 2 1)]) (jtb_ok (by decide +kernel)) (pc' := 105) (lv' := [(2, vI (l2 + (kI 1))), (0, vR t)]) (st' := []) rfl ?_
  refine j_let (v := (l2 + (kI 1))) (lv := fun v54 => [(2, vI v54), (0, vR t)]) (st := fun _ => []) (fun v54 => ?_)
  refine j_goto hx (off := -52) (by decide +kernel) (tgt := 53) (by decide) ?_
  refine j_lv (lv' := [(0, vR t), (2, vI v54)]) ⟨rfl, rfl, trivial⟩ ?_
  exact k53 v54 W49
theorem wmo_apart {x : jCx} {en : (fmo_apart_S ⊕ (Int32 × jW)) → Option (Outcome × jW)} {t : Nat} (h : hmo_apart x en t) (W : jW) : jJ x 5 0 [(0, vR t)] [] W (fmo_apart_0 t W) en := by
  have h0 := h
  obtain ⟨hx, hm, hr, he, k53, k129, k181, k217, k275, k349, k364, k423⟩ := h0
  unfold fmo_apart_0
  refine j_runA hx 1 (tb := [(0, .aload_n 0)]) (jtb_ok (by decide +kernel)) (pc' := 1) (lv' := [(0, vR t)]) (st' := [vR t]) rfl ?_
  refine j_gd (fun h1 => ?_)
  refine j_getR hx flX8_23 kl1305 h1 (by decide) (by decide +kernel) ?_
  refine j_gd (fun h2 => ?_)
  refine j_getI hx flX8_298 kd1415 h2 (by decide) (by decide +kernel) ?_
  refine j_runA hx 1 (tb := [(7, .istore_n 1)]) (jtb_ok (by decide +kernel)) (pc' := 8) (lv' := [(1, vI (jI W 1415 (jR W 1305 t))), (0, vR t)]) (st' := []) rfl ?_
  refine j_let (v := (jI W 1415 (jR W 1305 t))) (lv := fun v3 => [(1, vI v3), (0, vR t)]) (st := fun _ => []) (fun v3 => ?_)
  refine j_runA hx 2 (tb := [(8, .aload_n 0), (9, .aload_n 0)]) (jtb_ok (by decide +kernel)) (pc' := 10) (lv' := [(1, vI v3), (0, vR t)]) (st' := [vR t, vR t]) rfl ?_
  refine j_getR hx flX8_23 kl1305 h1 (by decide) (by decide +kernel) ?_
  refine j_getR hx flX8_301 kl1412 h2 (by decide) (by decide +kernel) ?_
  refine j_runA hx 1 (tb := [(16, .iload_n 1)]) (jtb_ok (by decide +kernel)) (pc' := 17) (lv' := [(1, vI v3), (0, vR t)]) (st' := [vI v3, vR (jR W 1412 (jR W 1305 t)), vR t]) rfl ?_
  refine j_gd (fun h4 => ?_)
  refine j_lald hx (f := 1412) (o := (jR W 1305 t)) kd1412 rfl (by decide +kernel) h4 ?_
  refine j_runA hx 1 (tb := [(18, .l2i)]) (jtb_ok (by decide +kernel)) (pc' := 19) (lv' := [(1, vI v3), (0, vR t)]) (st' := [vI ((jB W 1412 (jR W 1305 t) (ix v3)).toInt32), vR t]) rfl ?_
  refine j_putI hx fwX8_304 wf1309 kd1309 h1 (by decide) (by decide +kernel) (ni1309 _) (fi1309 _) ?_
  refine j_ltw rfl (fun W5 hc6 => ?_)
  have h7 : jC W5 t = 13 := (congrFun hc6 _).trans h1
  have h8 : jC W5 (jR W 1305 t) = 14 := (congrFun hc6 _).trans h2
  refine j_runA hx 2 (tb := [(22, .aload_n 0), (23, .aload_n 0)]) (jtb_ok (by decide +kernel)) (pc' := 24) (lv' := [(1, vI v3), (0, vR t)]) (st' := [vR t, vR t]) rfl ?_
  refine j_getR hx flX8_23 kl1305 h7 (by decide) (by decide +kernel) ?_
  refine j_gd (fun h10 => ?_)
  refine j_getR hx flX8_307 kl1413 h10 (by decide) (by decide +kernel) ?_
  refine j_runA hx 1 (tb := [(30, .iload_n 1)]) (jtb_ok (by decide +kernel)) (pc' := 31) (lv' := [(1, vI v3), (0, vR t)]) (st' := [vI v3, vR (jR W5 1413 (jR W5 1305 t)), vR t]) rfl ?_
  refine j_gd (fun h11 => ?_)
  refine j_lald hx (f := 1413) (o := (jR W5 1305 t)) kd1413 rfl (by decide +kernel) h11 ?_
  refine j_putL hx fwX8_310 wf1313 kd1313 h7 (by decide) (by decide +kernel) (nl1313 _) (ff1313 _) ?_
  refine j_ltw rfl (fun W12 hc13 => ?_)
  have h14 : jC W12 t = 13 := (congrFun hc13 _).trans h7
  have h15 : jC W12 (jR W 1305 t) = 14 := (congrFun hc13 _).trans h8
  have h16 : jC W12 (jR W5 1305 t) = 14 := (congrFun hc13 _).trans h10
  refine j_runA hx 2 (tb := [(35, .aload_n 0), (36, .aload_n 0)]) (jtb_ok (by decide +kernel)) (pc' := 37) (lv' := [(1, vI v3), (0, vR t)]) (st' := [vR t, vR t]) rfl ?_
  refine j_getR hx flX8_23 kl1305 h14 (by decide) (by decide +kernel) ?_
  refine j_gd (fun h18 => ?_)
  refine j_getR hx flX8_313 kl1414 h18 (by decide) (by decide +kernel) ?_
  refine j_runA hx 1 (tb := [(43, .iload_n 1)]) (jtb_ok (by decide +kernel)) (pc' := 44) (lv' := [(1, vI v3), (0, vR t)]) (st' := [vI v3, vR (jR W12 1414 (jR W12 1305 t)), vR t]) rfl ?_
  refine j_gd (fun h19 => ?_)
  refine j_lald hx (f := 1414) (o := (jR W12 1305 t)) kd1414 rfl (by decide +kernel) h19 ?_
  refine j_runA hx 2 (tb := [(45, .l2i), (46, .iconst 4)]) (jtb_ok (by decide +kernel)) (pc' := 47) (lv' := [(1, vI v3), (0, vR t)]) (st' := [vI (kI 4), vI ((jB W12 1414 (jR W12 1305 t) (ix v3)).toInt32), vR t]) rfl ?_
  refine j_idiv hx (by decide +kernel) (by decide +kernel) ?_
  refine j_putI hx fwX8_316 wf1310 kd1310 h14 (by decide) (by decide +kernel) (ni1310 _) (fi1310 _) ?_
  refine j_ltw rfl (fun W20 hc21 => ?_)
  have h22 : jC W20 t = 13 := (congrFun hc21 _).trans h14
  have h23 : jC W20 (jR W 1305 t) = 14 := (congrFun hc21 _).trans h15
  have h24 : jC W20 (jR W5 1305 t) = 14 := (congrFun hc21 _).trans h16
  have h25 : jC W20 (jR W12 1305 t) = 14 := (congrFun hc21 _).trans h18
  refine j_runA hx 2 (tb := [(51, .iconst 0), (52, .istore_n 2)]) (jtb_ok (by decide +kernel)) (pc' := 53) (lv' := [(2, vI (kI 0)), (1, vI v3), (0, vR t)]) (st' := []) rfl ?_
  refine j_lv (lv' := [(0, vR t), (2, vI (kI 0))]) ⟨rfl, rfl, trivial⟩ ?_
  exact k53 (kI 0) W20
theorem cmo_apart (t : Nat) (W : jW) : jM yX8_apart cX8_apart 5 (Option.some Jvm.ClassFile.FieldType.int) [] 5 76 [vR t] W ((fmo_apart t W).bind (fun q => some (.returned (some (.int q.1)), q.2))) := by
  refine jM.of (Nat.le_of_ble_eq_true rfl) (fun x hx hm hr => ?_)
  refine j_begin (P := (Sum.elim (fun s => (53, [(0, vR t), (2, vI s.1)], s.2)) (Sum.elim (fun s => (129, [(0, vR t), (2, vI s.1)], s.2)) (Sum.elim (fun s => (181, [(0, vR t), (2, vI s.1)], s.2)) (Sum.elim (fun s => (217, [(0, vR t), (2, vI s.1), (3, vL s.2.1)], s.2.2)) (Sum.elim (fun s => (275, [(0, vR t), (2, vI s.1)], s.2)) (Sum.elim (fun s => (349, [(0, vR t), (2, vI s.1)], s.2)) (Sum.elim (fun s => (364, [(0, vR t), (2, vI s.1), (3, vI s.2.1)], s.2.2)) (fun s => (423, [(0, vR t), (2, vI s.1)], s.2)))))))))) (fun en he hk => ?_)
  have h : hmo_apart x en t := ⟨hx, hm, hr, fun q => he _, fun l2 W => hk (.inl (l2, W)), fun l2 W => hk (.inr (.inl (l2, W))), fun l2 W => hk (.inr (.inr (.inl (l2, W)))), fun l2 l3 W => hk (.inr (.inr (.inr (.inl (l2, l3, W))))), fun l2 W => hk (.inr (.inr (.inr (.inr (.inl (l2, W)))))), fun l2 W => hk (.inr (.inr (.inr (.inr (.inr (.inl (l2, W))))))), fun l2 l3 W => hk (.inr (.inr (.inr (.inr (.inr (.inr (.inl (l2, l3, W)))))))), fun l2 W => hk (.inr (.inr (.inr (.inr (.inr (.inr (.inr (l2, W))))))))⟩
  refine ⟨fun s => ?_, wmo_apart h W⟩
  rcases s with s | s | s | s | s | s | s | s
  · exact wmo_apart_53 h s.1 s.2
  · exact wmo_apart_129 h s.1 s.2
  · exact wmo_apart_181 h s.1 s.2
  · exact wmo_apart_217 h s.1 s.2.1 s.2.2
  · exact wmo_apart_275 h s.1 s.2
  · exact wmo_apart_349 h s.1 s.2
  · exact wmo_apart_364 h s.1 s.2.1 s.2.2
  · exact wmo_apart_423 h s.1 s.2
def hmo_forget (x : jCx) (en : (jW) → Option (Outcome × jW)) (t : Nat) : Prop :=
  jOK x RX8 cX8_forget 1 ∧
  jMt x "forget" (Option.none : Option Jvm.ClassFile.FieldType) [] ∧
  jRm x 0 0 ∧
  (∀ q : jW, en q = some (.returned none, q))
theorem wmo_forget {x : jCx} {en : (jW) → Option (Outcome × jW)} {t : Nat} (h : hmo_forget x en t) (W : jW) : jJ x 1 0 [(0, vR t)] [] W (fmo_forget t W) en := by
  have h0 := h
  obtain ⟨hx, hm, hr, he⟩ := h0
  unfold fmo_forget
  refine j_runA hx 1 (tb := [(0, .aload_n 0)]) (jtb_ok (by decide +kernel)) (pc' := 1) (lv' := [(0, vR t)]) (st' := [vR t]) rfl ?_
  refine j_gd (fun h1 => ?_)
  refine j_getR hx flX8_168 kl1361 h1 (by decide) (by decide +kernel) ?_
  refine j_runA hx 1 (tb := [(4, .iconst 0)]) (jtb_ok (by decide +kernel)) (pc' := 5) (lv' := [(0, vR t)]) (st' := [vI (kI 0), vR (jR W 1361 t)]) rfl ?_
  refine j_gd (fun h2 => ?_)
  refine j_putI hx fwX8_584 wf1602 kd1602 h2 (by decide) (by decide +kernel) (nz1602 jz0) (fz1602 jz0) ?_
  refine j_ltw rfl (fun W3 hc4 => ?_)
  have h5 : jC W3 t = 13 := (congrFun hc4 _).trans h1
  have h6 : jC W3 (jR W 1361 t) = 16 := (congrFun hc4 _).trans h2
  refine j_runA hx 1 (tb := [(8, .aload_n 0)]) (jtb_ok (by decide +kernel)) (pc' := 9) (lv' := [(0, vR t)]) (st' := [vR t]) rfl ?_
  refine j_getR hx flX8_172 kl1362 h5 (by decide) (by decide +kernel) ?_
  refine j_runA hx 1 (tb := [(12, .iconst 0)]) (jtb_ok (by decide +kernel)) (pc' := 13) (lv' := [(0, vR t)]) (st' := [vI (kI 0), vR (jR W3 1362 t)]) rfl ?_
  refine j_gd (fun h8 => ?_)
  refine j_putI hx fwX8_584 wf1602 kd1602 h8 (by decide) (by decide +kernel) (nz1602 jz0) (fz1602 jz0) ?_
  refine j_ltw rfl (fun W9 hc10 => ?_)
  have h11 : jC W9 t = 13 := (congrFun hc10 _).trans h5
  have h12 : jC W9 (jR W 1361 t) = 16 := (congrFun hc10 _).trans h6
  have h13 : jC W9 (jR W3 1362 t) = 16 := (congrFun hc10 _).trans h8
  refine j_runA hx 1 (tb := [(16, .aload_n 0)]) (jtb_ok (by decide +kernel)) (pc' := 17) (lv' := [(0, vR t)]) (st' := [vR t]) rfl ?_
  refine j_getR hx flX8_175 kl1363 h11 (by decide) (by decide +kernel) ?_
  refine j_runA hx 1 (tb := [(20, .iconst 0)]) (jtb_ok (by decide +kernel)) (pc' := 21) (lv' := [(0, vR t)]) (st' := [vI (kI 0), vR (jR W9 1363 t)]) rfl ?_
  refine j_gd (fun h15 => ?_)
  refine j_putI hx fwX8_584 wf1602 kd1602 h15 (by decide) (by decide +kernel) (nz1602 jz0) (fz1602 jz0) ?_
  refine j_ltw rfl (fun W16 hc17 => ?_)
  have h18 : jC W16 t = 13 := (congrFun hc17 _).trans h11
  have h19 : jC W16 (jR W 1361 t) = 16 := (congrFun hc17 _).trans h12
  have h20 : jC W16 (jR W3 1362 t) = 16 := (congrFun hc17 _).trans h13
  have h21 : jC W16 (jR W9 1363 t) = 16 := (congrFun hc17 _).trans h15
  exact j_vret hx hm (by decide +kernel) (he _)
theorem cmo_forget (t : Nat) (W : jW) : jM yX8_forget cX8_forget 1 (Option.none : Option Jvm.ClassFile.FieldType) [] 0 0 [vR t] W ((fmo_forget t W).bind (fun q => some (.returned none, q))) := 
  jM.of (Nat.le_of_ble_eq_true rfl) (fun x hx hm hr => wmo_forget ⟨hx, hm, hr, fun _ => rfl⟩ W)
