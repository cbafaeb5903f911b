/-! ===== walks: fwn_word fhd_num fmo_fixType fhd_symbol fmo_target fhd_isIn fwn_newWord fwn_fixed fwn_whole fwn_isGone frn_init fhd_what fhd_head fhd_aim fmo_newAddress frn_put ===== -/
set_option maxRecDepth 100000
def hwn_word (x : jCx) (en : (Int32 × jW) → Option (Outcome × jW)) (t : Nat) (a1 : Int32) (a2 : Int32) : Prop :=
  jOK x RX10 cX10_word 7 ∧
  jMt x "word" (Option.some Jvm.ClassFile.FieldType.int) [] ∧
  jRm x 5 75 ∧
  (∀ q : Int32 × jW, en q = some (.returned (some (.int q.1)), q.2))
theorem wwn_word_159 {x : jCx} {en : (Int32 × jW) → Option (Outcome × jW)} {t : Nat} {a1 : Int32} {a2 : Int32} (h : hwn_word x en t a1 a2) (s0 : Int32) (s1 : Int32) (s2 : Nat) (W : jW) : jJ x 7 159 [(0, vR t), (1, vI a1), (2, vI a2)] [vI s0, vI s1, vR s2] W (fwn_word_159 t a1 a2 s0 s1 s2 W) en := by
  have h0 := h
  obtain ⟨hx, hm, hr, he⟩ := h0
  unfold fwn_word_159
  refine j_gd (fun h37 => ?_)
  refine j_WI (j_callV (av := [vI s1, vI s0]) (st := []) hx hr (Or.inl q3177) q3179 qs158 rfl md_fwn_aimed np_fwn_aimed (cwn_aimed s2 s1 s0 W) (by decide) (Nat.le_of_ble_eq_true rfl) h37 (by decide) (by decide +kernel)) (fun q38 _ => ?_)
  exact j_iret hx hm (by decide +kernel) rfl (he _)
theorem wwn_word_133 {x : jCx} {en : (Int32 × jW) → Option (Outcome × jW)} {t : Nat} {a1 : Int32} {a2 : Int32} (h : hwn_word x en t a1 a2) (l4 : Int32) (s0 : Int32) (s1 : Nat) (W : jW) : jJ x 7 133 [(0, vR t), (1, vI a1), (2, vI a2), (4, vI l4)] [vI s0, vR s1] W (fwn_word_133 t a1 a2 l4 s0 s1 W) en := by
  have h0 := h
  obtain ⟨hx, hm, hr, he⟩ := h0
  unfold fwn_word_133
  refine j_runA hx 1 (tb := [(133, .aload_n 0)]) (jtb_ok (by decide +kernel)) (pc' := 134) (lv' := [(0, vR t), (1, vI a1), (2, vI a2), (4, vI l4)]) (st' := [vR t, vI s0, vR s1]) rfl ?_
  refine j_gd (fun h32 => ?_)
  refine j_getR hx flX10_22 kl1505 h32 (by decide) (by decide +kernel) ?_
  refine j_runA hx 1 (tb := [(137, .iload_n 1)]) (jtb_ok (by decide +kernel)) (pc' := 138) (lv' := [(0, vR t), (1, vI a1), (2, vI a2), (4, vI l4)]) (st' := [vI a1, vR (jR W 1505 t), vI s0, vR s1]) rfl ?_
  refine j_gd (fun h33 => ?_)
  refine j_zald hx (f := 1505) (o := t) kd1505 rfl (by decide +kernel) h33 ?_
  refine j_if_eq hx (off := 7) (tgt := 146) (by decide +kernel) (by decide) (fun _ => ?_) (fun _ => ?_)
  · refine j_runA hx 1 (tb := [(146, .aload_n 0)]) (jtb_ok (by decide +kernel)) (pc' := 147) (lv' := [(0, vR t), (1, vI a1), (2, vI a2), (4, vI l4)]) (st' := [vR t, vI s0, vR s1]) rfl ?_
    refine j_getR hx flX10_15 kl1503 h32 (by decide) (by decide +kernel) ?_
    refine j_runA hx 2 (tb := [(150, .aload_n 0), (151, .iload_n 1)]) (jtb_ok (by decide +kernel)) (pc' := 152) (lv' := [(0, vR t), (1, vI a1), (2, vI a2), (4, vI l4)]) (st' := [vI a1, vR t, vR (jR W 1503 t), vI s0, vR s1]) rfl ?_
    refine j_OI (j_callV (av := [vI a1]) (st := [vR (jR W 1503 t), vI s0, vR s1]) hx hr (Or.inl q3156) q3157 q3158 rfl md_fwn_goal np_fwn_goal (cwn_goal t a1 W) (by decide) (Nat.le_of_ble_eq_true rfl) h32 (by decide) (by decide +kernel)) (fun q34 _ => ?_)
    refine j_gd (fun h35 => ?_)
    refine j_iald hx (f := 1503) (o := t) kd1503 rfl (by decide +kernel) h35 ?_
    refine j_runA hx 2 (tb := [(156, .iload 4), (158, .isub)]) (jtb_ok (by decide +kernel)) (pc' := 159) (lv' := [(0, vR t), (1, vI a1), (2, vI a2), (4, vI l4)]) (st' := [vI ((jA W 1503 t (ix q34)) - l4), vI s0, vR s1]) rfl ?_
    refine j_lv (lv' := [(0, vR t), (1, vI a1), (2, vI a2)]) ⟨rfl, rfl, rfl, trivial⟩ ?_
    exact wwn_word_159 h ((jA W 1503 t (ix q34)) - l4) s0 s1 W
  refine j_runA hx 1 (tb := [(142, .iconst 2)]) (jtb_ok (by decide +kernel)) (pc' := 143) (lv' := [(0, vR t), (1, vI a1), (2, vI a2), (4, vI l4)]) (st' := [vI (kI 2), vI s0, vR s1]) rfl ?_
  refine j_goto hx (off := 16) (by decide +kernel) (tgt := 159) (by decide) ?_
  refine j_lv (lv' := [(0, vR t), (1, vI a1), (2, vI a2)]) ⟨rfl, rfl, rfl, trivial⟩ ?_
  exact wwn_word_159 h (kI 2) s0 s1 W
theorem wwn_word_114 {x : jCx} {en : (Int32 × jW) → Option (Outcome × jW)} {t : Nat} {a1 : Int32} {a2 : Int32} (h : hwn_word x en t a1 a2) (l4 : Int32) (l5 : Int32) (s0 : Int32) (W : jW) : jJ x 7 114 [(0, vR t), (1, vI a1), (2, vI a2), (4, vI l4), (5, vI l5)] [vI s0] W (fwn_word_114 t a1 a2 l4 l5 s0 W) en := by
  have h0 := h
  obtain ⟨hx, hm, hr, he⟩ := h0
  unfold fwn_word_114
  refine j_runA hx 3 (tb := [(114, .istore 6), (116, .aload_n 0), (117, .iload 6)]) (jtb_ok (by decide +kernel)) (pc' := 119) (lv' := [(6, vI s0), (0, vR t), (1, vI a1), (2, vI a2), (4, vI l4), (5, vI l5)]) (st' := [vI s0, vR t]) rfl ?_
  refine j_if_eq hx (off := 12) (tgt := 131) (by decide +kernel) (by decide) (fun _ => ?_) (fun _ => ?_)
  · refine j_runA hx 1 (tb := [(131, .iload 5)]) (jtb_ok (by decide +kernel)) (pc' := 133) (lv' := [(6, vI s0), (0, vR t), (1, vI a1), (2, vI a2), (4, vI l4), (5, vI l5)]) (st' := [vI l5, vR t]) rfl ?_
    refine j_lv (lv' := [(0, vR t), (1, vI a1), (2, vI a2), (4, vI l4)]) ⟨rfl, rfl, rfl, rfl, trivial⟩ ?_
    exact wwn_word_133 h l4 l5 t W
  refine j_runA hx 2 (tb := [(122, .aload_n 0), (123, .iload 5)]) (jtb_ok (by decide +kernel)) (pc' := 125) (lv' := [(6, vI s0), (0, vR t), (1, vI a1), (2, vI a2), (4, vI l4), (5, vI l5)]) (st' := [vI l5, vR t, vR t]) rfl ?_
  refine j_gd (fun h30 => ?_)
  refine j_TI (j_callV (av := [vI l5]) (st := [vR t]) hx hr (Or.inl q3172) q3174 qs157 rfl md_fwn_turned np_fwn_turned (cwn_turned t l5 W) (by decide) (Nat.le_of_ble_eq_true rfl) h30 (by decide) (by decide +kernel)) ?_
  refine j_goto hx (off := 5) (by decide +kernel) (tgt := 133) (by decide) ?_
  refine j_lv (lv' := [(0, vR t), (1, vI a1), (2, vI a2), (4, vI l4)]) ⟨rfl, rfl, rfl, rfl, trivial⟩ ?_
  exact wwn_word_133 h l4 (fwn_turned t l5) t W
theorem wwn_word_100 {x : jCx} {en : (Int32 × jW) → Option (Outcome × jW)} {t : Nat} {a1 : Int32} {a2 : Int32} (h : hwn_word x en t a1 a2) (l4 : Int32) (l5 : Int32) (s0 : Int32) (W : jW) : jJ x 7 100 [(0, vR t), (1, vI a1), (2, vI a2), (4, vI l4), (5, vI l5)] [vI s0] W (fwn_word_100 t a1 a2 l4 l5 s0 W) en := by
  have h0 := h
  obtain ⟨hx, hm, hr, he⟩ := h0
  unfold fwn_word_100
  refine j_runA hx 1 (tb := [(100, .aload_n 0)]) (jtb_ok (by decide +kernel)) (pc' := 101) (lv' := [(0, vR t), (1, vI a1), (2, vI a2), (4, vI l4), (5, vI l5)]) (st' := [vR t, vI s0]) rfl ?_
  refine j_gd (fun h27 => ?_)
  refine j_getR hx flX10_22 kl1505 h27 (by decide) (by decide +kernel) ?_
  refine j_runA hx 1 (tb := [(104, .iload_n 1)]) (jtb_ok (by decide +kernel)) (pc' := 105) (lv' := [(0, vR t), (1, vI a1), (2, vI a2), (4, vI l4), (5, vI l5)]) (st' := [vI a1, vR (jR W 1505 t), vI s0]) rfl ?_
  refine j_gd (fun h28 => ?_)
  refine j_zald hx (f := 1505) (o := t) kd1505 rfl (by decide +kernel) h28 ?_
  refine j_icmp_eq hx (off := 7) (tgt := 113) (by decide +kernel) (by decide) (fun _ => ?_) (fun _ => ?_)
  · refine j_runA hx 1 (tb := [(113, .iconst 0)]) (jtb_ok (by decide +kernel)) (pc' := 114) (lv' := [(0, vR t), (1, vI a1), (2, vI a2), (4, vI l4), (5, vI l5)]) (st' := [vI (kI 0)]) rfl ?_
    exact wwn_word_114 h l4 l5 (kI 0) W
  refine j_runA hx 1 (tb := [(109, .iconst 1)]) (jtb_ok (by decide +kernel)) (pc' := 110) (lv' := [(0, vR t), (1, vI a1), (2, vI a2), (4, vI l4), (5, vI l5)]) (st' := [vI (kI 1)]) rfl ?_
  refine j_goto hx (off := 4) (by decide +kernel) (tgt := 114) (by decide) ?_
  exact wwn_word_114 h l4 l5 (kI 1) W
theorem wwn_word_191 {x : jCx} {en : (Int32 × jW) → Option (Outcome × jW)} {t : Nat} {a1 : Int32} {a2 : Int32} (h : hwn_word x en t a1 a2) (s0 : Int32) (s1 : Int32) (s2 : Nat) (W : jW) : jJ x 7 191 [(0, vR t), (1, vI a1), (2, vI a2)] [vI s0, vI s1, vR s2] W (fwn_word_191 t a1 a2 s0 s1 s2 W) en := by
  have h0 := h
  obtain ⟨hx, hm, hr, he⟩ := h0
  unfold fwn_word_191
  refine j_gd (fun h41 => ?_)
  refine j_WI (j_callV (av := [vI s1, vI s0]) (st := []) hx hr (Or.inl q3181) q3183 qs159 rfl md_fwn_jump np_fwn_jump (cwn_jump s2 s1 s0 W) (by decide) (Nat.le_of_ble_eq_true rfl) h41 (by decide) (by decide +kernel)) (fun q42 _ => ?_)
  exact j_iret hx hm (by decide +kernel) rfl (he _)
theorem wwn_word_188 {x : jCx} {en : (Int32 × jW) → Option (Outcome × jW)} {t : Nat} {a1 : Int32} {a2 : Int32} (h : hwn_word x en t a1 a2) (s0 : Int32) (s1 : Nat) (W : jW) : jJ x 7 188 [(0, vR t), (1, vI a1), (2, vI a2)] [vI s0, vR s1] W (fwn_word_188 t a1 a2 s0 s1 W) en := by
  have h0 := h
  obtain ⟨hx, hm, hr, he⟩ := h0
  unfold fwn_word_188
  refine j_runA hx 3 (tb := [(188, .iload_n 1), (189, .iconst 1), (190, .iadd)]) (jtb_ok (by decide +kernel)) (pc' := 191) (lv' := [(0, vR t), (1, vI a1), (2, vI a2)]) (st' := [vI (a1 + (kI 1)), vI s0, vR s1]) rfl ?_
  exact wwn_word_191 h (a1 + (kI 1)) s0 s1 W
theorem wwn_word_285 {x : jCx} {en : (Int32 × jW) → Option (Outcome × jW)} {t : Nat} {a1 : Int32} {a2 : Int32} (h : hwn_word x en t a1 a2) (l4 : Int32) (l5 : Int32) (W : jW) : jJ x 7 285 [(0, vR t), (1, vI a1), (2, vI a2), (4, vI l4), (5, vI l5)] [] W (fwn_word_285 t a1 a2 l4 l5 W) en := by
  have h0 := h
  obtain ⟨hx, hm, hr, he⟩ := h0
  unfold fwn_word_285
  refine j_runA hx 3 (tb := [(285, .aload_n 0), (286, .iload 5), (288, .aload_n 0)]) (jtb_ok (by decide +kernel)) (pc' := 289) (lv' := [(0, vR t), (1, vI a1), (2, vI a2), (4, vI l4), (5, vI l5)]) (st' := [vR t, vI l5, vR t]) rfl ?_
  refine j_gd (fun h46 => ?_)
  refine j_getR hx flX10_15 kl1503 h46 (by decide) (by decide +kernel) ?_
  refine j_runA hx 1 (tb := [(292, .aload_n 0)]) (jtb_ok (by decide +kernel)) (pc' := 293) (lv' := [(0, vR t), (1, vI a1), (2, vI a2), (4, vI l4), (5, vI l5)]) (st' := [vR t, vR (jR W 1503 t), vI l5, vR t]) rfl ?_
  refine j_getR hx flX10_32 kl1500 h46 (by decide) (by decide +kernel) ?_
  refine j_gd (fun h47 => ?_)
  refine j_getR hx flX10_109 kl1317 h47 (by decide) (by decide +kernel) ?_
  refine j_runA hx 1 (tb := [(299, .aload_n 0)]) (jtb_ok (by decide +kernel)) (pc' := 300) (lv' := [(0, vR t), (1, vI a1), (2, vI a2), (4, vI l4), (5, vI l5)]) (st' := [vR t, vR (jR W 1317 (jR W 1500 t)), vR (jR W 1503 t), vI l5, vR t]) rfl ?_
  refine j_getR hx flX10_32 kl1500 h46 (by decide) (by decide +kernel) ?_
  refine j_runA hx 1 (tb := [(303, .iload_n 1)]) (jtb_ok (by decide +kernel)) (pc' := 304) (lv' := [(0, vR t), (1, vI a1), (2, vI a2), (4, vI l4), (5, vI l5)]) (st' := [vI a1, vR (jR W 1500 t), vR (jR W 1317 (jR W 1500 t)), vR (jR W 1503 t), vI l5, vR t]) rfl ?_
  refine j_OI (j_callV (av := [vI a1]) (st := [vR (jR W 1317 (jR W 1500 t)), vR (jR W 1503 t), vI l5, vR t]) hx hr (Or.inr ⟨_, q3160⟩) q3065 qs147 rfl md_fmo_last np_fmo_last (cmo_last (jR W 1500 t) a1 W) (by decide) (Nat.le_of_ble_eq_true rfl) h47 (by decide) (by decide +kernel)) (fun q48 _ => ?_)
  refine j_runA hx 2 (tb := [(307, .iload 5), (309, .iload 5)]) (jtb_ok (by decide +kernel)) (pc' := 311) (lv' := [(0, vR t), (1, vI a1), (2, vI a2), (4, vI l4), (5, vI l5)]) (st' := [vI l5, vI l5, vI q48, vR (jR W 1317 (jR W 1500 t)), vR (jR W 1503 t), vI l5, vR t]) rfl ?_
  refine j_TI (j_callS (av := [vI l5]) (st := [vI l5, vI q48, vR (jR W 1317 (jR W 1500 t)), vR (jR W 1503 t), vI l5, vR t]) hx hr (Or.inr ⟨_, q3161⟩) q2954 q241 md_fmo_sort np_fmo_sort (cmo_sort l5 W) (by decide) (Nat.le_of_ble_eq_true rfl) (by decide +kernel)) ?_
  refine j_TI (j_callS (av := [vI l5, vI (fmo_sort l5)]) (st := [vI q48, vR (jR W 1317 (jR W 1500 t)), vR (jR W 1503 t), vI l5, vR t]) hx hr (Or.inr ⟨_, q3186⟩) q3032 q241 md_fmo_far np_fmo_far (cmo_far l5 (fmo_sort l5) W) (by decide) (Nat.le_of_ble_eq_true rfl) (by decide +kernel)) ?_
  refine j_runA hx 1 (tb := [(317, .iadd)]) (jtb_ok (by decide +kernel)) (pc' := 318) (lv' := [(0, vR t), (1, vI a1), (2, vI a2), (4, vI l4), (5, vI l5)]) (st' := [vI (q48 + (fmo_far l5 (fmo_sort l5))), vR (jR W 1317 (jR W 1500 t)), vR (jR W 1503 t), vI l5, vR t]) rfl ?_
  refine j_gd (fun h49 => ?_)
  refine j_iald hx (f := 1317) (o := (jR W 1500 t)) kd1317 rfl (by decide +kernel) h49 ?_
  refine j_gd (fun h50 => ?_)
  refine j_iald hx (f := 1503) (o := t) kd1503 rfl (by decide +kernel) h50 ?_
  refine j_runA hx 2 (tb := [(320, .iload 4), (322, .isub)]) (jtb_ok (by decide +kernel)) (pc' := 323) (lv' := [(0, vR t), (1, vI a1), (2, vI a2), (4, vI l4), (5, vI l5)]) (st' := [vI ((jA W 1503 t (ix (jA W 1317 (jR W 1500 t) (ix (q48 + (fmo_far l5 (fmo_sort l5))))))) - l4), vI l5, vR t]) rfl ?_
  refine j_WI (j_callV (av := [vI l5, vI ((jA W 1503 t (ix (jA W 1317 (jR W 1500 t) (ix (q48 + (fmo_far l5 (fmo_sort l5))))))) - l4)]) (st := []) hx hr (Or.inl q3177) q3179 qs158 rfl md_fwn_aimed np_fwn_aimed (cwn_aimed t l5 ((jA W 1503 t (ix (jA W 1317 (jR W 1500 t) (ix (q48 + (fmo_far l5 (fmo_sort l5))))))) - l4) W) (by decide) (Nat.le_of_ble_eq_true rfl) h46 (by decide) (by decide +kernel)) (fun q51 _ => ?_)
  exact j_iret hx hm (by decide +kernel) rfl (he _)
theorem wwn_word {x : jCx} {en : (Int32 × jW) → Option (Outcome × jW)} {t : Nat} {a1 : Int32} {a2 : Int32} (h : hwn_word x en t a1 a2) (W : jW) : jJ x 7 0 [(0, vR t), (1, vI a1), (2, vI a2)] [] W (fwn_word t a1 a2 W) en := by
  have h0 := h
  obtain ⟨hx, hm, hr, he⟩ := h0
  unfold fwn_word
  refine j_runA hx 1 (tb := [(0, .aload_n 0)]) (jtb_ok (by decide +kernel)) (pc' := 1) (lv' := [(0, vR t), (1, vI a1), (2, vI a2)]) (st' := [vR t]) rfl ?_
  refine j_gd (fun h1 => ?_)
  refine j_getR hx flX10_32 kl1500 h1 (by decide) (by decide +kernel) ?_
  refine j_gd (fun h2 => ?_)
  refine j_getR hx flX10_64 kl1323 h2 (by decide) (by decide +kernel) ?_
  refine j_runA hx 1 (tb := [(7, .iload_n 1)]) (jtb_ok (by decide +kernel)) (pc' := 8) (lv' := [(0, vR t), (1, vI a1), (2, vI a2)]) (st' := [vI a1, vR (jR W 1323 (jR W 1500 t))]) rfl ?_
  refine j_gd (fun h3 => ?_)
  refine j_iald hx (f := 1323) (o := (jR W 1500 t)) kd1323 rfl (by decide +kernel) h3 ?_
  refine j_runA hx 1 (tb := [(9, .istore_n 3)]) (jtb_ok (by decide +kernel)) (pc' := 10) (lv' := [(3, vI (jA W 1323 (jR W 1500 t) (ix a1))), (0, vR t), (1, vI a1), (2, vI a2)]) (st' := []) rfl ?_
  refine j_let (v := (jA W 1323 (jR W 1500 t) (ix a1))) (lv := fun v4 => [(3, vI v4), (0, vR t), (1, vI a1), (2, vI a2)]) (st := fun _ => []) (fun v4 => ?_)
  refine j_runA hx 1 (tb := [(10, .aload_n 0)]) (jtb_ok (by decide +kernel)) (pc' := 11) (lv' := [(3, vI v4), (0, vR t), (1, vI a1), (2, vI a2)]) (st' := [vR t]) rfl ?_
  refine j_getR hx flX10_15 kl1503 h1 (by decide) (by decide +kernel) ?_
  refine j_runA hx 1 (tb := [(14, .iload_n 1)]) (jtb_ok (by decide +kernel)) (pc' := 15) (lv' := [(3, vI v4), (0, vR t), (1, vI a1), (2, vI a2)]) (st' := [vI a1, vR (jR W 1503 t)]) rfl ?_
  refine j_gd (fun h5 => ?_)
  refine j_iald hx (f := 1503) (o := t) kd1503 rfl (by decide +kernel) h5 ?_
  refine j_runA hx 3 (tb := [(16, .iload_n 2), (17, .iadd), (18, .istore 4)]) (jtb_ok (by decide +kernel)) (pc' := 20) (lv' := [(4, vI ((jA W 1503 t (ix a1)) + a2)), (3, vI v4), (0, vR t), (1, vI a1), (2, vI a2)]) (st' := []) rfl ?_
  refine j_let (v := ((jA W 1503 t (ix a1)) + a2)) (lv := fun v6 => [(4, vI v6), (3, vI v4), (0, vR t), (1, vI a1), (2, vI a2)]) (st := fun _ => []) (fun v6 => ?_)
  refine j_runA hx 4 (tb := [(20, .iload_n 2), (21, .iload_n 3), (22, .iconst 1), (23, .isub)]) (jtb_ok (by decide +kernel)) (pc' := 24) (lv' := [(4, vI v6), (3, vI v4), (0, vR t), (1, vI a1), (2, vI a2)]) (st' := [vI (v4 - (kI 1)), vI a2]) rfl ?_
  refine j_icmp_ge hx (off := 23) (tgt := 47) (by decide +kernel) (by decide) (fun _ => ?_) (fun _ => ?_)
  · refine j_runA hx 1 (tb := [(47, .aload_n 0)]) (jtb_ok (by decide +kernel)) (pc' := 48) (lv' := [(4, vI v6), (3, vI v4), (0, vR t), (1, vI a1), (2, vI a2)]) (st' := [vR t]) rfl ?_
    refine j_getR hx flX10_32 kl1500 h1 (by decide) (by decide +kernel) ?_
    refine j_getR hx flX10_86 kl1315 h2 (by decide) (by decide +kernel) ?_
    refine j_runA hx 1 (tb := [(54, .aload_n 0)]) (jtb_ok (by decide +kernel)) (pc' := 55) (lv' := [(4, vI v6), (3, vI v4), (0, vR t), (1, vI a1), (2, vI a2)]) (st' := [vR t, vR (jR W 1315 (jR W 1500 t))]) rfl ?_
    refine j_getR hx flX10_32 kl1500 h1 (by decide) (by decide +kernel) ?_
    refine j_runA hx 1 (tb := [(58, .iload_n 1)]) (jtb_ok (by decide +kernel)) (pc' := 59) (lv' := [(4, vI v6), (3, vI v4), (0, vR t), (1, vI a1), (2, vI a2)]) (st' := [vI a1, vR (jR W 1500 t), vR (jR W 1315 (jR W 1500 t))]) rfl ?_
    refine j_OI (j_callV (av := [vI a1]) (st := [vR (jR W 1315 (jR W 1500 t))]) hx hr (Or.inr ⟨_, q3160⟩) q3065 qs147 rfl md_fmo_last np_fmo_last (cmo_last (jR W 1500 t) a1 W) (by decide) (Nat.le_of_ble_eq_true rfl) h2 (by decide) (by decide +kernel)) (fun q7 _ => ?_)
    refine j_gd (fun h8 => ?_)
    refine j_iald hx (f := 1315) (o := (jR W 1500 t)) kd1315 rfl (by decide +kernel) h8 ?_
    refine j_runA hx 1 (tb := [(63, .istore 5)]) (jtb_ok (by decide +kernel)) (pc' := 65) (lv' := [(5, vI (jA W 1315 (jR W 1500 t) (ix q7))), (4, vI v6), (3, vI v4), (0, vR t), (1, vI a1), (2, vI a2)]) (st' := []) rfl ?_
    refine j_let (v := (jA W 1315 (jR W 1500 t) (ix q7))) (lv := fun v9 => [(5, vI v9), (4, vI v6), (3, vI v4), (0, vR t), (1, vI a1), (2, vI a2)]) (st := fun _ => []) (fun v9 => ?_)
    refine j_runA hx 1 (tb := [(65, .aload_n 0)]) (jtb_ok (by decide +kernel)) (pc' := 66) (lv' := [(5, vI v9), (4, vI v6), (3, vI v4), (0, vR t), (1, vI a1), (2, vI a2)]) (st' := [vR t]) rfl ?_
    refine j_getR hx flX10_32 kl1500 h1 (by decide) (by decide +kernel) ?_
    refine j_getR hx flX10_58 kl1325 h2 (by decide) (by decide +kernel) ?_
    refine j_runA hx 1 (tb := [(72, .iload_n 1)]) (jtb_ok (by decide +kernel)) (pc' := 73) (lv' := [(5, vI v9), (4, vI v6), (3, vI v4), (0, vR t), (1, vI a1), (2, vI a2)]) (st' := [vI a1, vR (jR W 1325 (jR W 1500 t))]) rfl ?_
    refine j_gd (fun h10 => ?_)
    refine j_iald hx (f := 1325) (o := (jR W 1500 t)) kd1325 rfl (by decide +kernel) h10 ?_
    refine j_runA hx 1 (tb := [(74, .iconst 3)]) (jtb_ok (by decide +kernel)) (pc' := 75) (lv' := [(5, vI v9), (4, vI v6), (3, vI v4), (0, vR t), (1, vI a1), (2, vI a2)]) (st' := [vI (kI 3), vI (jA W 1325 (jR W 1500 t) (ix a1))]) rfl ?_
    refine j_icmp_ne hx (off := 120) (tgt := 195) (by decide +kernel) (by decide) (fun _ => ?_) (fun _ => ?_)
    · refine j_runA hx 1 (tb := [(195, .aload_n 0)]) (jtb_ok (by decide +kernel)) (pc' := 196) (lv' := [(5, vI v9), (4, vI v6), (3, vI v4), (0, vR t), (1, vI a1), (2, vI a2)]) (st' := [vR t]) rfl ?_
      refine j_getR hx flX10_18 kl1504 h1 (by decide) (by decide +kernel) ?_
      refine j_runA hx 1 (tb := [(199, .iload_n 1)]) (jtb_ok (by decide +kernel)) (pc' := 200) (lv' := [(5, vI v9), (4, vI v6), (3, vI v4), (0, vR t), (1, vI a1), (2, vI a2)]) (st' := [vI a1, vR (jR W 1504 t)]) rfl ?_
      refine j_gd (fun h11 => ?_)
      refine j_bald hx (f := 1504) (o := t) kd1504 rfl (by decide +kernel) h11 ?_
      refine j_runA hx 1 (tb := [(201, .iconst 1)]) (jtb_ok (by decide +kernel)) (pc' := 202) (lv' := [(5, vI v9), (4, vI v6), (3, vI v4), (0, vR t), (1, vI a1), (2, vI a2)]) (st' := [vI (kI 1), vI (jA W 1504 t (ix a1))]) rfl ?_
      refine j_icmp_ne hx (off := 5) (tgt := 207) (by decide +kernel) (by decide) (fun _ => ?_) (fun _ => ?_)
      · refine j_runA hx 2 (tb := [(207, .iload_n 2), (208, .iload_n 3)]) (jtb_ok (by decide +kernel)) (pc' := 209) (lv' := [(5, vI v9), (4, vI v6), (3, vI v4), (0, vR t), (1, vI a1), (2, vI a2)]) (st' := [vI v4, vI a2]) rfl ?_
        refine j_icmp_ne hx (off := 13) (tgt := 222) (by decide +kernel) (by decide) (fun _ => ?_) (fun _ => ?_)
        · refine j_runA hx 1 (tb := [(222, .aload_n 0)]) (jtb_ok (by decide +kernel)) (pc' := 223) (lv' := [(5, vI v9), (4, vI v6), (3, vI v4), (0, vR t), (1, vI a1), (2, vI a2)]) (st' := [vR t]) rfl ?_
          refine j_getR hx flX10_32 kl1500 h1 (by decide) (by decide +kernel) ?_
          refine j_getR hx flX10_58 kl1325 h2 (by decide) (by decide +kernel) ?_
          refine j_runA hx 1 (tb := [(229, .iload_n 1)]) (jtb_ok (by decide +kernel)) (pc' := 230) (lv' := [(5, vI v9), (4, vI v6), (3, vI v4), (0, vR t), (1, vI a1), (2, vI a2)]) (st' := [vI a1, vR (jR W 1325 (jR W 1500 t))]) rfl ?_
          refine j_gd (fun h12 => ?_)
          refine j_iald hx (f := 1325) (o := (jR W 1500 t)) kd1325 rfl (by decide +kernel) h12 ?_
          refine j_runA hx 1 (tb := [(231, .iconst 1)]) (jtb_ok (by decide +kernel)) (pc' := 232) (lv' := [(5, vI v9), (4, vI v6), (3, vI v4), (0, vR t), (1, vI a1), (2, vI a2)]) (st' := [vI (kI 1), vI (jA W 1325 (jR W 1500 t) (ix a1))]) rfl ?_
          refine j_icmp_ne hx (off := 27) (tgt := 259) (by decide +kernel) (by decide) (fun _ => ?_) (fun _ => ?_)
          · refine j_runA hx 1 (tb := [(259, .aload_n 0)]) (jtb_ok (by decide +kernel)) (pc' := 260) (lv' := [(5, vI v9), (4, vI v6), (3, vI v4), (0, vR t), (1, vI a1), (2, vI a2)]) (st' := [vR t]) rfl ?_
            refine j_getR hx flX10_32 kl1500 h1 (by decide) (by decide +kernel) ?_
            refine j_getR hx flX10_58 kl1325 h2 (by decide) (by decide +kernel) ?_
            refine j_runA hx 1 (tb := [(266, .iload_n 1)]) (jtb_ok (by decide +kernel)) (pc' := 267) (lv' := [(5, vI v9), (4, vI v6), (3, vI v4), (0, vR t), (1, vI a1), (2, vI a2)]) (st' := [vI a1, vR (jR W 1325 (jR W 1500 t))]) rfl ?_
            refine j_gd (fun h13 => ?_)
            refine j_iald hx (f := 1325) (o := (jR W 1500 t)) kd1325 rfl (by decide +kernel) h13 ?_
            refine j_runA hx 1 (tb := [(268, .iconst 2)]) (jtb_ok (by decide +kernel)) (pc' := 269) (lv' := [(5, vI v9), (4, vI v6), (3, vI v4), (0, vR t), (1, vI a1), (2, vI a2)]) (st' := [vI (kI 2), vI (jA W 1325 (jR W 1500 t) (ix a1))]) rfl ?_
            refine j_icmp_eq hx (off := 16) (tgt := 285) (by decide +kernel) (by decide) (fun _ => ?_) (fun _ => ?_)
            · refine j_lv (lv' := [(0, vR t), (1, vI a1), (2, vI a2), (4, vI v6), (5, vI v9)]) ⟨rfl, rfl, rfl, rfl, rfl, trivial⟩ ?_
              exact wwn_word_285 h v6 v9 W
            refine j_runA hx 1 (tb := [(272, .aload_n 0)]) (jtb_ok (by decide +kernel)) (pc' := 273) (lv' := [(5, vI v9), (4, vI v6), (3, vI v4), (0, vR t), (1, vI a1), (2, vI a2)]) (st' := [vR t]) rfl ?_
            refine j_getR hx flX10_32 kl1500 h1 (by decide) (by decide +kernel) ?_
            refine j_getR hx flX10_58 kl1325 h2 (by decide) (by decide +kernel) ?_
            refine j_runA hx 1 (tb := [(279, .iload_n 1)]) (jtb_ok (by decide +kernel)) (pc' := 280) (lv' := [(5, vI v9), (4, vI v6), (3, vI v4), (0, vR t), (1, vI a1), (2, vI a2)]) (st' := [vI a1, vR (jR W 1325 (jR W 1500 t))]) rfl ?_
            refine j_gd (fun h14 => ?_)
            refine j_iald hx (f := 1325) (o := (jR W 1500 t)) kd1325 rfl (by decide +kernel) h14 ?_
            refine j_runA hx 1 (tb := [(281, .iconst 4)]) (jtb_ok (by decide +kernel)) (pc' := 282) (lv' := [(5, vI v9), (4, vI v6), (3, vI v4), (0, vR t), (1, vI a1), (2, vI a2)]) (st' := [vI (kI 4), vI (jA W 1325 (jR W 1500 t) (ix a1))]) rfl ?_
            refine j_icmp_ne hx (off := 45) (tgt := 327) (by decide +kernel) (by decide) (fun _ => ?_) (fun _ => ?_)
            · refine j_runA hx 1 (tb := [(327, .iload 5)]) (jtb_ok (by decide +kernel)) (pc' := 329) (lv' := [(5, vI v9), (4, vI v6), (3, vI v4), (0, vR t), (1, vI a1), (2, vI a2)]) (st' := [vI v9]) rfl ?_
              exact j_iret hx hm (by decide +kernel) rfl (he _)
            refine j_lv (lv' := [(0, vR t), (1, vI a1), (2, vI a2), (4, vI v6), (5, vI v9)]) ⟨rfl, rfl, rfl, rfl, rfl, trivial⟩ ?_
            exact wwn_word_285 h v6 v9 W
          refine j_runA hx 3 (tb := [(235, .aload_n 0), (236, .iload 5), (238, .aload_n 0)]) (jtb_ok (by decide +kernel)) (pc' := 239) (lv' := [(5, vI v9), (4, vI v6), (3, vI v4), (0, vR t), (1, vI a1), (2, vI a2)]) (st' := [vR t, vI v9, vR t]) rfl ?_
          refine j_getR hx flX10_15 kl1503 h1 (by decide) (by decide +kernel) ?_
          refine j_runA hx 1 (tb := [(242, .aload_n 0)]) (jtb_ok (by decide +kernel)) (pc' := 243) (lv' := [(5, vI v9), (4, vI v6), (3, vI v4), (0, vR t), (1, vI a1), (2, vI a2)]) (st' := [vR t, vR (jR W 1503 t), vI v9, vR t]) rfl ?_
          refine j_getR hx flX10_32 kl1500 h1 (by decide) (by decide +kernel) ?_
          refine j_getR hx flX10_61 kl1326 h2 (by decide) (by decide +kernel) ?_
          refine j_runA hx 1 (tb := [(249, .iload_n 1)]) (jtb_ok (by decide +kernel)) (pc' := 250) (lv' := [(5, vI v9), (4, vI v6), (3, vI v4), (0, vR t), (1, vI a1), (2, vI a2)]) (st' := [vI a1, vR (jR W 1326 (jR W 1500 t)), vR (jR W 1503 t), vI v9, vR t]) rfl ?_
          refine j_gd (fun h15 => ?_)
          refine j_iald hx (f := 1326) (o := (jR W 1500 t)) kd1326 rfl (by decide +kernel) h15 ?_
          refine j_gd (fun h16 => ?_)
          refine j_iald hx (f := 1503) (o := t) kd1503 rfl (by decide +kernel) h16 ?_
          refine j_runA hx 2 (tb := [(252, .iload 4), (254, .isub)]) (jtb_ok (by decide +kernel)) (pc' := 255) (lv' := [(5, vI v9), (4, vI v6), (3, vI v4), (0, vR t), (1, vI a1), (2, vI a2)]) (st' := [vI ((jA W 1503 t (ix (jA W 1326 (jR W 1500 t) (ix a1)))) - v6), vI v9, vR t]) rfl ?_
          refine j_WI (j_callV (av := [vI v9, vI ((jA W 1503 t (ix (jA W 1326 (jR W 1500 t) (ix a1)))) - v6)]) (st := []) hx hr (Or.inl q3177) q3179 qs158 rfl md_fwn_aimed np_fwn_aimed (cwn_aimed t v9 ((jA W 1503 t (ix (jA W 1326 (jR W 1500 t) (ix a1)))) - v6) W) (by decide) (Nat.le_of_ble_eq_true rfl) h1 (by decide) (by decide +kernel)) (fun q17 _ => ?_)
          exact j_iret hx hm (by decide +kernel) rfl (he _)
        refine j_runA hx 5 (tb := [(212, .aload_n 0), (213, .iload 4), (215, .iload_n 1), (216, .iconst 1), (217, .iadd)]) (jtb_ok (by decide +kernel)) (pc' := 218) (lv' := [(5, vI v9), (4, vI v6), (3, vI v4), (0, vR t), (1, vI a1), (2, vI a2)]) (st' := [vI (a1 + (kI 1)), vI v6, vR t]) rfl ?_
        refine j_WI (j_callV (av := [vI v6, vI (a1 + (kI 1))]) (st := []) hx hr (Or.inl q3181) q3183 qs159 rfl md_fwn_jump np_fwn_jump (cwn_jump t v6 (a1 + (kI 1)) W) (by decide) (Nat.le_of_ble_eq_true rfl) h1 (by decide) (by decide +kernel)) (fun q19 _ => ?_)
        exact j_iret hx hm (by decide +kernel) rfl (he _)
      refine j_runA hx 1 (tb := [(205, .iconst 0)]) (jtb_ok (by decide +kernel)) (pc' := 206) (lv' := [(5, vI v9), (4, vI v6), (3, vI v4), (0, vR t), (1, vI a1), (2, vI a2)]) (st' := [vI (kI 0)]) rfl ?_
      exact j_iret hx hm (by decide +kernel) rfl (he _)
    refine j_runA hx 4 (tb := [(78, .iload_n 2), (79, .iload_n 3), (80, .iconst 1), (81, .isub)]) (jtb_ok (by decide +kernel)) (pc' := 82) (lv' := [(5, vI v9), (4, vI v6), (3, vI v4), (0, vR t), (1, vI a1), (2, vI a2)]) (st' := [vI (v4 - (kI 1)), vI a2]) rfl ?_
    refine j_icmp_ne hx (off := 81) (tgt := 163) (by decide +kernel) (by decide) (fun _ => ?_) (fun _ => ?_)
    · refine j_runA hx 3 (tb := [(163, .aload_n 0), (164, .iload 4), (166, .aload_n 0)]) (jtb_ok (by decide +kernel)) (pc' := 167) (lv' := [(5, vI v9), (4, vI v6), (3, vI v4), (0, vR t), (1, vI a1), (2, vI a2)]) (st' := [vR t, vI v6, vR t]) rfl ?_
      refine j_getR hx flX10_22 kl1505 h1 (by decide) (by decide +kernel) ?_
      refine j_runA hx 1 (tb := [(170, .iload_n 1)]) (jtb_ok (by decide +kernel)) (pc' := 171) (lv' := [(5, vI v9), (4, vI v6), (3, vI v4), (0, vR t), (1, vI a1), (2, vI a2)]) (st' := [vI a1, vR (jR W 1505 t), vI v6, vR t]) rfl ?_
      refine j_gd (fun h21 => ?_)
      refine j_zald hx (f := 1505) (o := t) kd1505 rfl (by decide +kernel) h21 ?_
      refine j_if_eq hx (off := 16) (tgt := 188) (by decide +kernel) (by decide) (fun _ => ?_) (fun _ => ?_)
      · refine j_lv (lv' := [(0, vR t), (1, vI a1), (2, vI a2)]) ⟨rfl, rfl, rfl, trivial⟩ ?_
        exact wwn_word_188 h v6 t W
      refine j_runA hx 2 (tb := [(175, .iload_n 2), (176, .iload_n 3)]) (jtb_ok (by decide +kernel)) (pc' := 177) (lv' := [(5, vI v9), (4, vI v6), (3, vI v4), (0, vR t), (1, vI a1), (2, vI a2)]) (st' := [vI v4, vI a2, vI v6, vR t]) rfl ?_
      refine j_icmp_ne hx (off := 11) (tgt := 188) (by decide +kernel) (by decide) (fun _ => ?_) (fun _ => ?_)
      · refine j_lv (lv' := [(0, vR t), (1, vI a1), (2, vI a2)]) ⟨rfl, rfl, rfl, trivial⟩ ?_
        exact wwn_word_188 h v6 t W
      refine j_runA hx 2 (tb := [(180, .aload_n 0), (181, .iload_n 1)]) (jtb_ok (by decide +kernel)) (pc' := 182) (lv' := [(5, vI v9), (4, vI v6), (3, vI v4), (0, vR t), (1, vI a1), (2, vI a2)]) (st' := [vI a1, vR t, vI v6, vR t]) rfl ?_
      refine j_OI (j_callV (av := [vI a1]) (st := [vI v6, vR t]) hx hr (Or.inl q3156) q3157 q3158 rfl md_fwn_goal np_fwn_goal (cwn_goal t a1 W) (by decide) (Nat.le_of_ble_eq_true rfl) h1 (by decide) (by decide +kernel)) (fun q22 _ => ?_)
      refine j_goto hx (off := 6) (by decide +kernel) (tgt := 191) (by decide) ?_
      refine j_lv (lv' := [(0, vR t), (1, vI a1), (2, vI a2)]) ⟨rfl, rfl, rfl, trivial⟩ ?_
      exact wwn_word_191 h q22 v6 t W
    refine j_runA hx 1 (tb := [(85, .aload_n 0)]) (jtb_ok (by decide +kernel)) (pc' := 86) (lv' := [(5, vI v9), (4, vI v6), (3, vI v4), (0, vR t), (1, vI a1), (2, vI a2)]) (st' := [vR t]) rfl ?_
    refine j_getR hx flX10_18 kl1504 h1 (by decide) (by decide +kernel) ?_
    refine j_runA hx 1 (tb := [(89, .iload_n 1)]) (jtb_ok (by decide +kernel)) (pc' := 90) (lv' := [(5, vI v9), (4, vI v6), (3, vI v4), (0, vR t), (1, vI a1), (2, vI a2)]) (st' := [vI a1, vR (jR W 1504 t)]) rfl ?_
    refine j_gd (fun h23 => ?_)
    refine j_bald hx (f := 1504) (o := t) kd1504 rfl (by decide +kernel) h23 ?_
    refine j_runA hx 1 (tb := [(91, .iconst 2)]) (jtb_ok (by decide +kernel)) (pc' := 92) (lv' := [(5, vI v9), (4, vI v6), (3, vI v4), (0, vR t), (1, vI a1), (2, vI a2)]) (st' := [vI (kI 2), vI (jA W 1504 t (ix a1))]) rfl ?_
    refine j_icmp_ne hx (off := 7) (tgt := 99) (by decide +kernel) (by decide) (fun _ => ?_) (fun _ => ?_)
    · refine j_runA hx 1 (tb := [(99, .iconst 0)]) (jtb_ok (by decide +kernel)) (pc' := 100) (lv' := [(5, vI v9), (4, vI v6), (3, vI v4), (0, vR t), (1, vI a1), (2, vI a2)]) (st' := [vI (kI 0)]) rfl ?_
      refine j_lv (lv' := [(0, vR t), (1, vI a1), (2, vI a2), (4, vI v6), (5, vI v9)]) ⟨rfl, rfl, rfl, rfl, rfl, trivial⟩ ?_
      exact wwn_word_100 h v6 v9 (kI 0) W
    refine j_runA hx 1 (tb := [(95, .iconst 1)]) (jtb_ok (by decide +kernel)) (pc' := 96) (lv' := [(5, vI v9), (4, vI v6), (3, vI v4), (0, vR t), (1, vI a1), (2, vI a2)]) (st' := [vI (kI 1)]) rfl ?_
    refine j_goto hx (off := 4) (by decide +kernel) (tgt := 100) (by decide) ?_
    refine j_lv (lv' := [(0, vR t), (1, vI a1), (2, vI a2), (4, vI v6), (5, vI v9)]) ⟨rfl, rfl, rfl, rfl, rfl, trivial⟩ ?_
    exact wwn_word_100 h v6 v9 (kI 1) W
  refine j_runA hx 1 (tb := [(27, .aload_n 0)]) (jtb_ok (by decide +kernel)) (pc' := 28) (lv' := [(4, vI v6), (3, vI v4), (0, vR t), (1, vI a1), (2, vI a2)]) (st' := [vR t]) rfl ?_
  refine j_getR hx flX10_32 kl1500 h1 (by decide) (by decide +kernel) ?_
  refine j_getR hx flX10_86 kl1315 h2 (by decide) (by decide +kernel) ?_
  refine j_runA hx 1 (tb := [(34, .aload_n 0)]) (jtb_ok (by decide +kernel)) (pc' := 35) (lv' := [(4, vI v6), (3, vI v4), (0, vR t), (1, vI a1), (2, vI a2)]) (st' := [vR t, vR (jR W 1315 (jR W 1500 t))]) rfl ?_
  refine j_getR hx flX10_32 kl1500 h1 (by decide) (by decide +kernel) ?_
  refine j_getR hx flX10_96 kl1322 h2 (by decide) (by decide +kernel) ?_
  refine j_runA hx 1 (tb := [(41, .iload_n 1)]) (jtb_ok (by decide +kernel)) (pc' := 42) (lv' := [(4, vI v6), (3, vI v4), (0, vR t), (1, vI a1), (2, vI a2)]) (st' := [vI a1, vR (jR W 1322 (jR W 1500 t)), vR (jR W 1315 (jR W 1500 t))]) rfl ?_
  refine j_gd (fun h24 => ?_)
  refine j_iald hx (f := 1322) (o := (jR W 1500 t)) kd1322 rfl (by decide +kernel) h24 ?_
  refine j_runA hx 2 (tb := [(43, .iload_n 2), (44, .iadd)]) (jtb_ok (by decide +kernel)) (pc' := 45) (lv' := [(4, vI v6), (3, vI v4), (0, vR t), (1, vI a1), (2, vI a2)]) (st' := [vI ((jA W 1322 (jR W 1500 t) (ix a1)) + a2), vR (jR W 1315 (jR W 1500 t))]) rfl ?_
  refine j_gd (fun h25 => ?_)
  refine j_iald hx (f := 1315) (o := (jR W 1500 t)) kd1315 rfl (by decide +kernel) h25 ?_
  exact j_iret hx hm (by decide +kernel) rfl (he _)
theorem cwn_word (t : Nat) (a1 : Int32) (a2 : Int32) (W : jW) : jM yX10_word cX10_word 7 (Option.some Jvm.ClassFile.FieldType.int) [] 5 75 [vR t, vI a1, vI a2] W ((fwn_word t a1 a2 W).bind (fun q => some (.returned (some (.int q.1)), q.2))) := 
  jM.of (Nat.le_of_ble_eq_true rfl) (fun x hx hm hr => wwn_word ⟨hx, hm, hr, fun _ => rfl⟩ W)
def hhd_num (x : jCx) (en : (fhd_num_S ⊕ (Int64)) → Option (Outcome × jW)) (t : Nat) (a1 : Int64) (a3 : Int32) (W : jW) : Prop :=
  jOK x RX9 cX9_num 7 ∧
  jMt x "num" (Option.some Jvm.ClassFile.FieldType.long) [] ∧
  jRm x 0 0 ∧
  (∀ q : Int64, en (.inr q) = some (.returned (some (.long q)), W)) ∧
  (∀ (l4 : Int64) (l6 : Int32), jJ x 7 8 [(0, vR t), (1, vL a1), (3, vI a3), (4, vL l4), (6, vI l6)] [] W (some (.inl (l4, l6))) en)
theorem whd_num_8 {x : jCx} {en : (fhd_num_S ⊕ (Int64)) → Option (Outcome × jW)} {W : jW} {t : Nat} {a1 : Int64} {a3 : Int32} (h : hhd_num x en t a1 a3 W) (l4 : Int64) (l6 : Int32) : jJ x 7 8 [(0, vR t), (1, vL a1), (3, vI a3), (4, vL l4), (6, vI l6)] [] W (fhd_num_8 t a1 a3 l4 l6 W) en := by
  have h0 := h
  obtain ⟨hx, hm, hr, he, k8⟩ := h0
  unfold fhd_num_8
  refine j_runA hx 1 (tb := [(8, .iload 6)]) (jtb_ok (by decide +kernel)) (pc' := 10) (lv' := [(0, vR t), (1, vL a1), (3, vI a3), (4, vL l4), (6, vI l6)]) (st' := [vI l6]) rfl ?_
  refine j_if_lt hx (off := 32) (tgt := 42) (by decide +kernel) (by decide) (fun _ => ?_) (fun _ => ?_)
  · refine j_runA hx 1 (tb := [(42, .lload 4)]) (jtb_ok (by decide +kernel)) (pc' := 44) (lv' := [(0, vR t), (1, vL a1), (3, vI a3), (4, vL l4), (6, vI l6)]) (st' := [vL l4]) rfl ?_
    exact j_lret hx hm (by decide +kernel) (he _)
  refine j_runA hx 4 (tb := [(13, .lload 4), (15, .bipush 8), (17, .lshl), (18, .aload_n 0)]) (jtb_ok (by decide +kernel)) (pc' := 19) (lv' := [(0, vR t), (1, vL a1), (3, vI a3), (4, vL l4), (6, vI l6)]) (st' := [vR t, vL (lxl l4 (kI 8))]) rfl ?_
  refine j_gd (fun h3 => ?_)
  refine j_getR hx flX9_38 kl1400 h3 (by decide) (by decide +kernel) ?_
  refine j_runA hx 4 (tb := [(22, .lload_n 1), (23, .l2i), (24, .iload 6), (26, .iadd)]) (jtb_ok (by decide +kernel)) (pc' := 27) (lv' := [(0, vR t), (1, vL a1), (3, vI a3), (4, vL l4), (6, vI l6)]) (st' := [vI (a1.toInt32 + l6), vR (jR W 1400 t), vL (lxl l4 (kI 8))]) rfl ?_
  refine j_gd (fun h4 => ?_)
  refine j_gd (fun h5 => ?_)
  refine j_bald hx (f := 9004) (o := (jR W 1400 t)) kd9004 h4 (by decide +kernel) h5 ?_
  refine j_runA hx 5 (tb := [(28, .sipush 255), (31, .iand), (32, .i2l), (33, .lor), (34, .lstore 4)]) (jtb_ok (by decide +kernel)) (pc' := 36) (lv' := [(4, vL ((lxl l4 (kI 8)) ||| (((jA W 9004 (jR W 1400 t) (ix (a1.toInt32 + l6))) &&& (kI 255)).toInt64))), (0, vR t), (1, vL a1), (3, vI a3), (6, vI l6)]) (st' := []) rfl ?_
  refine j_let (v := ((lxl l4 (kI 8)) ||| (((jA W 9004 (jR W 1400 t) (ix (a1.toInt32 + l6))) &&& (kI 255)).toInt64))) (lv := fun v6 => [(4, vL v6), (0, vR t), (1, vL a1), (3, vI a3), (6, vI l6)]) (st := fun _ => []) (fun v6 => ?_)
  refine j_runA hx 1 (tb := [(36, .iinc 6 (-1))]) (jtb_ok (by decide +kernel)) (pc' := 39) (lv' := [(6, vI (l6 + (kI (-1)))), (4, vL v6), (0, vR t), (1, vL a1), (3, vI a3)]) (st' := []) rfl ?_
  refine j_let (v := (l6 + (kI (-1)))) (lv := fun v7 => [(6, vI v7), (4, vL v6), (0, vR t), (1, vL a1), (3, vI a3)]) (st := fun _ => []) (fun v7 => ?_)
  refine j_goto hx (off := -31) (by decide +kernel) (tgt := 8) (by decide) ?_
  refine j_lv (lv' := [(0, vR t), (1, vL a1), (3, vI a3), (4, vL v6), (6, vI v7)]) ⟨rfl, rfl, rfl, rfl, rfl, trivial⟩ ?_
  exact k8 v6 v7
theorem whd_num {x : jCx} {en : (fhd_num_S ⊕ (Int64)) → Option (Outcome × jW)} {W : jW} {t : Nat} {a1 : Int64} {a3 : Int32} (h : hhd_num x en t a1 a3 W) : jJ x 7 0 [(0, vR t), (1, vL a1), (3, vI a3)] [] W (fhd_num_0 t a1 a3 W) en := by
  have h0 := h
  obtain ⟨hx, hm, hr, he, k8⟩ := h0
  unfold fhd_num_0
  refine j_runA hx 6 (tb := [(0, .lconst 0), (1, .lstore 4), (3, .iload_n 3), (4, .iconst 1), (5, .isub), (6, .istore 6)]) (jtb_ok (by decide +kernel)) (pc' := 8) (lv' := [(6, vI (a3 - (kI 1))), (4, vL (kJ 0)), (0, vR t), (1, vL a1), (3, vI a3)]) (st' := []) rfl ?_
  refine j_let (v := (a3 - (kI 1))) (lv := fun v1 => [(6, vI v1), (4, vL (kJ 0)), (0, vR t), (1, vL a1), (3, vI a3)]) (st := fun _ => []) (fun v1 => ?_)
  refine j_lv (lv' := [(0, vR t), (1, vL a1), (3, vI a3), (4, vL (kJ 0)), (6, vI v1)]) ⟨rfl, rfl, rfl, rfl, rfl, trivial⟩ ?_
  exact k8 (kJ 0) v1
theorem chd_num (t : Nat) (a1 : Int64) (a3 : Int32) (W : jW) : jM yX9_num cX9_num 7 (Option.some Jvm.ClassFile.FieldType.long) [] 0 0 [vR t, vL a1, vI a3] W ((fhd_num t a1 a3 W).bind (fun q => some (.returned (some (.long q)), W))) := by
  refine jM.of (Nat.le_of_ble_eq_true rfl) (fun x hx hm hr => ?_)
  refine j_begin (P := (fun s => (8, [(0, vR t), (1, vL a1), (3, vI a3), (4, vL s.1), (6, vI s.2)], W))) (fun en he hk => ?_)
  have h : hhd_num x en t a1 a3 W := ⟨hx, hm, hr, fun q => he _, fun l4 l6 => hk (l4, l6)⟩
  exact ⟨fun s => whd_num_8 h s.1 s.2, whd_num h⟩
def hmo_fixType (x : jCx) (en : (Int32) → Option (Outcome × jW)) (t : Nat) (a1 : Int64) (W : jW) : Prop :=
  jOK x RX8 cX8_fixType 3 ∧
  jMt x "fixType" (Option.some Jvm.ClassFile.FieldType.int) [] ∧
  jRm x 1 18 ∧
  (∀ q : Int32, en q = some (.returned (some (.int q)), W))
theorem wmo_fixType {x : jCx} {en : (Int32) → Option (Outcome × jW)} {W : jW} {t : Nat} {a1 : Int64} (h : hmo_fixType x en t a1 W) : jJ x 3 0 [(0, vR t), (1, vL a1)] [] W (fmo_fixType t a1 W) en := by
  have h0 := h
  obtain ⟨hx, hm, hr, he⟩ := h0
  unfold fmo_fixType
  refine j_runA hx 1 (tb := [(0, .aload_n 0)]) (jtb_ok (by decide +kernel)) (pc' := 1) (lv' := [(0, vR t), (1, vL a1)]) (st' := [vR t]) rfl ?_
  refine j_gd (fun h1 => ?_)
  refine j_getR hx flX8_23 kl1305 h1 (by decide) (by decide +kernel) ?_
  refine j_runA hx 1 (tb := [(4, .lload_n 1)]) (jtb_ok (by decide +kernel)) (pc' := 5) (lv' := [(0, vR t), (1, vL a1)]) (st' := [vL a1, vR (jR W 1305 t)]) rfl ?_
  refine j_ldc2 hx (v := (kJ 8)) (jkd2 q2948 (by decide +kernel)) (by decide +kernel) ?_
  refine j_runA hx 2 (tb := [(8, .ladd), (9, .iconst 4)]) (jtb_ok (by decide +kernel)) (pc' := 10) (lv' := [(0, vR t), (1, vL a1)]) (st' := [vI (kI 4), vL (a1 + (kJ 8)), vR (jR W 1305 t)]) rfl ?_
  refine j_gd (fun h2 => ?_)
  refine j_OL (j_callV (av := [vL (a1 + (kJ 8)), vI (kI 4)]) (st := []) hx hr (Or.inl q2932) q2823 q2824 rfl md_fhd_num np_fhd_num (chd_num (jR W 1305 t) (a1 + (kJ 8)) (kI 4) W) (by decide) (Nat.le_of_ble_eq_true rfl) h2 (by decide) (by decide +kernel)) (fun q3 _ => ?_)
  refine j_runA hx 1 (tb := [(13, .l2i)]) (jtb_ok (by decide +kernel)) (pc' := 14) (lv' := [(0, vR t), (1, vL a1)]) (st' := [vI q3.toInt32]) rfl ?_
  exact j_iret hx hm (by decide +kernel) rfl (he _)
theorem cmo_fixType (t : Nat) (a1 : Int64) (W : jW) : jM yX8_fixType cX8_fixType 3 (Option.some Jvm.ClassFile.FieldType.int) [] 1 18 [vR t, vL a1] W ((fmo_fixType t a1 W).bind (fun q => some (.returned (some (.int q)), W))) := 
  jM.of (Nat.le_of_ble_eq_true rfl) (fun x hx hm hr => wmo_fixType ⟨hx, hm, hr, fun _ => rfl⟩)
def hhd_symbol (x : jCx) (en : (Int64) → Option (Outcome × jW)) (t : Nat) (a1 : Int32) (W : jW) : Prop :=
  jOK x RX9 cX9_symbol 2 ∧
  jMt x "symbol" (Option.some Jvm.ClassFile.FieldType.long) [] ∧
  jRm x 0 0 ∧
  (∀ q : Int64, en q = some (.returned (some (.long q)), W))
theorem whd_symbol {x : jCx} {en : (Int64) → Option (Outcome × jW)} {W : jW} {t : Nat} {a1 : Int32} (h : hhd_symbol x en t a1 W) : jJ x 2 0 [(0, vR t), (1, vI a1)] [] W (fhd_symbol t a1 W) en := by
  have h0 := h
  obtain ⟨hx, hm, hr, he⟩ := h0
  unfold fhd_symbol
  refine j_runA hx 1 (tb := [(0, .aload_n 0)]) (jtb_ok (by decide +kernel)) (pc' := 1) (lv' := [(0, vR t), (1, vI a1)]) (st' := [vR t]) rfl ?_
  refine j_gd (fun h1 => ?_)
  refine j_getR hx flX9_29 kl1412 h1 (by decide) (by decide +kernel) ?_
  refine j_runA hx 1 (tb := [(4, .aload_n 0)]) (jtb_ok (by decide +kernel)) (pc' := 5) (lv' := [(0, vR t), (1, vI a1)]) (st' := [vR t, vR (jR W 1412 t)]) rfl ?_
  refine j_getI hx flX9_160 kd1416 h1 (by decide) (by decide +kernel) ?_
  refine j_gd (fun h2 => ?_)
  refine j_lald hx (f := 1412) (o := t) kd1412 rfl (by decide +kernel) h2 ?_
  refine j_ldc2 hx (v := (kJ 24)) (jkd2 q2876 (by decide +kernel)) (by decide +kernel) ?_
  refine j_runA hx 4 (tb := [(12, .iload_n 1), (13, .i2l), (14, .lmul), (15, .ladd)]) (jtb_ok (by decide +kernel)) (pc' := 16) (lv' := [(0, vR t), (1, vI a1)]) (st' := [vL ((jB W 1412 t (ix (jI W 1416 t))) + ((kJ 24) * a1.toInt64))]) rfl ?_
  exact j_lret hx hm (by decide +kernel) (he _)
theorem chd_symbol (t : Nat) (a1 : Int32) (W : jW) : jM yX9_symbol cX9_symbol 2 (Option.some Jvm.ClassFile.FieldType.long) [] 0 0 [vR t, vI a1] W ((fhd_symbol t a1 W).bind (fun q => some (.returned (some (.long q)), W))) := 
  jM.of (Nat.le_of_ble_eq_true rfl) (fun x hx hm hr => whd_symbol ⟨hx, hm, hr, fun _ => rfl⟩)
def hmo_target (x : jCx) (en : (Int64) → Option (Outcome × jW)) (t : Nat) (a1 : Int64) (W : jW) : Prop :=
  jOK x RX8 cX8_target 3 ∧
  jMt x "target" (Option.some Jvm.ClassFile.FieldType.long) [] ∧
  jRm x 1 20 ∧
  (∀ q : Int64, en q = some (.returned (some (.long q)), W))
theorem wmo_target {x : jCx} {en : (Int64) → Option (Outcome × jW)} {W : jW} {t : Nat} {a1 : Int64} (h : hmo_target x en t a1 W) : jJ x 3 0 [(0, vR t), (1, vL a1)] [] W (fmo_target t a1 W) en := by
  have h0 := h
  obtain ⟨hx, hm, hr, he⟩ := h0
  unfold fmo_target
  refine j_runA hx 1 (tb := [(0, .aload_n 0)]) (jtb_ok (by decide +kernel)) (pc' := 1) (lv' := [(0, vR t), (1, vL a1)]) (st' := [vR t]) rfl ?_
  refine j_gd (fun h1 => ?_)
  refine j_getR hx flX8_23 kl1305 h1 (by decide) (by decide +kernel) ?_
  refine j_runA hx 1 (tb := [(4, .aload_n 0)]) (jtb_ok (by decide +kernel)) (pc' := 5) (lv' := [(0, vR t), (1, vL a1)]) (st' := [vR t, vR (jR W 1305 t)]) rfl ?_
  refine j_getR hx flX8_23 kl1305 h1 (by decide) (by decide +kernel) ?_
  refine j_runA hx 1 (tb := [(8, .aload_n 0)]) (jtb_ok (by decide +kernel)) (pc' := 9) (lv' := [(0, vR t), (1, vL a1)]) (st' := [vR t, vR (jR W 1305 t), vR (jR W 1305 t)]) rfl ?_
  refine j_getR hx flX8_23 kl1305 h1 (by decide) (by decide +kernel) ?_
  refine j_runA hx 1 (tb := [(12, .lload_n 1)]) (jtb_ok (by decide +kernel)) (pc' := 13) (lv' := [(0, vR t), (1, vL a1)]) (st' := [vL a1, vR (jR W 1305 t), vR (jR W 1305 t), vR (jR W 1305 t)]) rfl ?_
  refine j_ldc2 hx (v := (kJ 12)) (jkd2 q3018 (by decide +kernel)) (by decide +kernel) ?_
  refine j_runA hx 2 (tb := [(16, .ladd), (17, .iconst 4)]) (jtb_ok (by decide +kernel)) (pc' := 18) (lv' := [(0, vR t), (1, vL a1)]) (st' := [vI (kI 4), vL (a1 + (kJ 12)), vR (jR W 1305 t), vR (jR W 1305 t), vR (jR W 1305 t)]) rfl ?_
  refine j_gd (fun h2 => ?_)
  refine j_OL (j_callV (av := [vL (a1 + (kJ 12)), vI (kI 4)]) (st := [vR (jR W 1305 t), vR (jR W 1305 t)]) hx hr (Or.inl q2932) q2823 q2824 rfl md_fhd_num np_fhd_num (chd_num (jR W 1305 t) (a1 + (kJ 12)) (kI 4) W) (by decide) (Nat.le_of_ble_eq_true rfl) h2 (by decide) (by decide +kernel)) (fun q3 _ => ?_)
  refine j_runA hx 1 (tb := [(21, .l2i)]) (jtb_ok (by decide +kernel)) (pc' := 22) (lv' := [(0, vR t), (1, vL a1)]) (st' := [vI q3.toInt32, vR (jR W 1305 t), vR (jR W 1305 t)]) rfl ?_
  refine j_OL (j_callV (av := [vI q3.toInt32]) (st := [vR (jR W 1305 t)]) hx hr (Or.inl q2946) q2898 q2899 rfl md_fhd_symbol np_fhd_symbol (chd_symbol (jR W 1305 t) q3.toInt32 W) (by decide) (Nat.le_of_ble_eq_true rfl) h2 (by decide) (by decide +kernel)) (fun q4 _ => ?_)
  refine j_ldc2 hx (v := (kJ 8)) (jkd2 q2948 (by decide +kernel)) (by decide +kernel) ?_
  refine j_runA hx 2 (tb := [(28, .ladd), (29, .bipush 8)]) (jtb_ok (by decide +kernel)) (pc' := 31) (lv' := [(0, vR t), (1, vL a1)]) (st' := [vI (kI 8), vL (q4 + (kJ 8)), vR (jR W 1305 t)]) rfl ?_
  refine j_OL (j_callV (av := [vL (q4 + (kJ 8)), vI (kI 8)]) (st := []) hx hr (Or.inl q2932) q2823 q2824 rfl md_fhd_num np_fhd_num (chd_num (jR W 1305 t) (q4 + (kJ 8)) (kI 8) W) (by decide) (Nat.le_of_ble_eq_true rfl) h2 (by decide) (by decide +kernel)) (fun q5 _ => ?_)
  refine j_runA hx 1 (tb := [(34, .aload_n 0)]) (jtb_ok (by decide +kernel)) (pc' := 35) (lv' := [(0, vR t), (1, vL a1)]) (st' := [vR t, vL q5]) rfl ?_
  refine j_getR hx flX8_23 kl1305 h1 (by decide) (by decide +kernel) ?_
  refine j_runA hx 1 (tb := [(38, .lload_n 1)]) (jtb_ok (by decide +kernel)) (pc' := 39) (lv' := [(0, vR t), (1, vL a1)]) (st' := [vL a1, vR (jR W 1305 t), vL q5]) rfl ?_
  refine j_ldc2 hx (v := (kJ 16)) (jkd2 q2947 (by decide +kernel)) (by decide +kernel) ?_
  refine j_runA hx 2 (tb := [(42, .ladd), (43, .bipush 8)]) (jtb_ok (by decide +kernel)) (pc' := 45) (lv' := [(0, vR t), (1, vL a1)]) (st' := [vI (kI 8), vL (a1 + (kJ 16)), vR (jR W 1305 t), vL q5]) rfl ?_
  refine j_OL (j_callV (av := [vL (a1 + (kJ 16)), vI (kI 8)]) (st := [vL q5]) hx hr (Or.inl q2932) q2823 q2824 rfl md_fhd_num np_fhd_num (chd_num (jR W 1305 t) (a1 + (kJ 16)) (kI 8) W) (by decide) (Nat.le_of_ble_eq_true rfl) h2 (by decide) (by decide +kernel)) (fun q6 _ => ?_)
  refine j_runA hx 1 (tb := [(48, .ladd)]) (jtb_ok (by decide +kernel)) (pc' := 49) (lv' := [(0, vR t), (1, vL a1)]) (st' := [vL (q5 + q6)]) rfl ?_
  exact j_lret hx hm (by decide +kernel) (he _)
theorem cmo_target (t : Nat) (a1 : Int64) (W : jW) : jM yX8_target cX8_target 3 (Option.some Jvm.ClassFile.FieldType.long) [] 1 20 [vR t, vL a1] W ((fmo_target t a1 W).bind (fun q => some (.returned (some (.long q)), W))) := 
  jM.of (Nat.le_of_ble_eq_true rfl) (fun x hx hm hr => wmo_target ⟨hx, hm, hr, fun _ => rfl⟩)
def hhd_isIn (x : jCx) (en : (Int32) → Option (Outcome × jW)) (t : Nat) (a1 : Int64) (W : jW) : Prop :=
  jOK x RX9 cX9_isIn 3 ∧
  jMt x "isIn" (Option.some Jvm.ClassFile.FieldType.boolean) [] ∧
  jRm x 0 0 ∧
  (∀ q : Int32, en q = some (.returned (some (.int q)), W))
theorem whd_isIn_42 {x : jCx} {en : (Int32) → Option (Outcome × jW)} {W : jW} {t : Nat} {a1 : Int64} (h : hhd_isIn x en t a1 W) : jJ x 3 42 [(0, vR t), (1, vL a1)] [] W (fhd_isIn_42 t a1 W) en := by
  have h0 := h
  obtain ⟨hx, hm, hr, he⟩ := h0
  unfold fhd_isIn_42
  refine j_runA hx 1 (tb := [(42, .iconst 0)]) (jtb_ok (by decide +kernel)) (pc' := 43) (lv' := [(0, vR t), (1, vL a1)]) (st' := [vI (kI 0)]) rfl ?_
  exact j_iret hx hm (by decide +kernel) jz0n (he _)
theorem whd_isIn {x : jCx} {en : (Int32) → Option (Outcome × jW)} {W : jW} {t : Nat} {a1 : Int64} (h : hhd_isIn x en t a1 W) : jJ x 3 0 [(0, vR t), (1, vL a1)] [] W (fhd_isIn t a1 W) en := by
  have h0 := h
  obtain ⟨hx, hm, hr, he⟩ := h0
  unfold fhd_isIn
  refine j_runA hx 2 (tb := [(0, .lload_n 1), (1, .aload_n 0)]) (jtb_ok (by decide +kernel)) (pc' := 2) (lv' := [(0, vR t), (1, vL a1)]) (st' := [vR t, vL a1]) rfl ?_
  refine j_gd (fun h1 => ?_)
  refine j_getR hx flX9_32 kl1413 h1 (by decide) (by decide +kernel) ?_
  refine j_runA hx 1 (tb := [(5, .aload_n 0)]) (jtb_ok (by decide +kernel)) (pc' := 6) (lv' := [(0, vR t), (1, vL a1)]) (st' := [vR t, vR (jR W 1413 t), vL a1]) rfl ?_
  refine j_getI hx flX9_80 kd1415 h1 (by decide) (by decide +kernel) ?_
  refine j_gd (fun h2 => ?_)
  refine j_lald hx (f := 1413) (o := t) kd1413 rfl (by decide +kernel) h2 ?_
  refine j_lcmp_lt hx (off := 31) (tgt := 42) (by decide +kernel) (by decide +kernel) (by decide) (fun _ => ?_) (fun _ => ?_)
  · exact whd_isIn_42 h
  refine j_runA hx 2 (tb := [(14, .lload_n 1), (15, .aload_n 0)]) (jtb_ok (by decide +kernel)) (pc' := 16) (lv' := [(0, vR t), (1, vL a1)]) (st' := [vR t, vL a1]) rfl ?_
  refine j_getR hx flX9_32 kl1413 h1 (by decide) (by decide +kernel) ?_
  refine j_runA hx 1 (tb := [(19, .aload_n 0)]) (jtb_ok (by decide +kernel)) (pc' := 20) (lv' := [(0, vR t), (1, vL a1)]) (st' := [vR t, vR (jR W 1413 t), vL a1]) rfl ?_
  refine j_getI hx flX9_80 kd1415 h1 (by decide) (by decide +kernel) ?_
  refine j_gd (fun h3 => ?_)
  refine j_lald hx (f := 1413) (o := t) kd1413 rfl (by decide +kernel) h3 ?_
  refine j_runA hx 1 (tb := [(24, .aload_n 0)]) (jtb_ok (by decide +kernel)) (pc' := 25) (lv' := [(0, vR t), (1, vL a1)]) (st' := [vR t, vL (jB W 1413 t (ix (jI W 1415 t))), vL a1]) rfl ?_
  refine j_getR hx flX9_35 kl1414 h1 (by decide) (by decide +kernel) ?_
  refine j_runA hx 1 (tb := [(28, .aload_n 0)]) (jtb_ok (by decide +kernel)) (pc' := 29) (lv' := [(0, vR t), (1, vL a1)]) (st' := [vR t, vR (jR W 1414 t), vL (jB W 1413 t (ix (jI W 1415 t))), vL a1]) rfl ?_
  refine j_getI hx flX9_80 kd1415 h1 (by decide) (by decide +kernel) ?_
  refine j_gd (fun h4 => ?_)
  refine j_lald hx (f := 1414) (o := t) kd1414 rfl (by decide +kernel) h4 ?_
  refine j_runA hx 1 (tb := [(33, .ladd)]) (jtb_ok (by decide +kernel)) (pc' := 34) (lv' := [(0, vR t), (1, vL a1)]) (st' := [vL ((jB W 1413 t (ix (jI W 1415 t))) + (jB W 1414 t (ix (jI W 1415 t)))), vL a1]) rfl ?_
  refine j_lcmp_ge hx (off := 7) (tgt := 42) (by decide +kernel) (by decide +kernel) (by decide) (fun _ => ?_) (fun _ => ?_)
  · exact whd_isIn_42 h
  refine j_runA hx 1 (tb := [(38, .iconst 1)]) (jtb_ok (by decide +kernel)) (pc' := 39) (lv' := [(0, vR t), (1, vL a1)]) (st' := [vI (kI 1)]) rfl ?_
  refine j_goto hx (off := 4) (by decide +kernel) (tgt := 43) (by decide) ?_
  exact j_iret hx hm (by decide +kernel) jz1n (he _)
theorem chd_isIn (t : Nat) (a1 : Int64) (W : jW) : jM yX9_isIn cX9_isIn 3 (Option.some Jvm.ClassFile.FieldType.boolean) [] 0 0 [vR t, vL a1] W ((fhd_isIn t a1 W).bind (fun q => some (.returned (some (.int q)), W))) := 
  jM.of (Nat.le_of_ble_eq_true rfl) (fun x hx hm hr => whd_isIn ⟨hx, hm, hr, fun _ => rfl⟩)
def hwn_newWord (x : jCx) (en : (Int32) → Option (Outcome × jW)) (t : Nat) (a1 : Int32) (W : jW) : Prop :=
  jOK x RX10 cX10_newWord 2 ∧
  jMt x "newWord" (Option.some Jvm.ClassFile.FieldType.int) [] ∧
  jRm x 0 0 ∧
  (∀ q : Int32, en q = some (.returned (some (.int q)), W))
theorem wwn_newWord {x : jCx} {en : (Int32) → Option (Outcome × jW)} {W : jW} {t : Nat} {a1 : Int32} (h : hwn_newWord x en t a1 W) : jJ x 2 0 [(0, vR t), (1, vI a1)] [] W (fwn_newWord t a1 W) en := by
  have h0 := h
  obtain ⟨hx, hm, hr, he⟩ := h0
  unfold fwn_newWord
  refine j_runA hx 1 (tb := [(0, .aload_n 0)]) (jtb_ok (by decide +kernel)) (pc' := 1) (lv' := [(0, vR t), (1, vI a1)]) (st' := [vR t]) rfl ?_
  refine j_gd (fun h1 => ?_)
  refine j_getR hx flX10_15 kl1503 h1 (by decide) (by decide +kernel) ?_
  refine j_runA hx 1 (tb := [(4, .aload_n 0)]) (jtb_ok (by decide +kernel)) (pc' := 5) (lv' := [(0, vR t), (1, vI a1)]) (st' := [vR t, vR (jR W 1503 t)]) rfl ?_
  refine j_getR hx flX10_32 kl1500 h1 (by decide) (by decide +kernel) ?_
  refine j_gd (fun h2 => ?_)
  refine j_getR hx flX10_109 kl1317 h2 (by decide) (by decide +kernel) ?_
  refine j_runA hx 1 (tb := [(11, .iload_n 1)]) (jtb_ok (by decide +kernel)) (pc' := 12) (lv' := [(0, vR t), (1, vI a1)]) (st' := [vI a1, vR (jR W 1317 (jR W 1500 t)), vR (jR W 1503 t)]) rfl ?_
  refine j_gd (fun h3 => ?_)
  refine j_iald hx (f := 1317) (o := (jR W 1500 t)) kd1317 rfl (by decide +kernel) h3 ?_
  refine j_gd (fun h4 => ?_)
  refine j_iald hx (f := 1503) (o := t) kd1503 rfl (by decide +kernel) h4 ?_
  refine j_runA hx 3 (tb := [(14, .iload_n 1), (15, .iadd), (16, .aload_n 0)]) (jtb_ok (by decide +kernel)) (pc' := 17) (lv' := [(0, vR t), (1, vI a1)]) (st' := [vR t, vI ((jA W 1503 t (ix (jA W 1317 (jR W 1500 t) (ix a1)))) + a1)]) rfl ?_
  refine j_getR hx flX10_32 kl1500 h1 (by decide) (by decide +kernel) ?_
  refine j_getR hx flX10_96 kl1322 h2 (by decide) (by decide +kernel) ?_
  refine j_runA hx 1 (tb := [(23, .aload_n 0)]) (jtb_ok (by decide +kernel)) (pc' := 24) (lv' := [(0, vR t), (1, vI a1)]) (st' := [vR t, vR (jR W 1322 (jR W 1500 t)), vI ((jA W 1503 t (ix (jA W 1317 (jR W 1500 t) (ix a1)))) + a1)]) rfl ?_
  refine j_getR hx flX10_32 kl1500 h1 (by decide) (by decide +kernel) ?_
  refine j_getR hx flX10_109 kl1317 h2 (by decide) (by decide +kernel) ?_
  refine j_runA hx 1 (tb := [(30, .iload_n 1)]) (jtb_ok (by decide +kernel)) (pc' := 31) (lv' := [(0, vR t), (1, vI a1)]) (st' := [vI a1, vR (jR W 1317 (jR W 1500 t)), vR (jR W 1322 (jR W 1500 t)), vI ((jA W 1503 t (ix (jA W 1317 (jR W 1500 t) (ix a1)))) + a1)]) rfl ?_
  refine j_gd (fun h5 => ?_)
  refine j_iald hx (f := 1317) (o := (jR W 1500 t)) kd1317 rfl (by decide +kernel) h5 ?_
  refine j_gd (fun h6 => ?_)
  refine j_iald hx (f := 1322) (o := (jR W 1500 t)) kd1322 rfl (by decide +kernel) h6 ?_
  refine j_runA hx 1 (tb := [(33, .isub)]) (jtb_ok (by decide +kernel)) (pc' := 34) (lv' := [(0, vR t), (1, vI a1)]) (st' := [vI (((jA W 1503 t (ix (jA W 1317 (jR W 1500 t) (ix a1)))) + a1) - (jA W 1322 (jR W 1500 t) (ix (jA W 1317 (jR W 1500 t) (ix a1)))))]) rfl ?_
  exact j_iret hx hm (by decide +kernel) rfl (he _)
theorem cwn_newWord (t : Nat) (a1 : Int32) (W : jW) : jM yX10_newWord cX10_newWord 2 (Option.some Jvm.ClassFile.FieldType.int) [] 0 0 [vR t, vI a1] W ((fwn_newWord t a1 W).bind (fun q => some (.returned (some (.int q)), W))) := 
  jM.of (Nat.le_of_ble_eq_true rfl) (fun x hx hm hr => wwn_newWord ⟨hx, hm, hr, fun _ => rfl⟩)
def hwn_fixed (x : jCx) (en : (Int32 × jW) → Option (Outcome × jW)) (t : Nat) (a1 : Int32) (a2 : Int32) : Prop :=
  jOK x RX10 cX10_fixed 10 ∧
  jMt x "fixed" (Option.some Jvm.ClassFile.FieldType.int) [] ∧
  jRm x 2 34 ∧
  (∀ q : Int32 × jW, en q = some (.returned (some (.int q.1)), q.2))
theorem wwn_fixed_197 {x : jCx} {en : (Int32 × jW) → Option (Outcome × jW)} {t : Nat} {a1 : Int32} {a2 : Int32} (h : hwn_fixed x en t a1 a2) (l8 : Int64) (W : jW) : jJ x 10 197 [(0, vR t), (1, vI a1), (2, vI a2), (8, vL l8)] [] W (fwn_fixed_197 t a1 a2 l8 W) en := by
  have h0 := h
  obtain ⟨hx, hm, hr, he⟩ := h0
  unfold fwn_fixed_197
  refine j_runA hx 1 (tb := [(197, .iload_n 2)]) (jtb_ok (by decide +kernel)) (pc' := 198) (lv' := [(0, vR t), (1, vI a1), (2, vI a2), (8, vL l8)]) (st' := [vI a2]) rfl ?_
  refine j_ldc hx (v := (kI (-1627389921))) (jkc q3202 (by decide +kernel)) (by decide +kernel) ?_
  refine j_runA hx 2 (tb := [(200, .iand), (201, .lload 8)]) (jtb_ok (by decide +kernel)) (pc' := 203) (lv' := [(0, vR t), (1, vI a1), (2, vI a2), (8, vL l8)]) (st' := [vL l8, vI (a2 &&& (kI (-1627389921)))]) rfl ?_
  refine j_ldc2 hx (v := (kJ 3)) (jkd2 q3203 (by decide +kernel)) (by decide +kernel) ?_
  refine j_runA hx 8 (tb := [(206, .land), (207, .l2i), (208, .bipush 29), (210, .ishl), (211, .ior), (212, .lload 8), (214, .iconst 2), (215, .lshr)]) (jtb_ok (by decide +kernel)) (pc' := 216) (lv' := [(0, vR t), (1, vI a1), (2, vI a2), (8, vL l8)]) (st' := [vL (lxr l8 (kI 2)), vI ((a2 &&& (kI (-1627389921))) ||| (ixl ((l8 &&& (kJ 3)).toInt32) (kI 29)))]) rfl ?_
  refine j_ldc2 hx (v := (kJ 524287)) (jkd2 q3204 (by decide +kernel)) (by decide +kernel) ?_
  refine j_runA hx 5 (tb := [(219, .land), (220, .l2i), (221, .iconst 5), (222, .ishl), (223, .ior)]) (jtb_ok (by decide +kernel)) (pc' := 224) (lv' := [(0, vR t), (1, vI a1), (2, vI a2), (8, vL l8)]) (st' := [vI (((a2 &&& (kI (-1627389921))) ||| (ixl ((l8 &&& (kJ 3)).toInt32) (kI 29))) ||| (ixl (((lxr l8 (kI 2)) &&& (kJ 524287)).toInt32) (kI 5)))]) rfl ?_
  exact j_iret hx hm (by decide +kernel) rfl (he _)
theorem wwn_fixed_187 {x : jCx} {en : (Int32 × jW) → Option (Outcome × jW)} {t : Nat} {a1 : Int32} {a2 : Int32} (h : hwn_fixed x en t a1 a2) (l8 : Int64) (W : jW) : jJ x 10 187 [(0, vR t), (1, vI a1), (2, vI a2), (8, vL l8)] [] W (fwn_fixed_187 t a1 a2 l8 W) en := by
  have h0 := h
  obtain ⟨hx, hm, hr, he⟩ := h0
  unfold fwn_fixed_187
  refine j_runA hx 2 (tb := [(187, .aload_n 0), (188, .dup)]) (jtb_ok (by decide +kernel)) (pc' := 189) (lv' := [(0, vR t), (1, vI a1), (2, vI a2), (8, vL l8)]) (st' := [vR t, vR t]) rfl ?_
  refine j_gd (fun h21 => ?_)
  refine j_getI hx flX10_116 kd1509 h21 (by decide) (by decide +kernel) ?_
  refine j_runA hx 2 (tb := [(192, .iconst 1), (193, .iadd)]) (jtb_ok (by decide +kernel)) (pc' := 194) (lv' := [(0, vR t), (1, vI a1), (2, vI a2), (8, vL l8)]) (st' := [vI ((jI W 1509 t) + (kI 1)), vR t]) rfl ?_
  refine j_putI hx fwX10_116 wf1509 kd1509 h21 (by decide) (by decide +kernel) (ni1509 _) (fi1509 _) ?_
  refine j_ltw rfl (fun W22 hc23 => ?_)
  have h24 : jC W22 t = 15 := (congrFun hc23 _).trans h21
  exact wwn_fixed_197 h l8 W22
theorem wwn_fixed_107 {x : jCx} {en : (Int32 × jW) → Option (Outcome × jW)} {t : Nat} {a1 : Int32} {a2 : Int32} (h : hwn_fixed x en t a1 a2) (l4 : Int32) (l5 : Int64) (l7 : Int32) (W : jW) : jJ x 10 107 [(0, vR t), (1, vI a1), (2, vI a2), (4, vI l4), (5, vL l5), (7, vI l7)] [] W (fwn_fixed_107 t a1 a2 l4 l5 l7 W) en := by
  have h0 := h
  obtain ⟨hx, hm, hr, he⟩ := h0
  unfold fwn_fixed_107
  refine j_runA hx 2 (tb := [(107, .iload 4), (109, .sipush 277)]) (jtb_ok (by decide +kernel)) (pc' := 112) (lv' := [(0, vR t), (1, vI a1), (2, vI a2), (4, vI l4), (5, vL l5), (7, vI l7)]) (st' := [vI (kI 277), vI l4]) rfl ?_
  refine j_icmp_ne hx (off := 28) (tgt := 140) (by decide +kernel) (by decide) (fun _ => ?_) (fun _ => ?_)
  · refine j_runA hx 4 (tb := [(140, .lload 5), (142, .bipush 12), (144, .lshr), (145, .aload_n 0)]) (jtb_ok (by decide +kernel)) (pc' := 146) (lv' := [(0, vR t), (1, vI a1), (2, vI a2), (4, vI l4), (5, vL l5), (7, vI l7)]) (st' := [vR t, vL (lxr l5 (kI 12))]) rfl ?_
    refine j_gd (fun h15 => ?_)
    refine j_getR hx flX10_32 kl1500 h15 (by decide) (by decide +kernel) ?_
    refine j_gd (fun h16 => ?_)
    refine j_getL hx flX10_67 kd1313 h16 (by decide) (by decide +kernel) ?_
    refine j_ldc2 hx (v := (kJ 4)) (jkd2 q3151 (by decide +kernel)) (by decide +kernel) ?_
    refine j_runA hx 2 (tb := [(155, .aload_n 0), (156, .iload_n 1)]) (jtb_ok (by decide +kernel)) (pc' := 157) (lv' := [(0, vR t), (1, vI a1), (2, vI a2), (4, vI l4), (5, vL l5), (7, vI l7)]) (st' := [vI a1, vR t, vL (kJ 4), vL (jL W 1313 (jR W 1500 t)), vL (lxr l5 (kI 12))]) rfl ?_
    refine j_OI (j_callV (av := [vI a1]) (st := [vL (kJ 4), vL (jL W 1313 (jR W 1500 t)), vL (lxr l5 (kI 12))]) hx hr (Or.inl q3194) q3195 q3196 rfl md_fwn_newWord np_fwn_newWord (cwn_newWord t a1 W) (by decide) (Nat.le_of_ble_eq_true rfl) h15 (by decide) (by decide +kernel)) (fun q17 _ => ?_)
    refine j_runA hx 7 (tb := [(160, .i2l), (161, .lmul), (162, .ladd), (163, .bipush 12), (165, .lshr), (166, .lsub), (167, .lstore 8)]) (jtb_ok (by decide +kernel)) (pc' := 169) (lv' := [(8, vL ((lxr l5 (kI 12)) - (lxr ((jL W 1313 (jR W 1500 t)) + ((kJ 4) * q17.toInt64)) (kI 12)))), (0, vR t), (1, vI a1), (2, vI a2), (4, vI l4), (5, vL l5), (7, vI l7)]) (st' := []) rfl ?_
    refine j_let (v := ((lxr l5 (kI 12)) - (lxr ((jL W 1313 (jR W 1500 t)) + ((kJ 4) * q17.toInt64)) (kI 12)))) (lv := fun v18 => [(8, vL v18), (0, vR t), (1, vI a1), (2, vI a2), (4, vI l4), (5, vL l5), (7, vI l7)]) (st := fun _ => []) (fun v18 => ?_)
    refine j_runA hx 1 (tb := [(169, .lload 8)]) (jtb_ok (by decide +kernel)) (pc' := 171) (lv' := [(8, vL v18), (0, vR t), (1, vI a1), (2, vI a2), (4, vI l4), (5, vL l5), (7, vI l7)]) (st' := [vL v18]) rfl ?_
    refine j_ldc2 hx (v := (kJ (-1048576))) (jkd2 q3200 (by decide +kernel)) (by decide +kernel) ?_
    refine j_lcmp_lt hx (off := 12) (tgt := 187) (by decide +kernel) (by decide +kernel) (by decide) (fun _ => ?_) (fun _ => ?_)
    · refine j_lv (lv' := [(0, vR t), (1, vI a1), (2, vI a2), (8, vL v18)]) ⟨rfl, rfl, rfl, rfl, trivial⟩ ?_
      exact wwn_fixed_187 h v18 W
    refine j_runA hx 1 (tb := [(178, .lload 8)]) (jtb_ok (by decide +kernel)) (pc' := 180) (lv' := [(8, vL v18), (0, vR t), (1, vI a1), (2, vI a2), (4, vI l4), (5, vL l5), (7, vI l7)]) (st' := [vL v18]) rfl ?_
    refine j_ldc2 hx (v := (kJ 1048575)) (jkd2 q3201 (by decide +kernel)) (by decide +kernel) ?_
    refine j_lcmp_le hx (off := 13) (tgt := 197) (by decide +kernel) (by decide +kernel) (by decide) (fun _ => ?_) (fun _ => ?_)
    · refine j_lv (lv' := [(0, vR t), (1, vI a1), (2, vI a2), (8, vL v18)]) ⟨rfl, rfl, rfl, rfl, trivial⟩ ?_
      exact wwn_fixed_197 h v18 W
    refine j_lv (lv' := [(0, vR t), (1, vI a1), (2, vI a2), (8, vL v18)]) ⟨rfl, rfl, rfl, rfl, trivial⟩ ?_
    exact wwn_fixed_187 h v18 W
  refine j_runA hx 1 (tb := [(115, .iload 7)]) (jtb_ok (by decide +kernel)) (pc' := 117) (lv' := [(0, vR t), (1, vI a1), (2, vI a2), (4, vI l4), (5, vL l5), (7, vI l7)]) (st' := [vI l7]) rfl ?_
  refine j_if_eq hx (off := 21) (tgt := 138) (by decide +kernel) (by decide) (fun _ => ?_) (fun _ => ?_)
  · refine j_runA hx 1 (tb := [(138, .iload_n 2)]) (jtb_ok (by decide +kernel)) (pc' := 139) (lv' := [(0, vR t), (1, vI a1), (2, vI a2), (4, vI l4), (5, vL l5), (7, vI l7)]) (st' := [vI a2]) rfl ?_
    exact j_iret hx hm (by decide +kernel) rfl (he _)
  refine j_runA hx 1 (tb := [(120, .iload_n 2)]) (jtb_ok (by decide +kernel)) (pc' := 121) (lv' := [(0, vR t), (1, vI a1), (2, vI a2), (4, vI l4), (5, vL l5), (7, vI l7)]) (st' := [vI a2]) rfl ?_
  refine j_ldc hx (v := (kI (-4193281))) (jkc q3198 (by decide +kernel)) (by decide +kernel) ?_
  refine j_runA hx 2 (tb := [(123, .iand), (124, .lload 5)]) (jtb_ok (by decide +kernel)) (pc' := 126) (lv' := [(0, vR t), (1, vI a1), (2, vI a2), (4, vI l4), (5, vL l5), (7, vI l7)]) (st' := [vL l5, vI (a2 &&& (kI (-4193281)))]) rfl ?_
  refine j_ldc2 hx (v := (kJ 4095)) (jkd2 q3199 (by decide +kernel)) (by decide +kernel) ?_
  refine j_runA hx 5 (tb := [(129, .land), (130, .l2i), (131, .bipush 10), (133, .ishl), (134, .ior)]) (jtb_ok (by decide +kernel)) (pc' := 135) (lv' := [(0, vR t), (1, vI a1), (2, vI a2), (4, vI l4), (5, vL l5), (7, vI l7)]) (st' := [vI ((a2 &&& (kI (-4193281))) ||| (ixl ((l5 &&& (kJ 4095)).toInt32) (kI 10)))]) rfl ?_
  refine j_goto hx (off := 4) (by decide +kernel) (tgt := 139) (by decide) ?_
  exact j_iret hx hm (by decide +kernel) rfl (he _)
theorem wwn_fixed_45 {x : jCx} {en : (Int32 × jW) → Option (Outcome × jW)} {t : Nat} {a1 : Int32} {a2 : Int32} (h : hwn_fixed x en t a1 a2) (l3 : Int32) (l4 : Int32) (W : jW) : jJ x 10 45 [(0, vR t), (1, vI a1), (2, vI a2), (3, vI l3), (4, vI l4)] [] W (fwn_fixed_45 t a1 a2 l3 l4 W) en := by
  have h0 := h
  obtain ⟨hx, hm, hr, he⟩ := h0
  unfold fwn_fixed_45
  refine j_runA hx 1 (tb := [(45, .aload_n 0)]) (jtb_ok (by decide +kernel)) (pc' := 46) (lv' := [(0, vR t), (1, vI a1), (2, vI a2), (3, vI l3), (4, vI l4)]) (st' := [vR t]) rfl ?_
  refine j_gd (fun h7 => ?_)
  refine j_getR hx flX10_32 kl1500 h7 (by decide) (by decide +kernel) ?_
  refine j_runA hx 2 (tb := [(49, .iload_n 3), (50, .i2l)]) (jtb_ok (by decide +kernel)) (pc' := 51) (lv' := [(0, vR t), (1, vI a1), (2, vI a2), (3, vI l3), (4, vI l4)]) (st' := [vL l3.toInt64, vR (jR W 1500 t)]) rfl ?_
  refine j_gd (fun h8 => ?_)
  refine j_OL (j_callV (av := [vL l3.toInt64]) (st := []) hx hr (Or.inr ⟨_, q3192⟩) q3016 qs140 rfl md_fmo_target np_fmo_target (cmo_target (jR W 1500 t) l3.toInt64 W) (by decide) (Nat.le_of_ble_eq_true rfl) h8 (by decide) (by decide +kernel)) (fun q9 _ => ?_)
  refine j_runA hx 2 (tb := [(54, .lstore 5), (56, .aload_n 0)]) (jtb_ok (by decide +kernel)) (pc' := 57) (lv' := [(5, vL q9), (0, vR t), (1, vI a1), (2, vI a2), (3, vI l3), (4, vI l4)]) (st' := [vR t]) rfl ?_
  refine j_getR hx flX10_32 kl1500 h7 (by decide) (by decide +kernel) ?_
  refine j_getR hx flX10_131 kl1305 h8 (by decide) (by decide +kernel) ?_
  refine j_runA hx 1 (tb := [(63, .lload 5)]) (jtb_ok (by decide +kernel)) (pc' := 65) (lv' := [(5, vL q9), (0, vR t), (1, vI a1), (2, vI a2), (3, vI l3), (4, vI l4)]) (st' := [vL q9, vR (jR W 1305 (jR W 1500 t))]) rfl ?_
  refine j_gd (fun h10 => ?_)
  refine j_OI (j_callV (av := [vL q9]) (st := []) hx hr (Or.inl q3193) q2924 q2925 rfl md_fhd_isIn np_fhd_isIn (chd_isIn (jR W 1305 (jR W 1500 t)) q9 W) (by decide) (Nat.le_of_ble_eq_true rfl) h10 (by decide) (by decide +kernel)) (fun q11 _ => ?_)
  refine j_runA hx 2 (tb := [(68, .istore 7), (70, .iload 7)]) (jtb_ok (by decide +kernel)) (pc' := 72) (lv' := [(7, vI q11), (5, vL q9), (0, vR t), (1, vI a1), (2, vI a2), (3, vI l3), (4, vI l4)]) (st' := [vI q11]) rfl ?_
  refine j_if_eq hx (off := 35) (tgt := 107) (by decide +kernel) (by decide) (fun _ => ?_) (fun _ => ?_)
  · refine j_lv (lv' := [(0, vR t), (1, vI a1), (2, vI a2), (4, vI l4), (5, vL q9), (7, vI q11)]) ⟨rfl, rfl, rfl, rfl, rfl, rfl, trivial⟩ ?_
    exact wwn_fixed_107 h l4 q9 q11 W
  refine j_runA hx 1 (tb := [(75, .aload_n 0)]) (jtb_ok (by decide +kernel)) (pc' := 76) (lv' := [(7, vI q11), (5, vL q9), (0, vR t), (1, vI a1), (2, vI a2), (3, vI l3), (4, vI l4)]) (st' := [vR t]) rfl ?_
  refine j_getR hx flX10_32 kl1500 h7 (by decide) (by decide +kernel) ?_
  refine j_getL hx flX10_67 kd1313 h8 (by decide) (by decide +kernel) ?_
  refine j_ldc2 hx (v := (kJ 4)) (jkd2 q3151 (by decide +kernel)) (by decide +kernel) ?_
  refine j_runA hx 3 (tb := [(85, .aload_n 0), (86, .lload 5), (88, .aload_n 0)]) (jtb_ok (by decide +kernel)) (pc' := 89) (lv' := [(7, vI q11), (5, vL q9), (0, vR t), (1, vI a1), (2, vI a2), (3, vI l3), (4, vI l4)]) (st' := [vR t, vL q9, vR t, vL (kJ 4), vL (jL W 1313 (jR W 1500 t))]) rfl ?_
  refine j_getR hx flX10_32 kl1500 h7 (by decide) (by decide +kernel) ?_
  refine j_getL hx flX10_67 kd1313 h8 (by decide) (by decide +kernel) ?_
  refine j_runA hx 3 (tb := [(95, .lsub), (96, .l2i), (97, .iconst 4)]) (jtb_ok (by decide +kernel)) (pc' := 98) (lv' := [(7, vI q11), (5, vL q9), (0, vR t), (1, vI a1), (2, vI a2), (3, vI l3), (4, vI l4)]) (st' := [vI (kI 4), vI ((q9 - (jL W 1313 (jR W 1500 t))).toInt32), vR t, vL (kJ 4), vL (jL W 1313 (jR W 1500 t))]) rfl ?_
  refine j_idiv hx (by decide +kernel) (by decide +kernel) ?_
  refine j_OI (j_callV (av := [vI (((q9 - (jL W 1313 (jR W 1500 t))).toInt32) / (kI 4))]) (st := [vL (kJ 4), vL (jL W 1313 (jR W 1500 t))]) hx hr (Or.inl q3194) q3195 q3196 rfl md_fwn_newWord np_fwn_newWord (cwn_newWord t (((q9 - (jL W 1313 (jR W 1500 t))).toInt32) / (kI 4)) W) (by decide) (Nat.le_of_ble_eq_true rfl) h7 (by decide) (by decide +kernel)) (fun q12 _ => ?_)
  refine j_runA hx 4 (tb := [(102, .i2l), (103, .lmul), (104, .ladd), (105, .lstore 5)]) (jtb_ok (by decide +kernel)) (pc' := 107) (lv' := [(5, vL ((jL W 1313 (jR W 1500 t)) + ((kJ 4) * q12.toInt64))), (7, vI q11), (0, vR t), (1, vI a1), (2, vI a2), (3, vI l3), (4, vI l4)]) (st' := []) rfl ?_
  refine j_let (v := ((jL W 1313 (jR W 1500 t)) + ((kJ 4) * q12.toInt64))) (lv := fun v13 => [(5, vL v13), (7, vI q11), (0, vR t), (1, vI a1), (2, vI a2), (3, vI l3), (4, vI l4)]) (st := fun _ => []) (fun v13 => ?_)
  refine j_lv (lv' := [(0, vR t), (1, vI a1), (2, vI a2), (4, vI l4), (5, vL v13), (7, vI q11)]) ⟨rfl, rfl, rfl, rfl, rfl, rfl, trivial⟩ ?_
  exact wwn_fixed_107 h l4 v13 q11 W
theorem wwn_fixed {x : jCx} {en : (Int32 × jW) → Option (Outcome × jW)} {t : Nat} {a1 : Int32} {a2 : Int32} (h : hwn_fixed x en t a1 a2) (W : jW) : jJ x 10 0 [(0, vR t), (1, vI a1), (2, vI a2)] [] W (fwn_fixed t a1 a2 W) en := by
  have h0 := h
  obtain ⟨hx, hm, hr, he⟩ := h0
  unfold fwn_fixed
  refine j_runA hx 1 (tb := [(0, .aload_n 0)]) (jtb_ok (by decide +kernel)) (pc' := 1) (lv' := [(0, vR t), (1, vI a1), (2, vI a2)]) (st' := [vR t]) rfl ?_
  refine j_gd (fun h1 => ?_)
  refine j_getR hx flX10_32 kl1500 h1 (by decide) (by decide +kernel) ?_
  refine j_gd (fun h2 => ?_)
  refine j_getR hx flX10_120 kl1316 h2 (by decide) (by decide +kernel) ?_
  refine j_runA hx 1 (tb := [(7, .iload_n 1)]) (jtb_ok (by decide +kernel)) (pc' := 8) (lv' := [(0, vR t), (1, vI a1), (2, vI a2)]) (st' := [vI a1, vR (jR W 1316 (jR W 1500 t))]) rfl ?_
  refine j_gd (fun h3 => ?_)
  refine j_iald hx (f := 1316) (o := (jR W 1500 t)) kd1316 rfl (by decide +kernel) h3 ?_
  refine j_runA hx 1 (tb := [(9, .istore_n 3)]) (jtb_ok (by decide +kernel)) (pc' := 10) (lv' := [(3, vI (jA W 1316 (jR W 1500 t) (ix a1))), (0, vR t), (1, vI a1), (2, vI a2)]) (st' := []) rfl ?_
  refine j_let (v := (jA W 1316 (jR W 1500 t) (ix a1))) (lv := fun v4 => [(3, vI v4), (0, vR t), (1, vI a1), (2, vI a2)]) (st := fun _ => []) (fun v4 => ?_)
  refine j_runA hx 1 (tb := [(10, .iload_n 3)]) (jtb_ok (by decide +kernel)) (pc' := 11) (lv' := [(3, vI v4), (0, vR t), (1, vI a1), (2, vI a2)]) (st' := [vI v4]) rfl ?_
  refine j_if_ge hx (off := 5) (tgt := 16) (by decide +kernel) (by decide) (fun _ => ?_) (fun _ => ?_)
  · refine j_runA hx 1 (tb := [(16, .aload_n 0)]) (jtb_ok (by decide +kernel)) (pc' := 17) (lv' := [(3, vI v4), (0, vR t), (1, vI a1), (2, vI a2)]) (st' := [vR t]) rfl ?_
    refine j_getR hx flX10_32 kl1500 h1 (by decide) (by decide +kernel) ?_
    refine j_runA hx 2 (tb := [(20, .iload_n 3), (21, .i2l)]) (jtb_ok (by decide +kernel)) (pc' := 22) (lv' := [(3, vI v4), (0, vR t), (1, vI a1), (2, vI a2)]) (st' := [vL v4.toInt64, vR (jR W 1500 t)]) rfl ?_
    refine j_OI (j_callV (av := [vL v4.toInt64]) (st := []) hx hr (Or.inr ⟨_, q3191⟩) q3012 qs139 rfl md_fmo_fixType np_fmo_fixType (cmo_fixType (jR W 1500 t) v4.toInt64 W) (by decide) (Nat.le_of_ble_eq_true rfl) h2 (by decide) (by decide +kernel)) (fun q5 _ => ?_)
    refine j_runA hx 3 (tb := [(25, .istore 4), (27, .iload 4), (29, .sipush 275)]) (jtb_ok (by decide +kernel)) (pc' := 32) (lv' := [(4, vI q5), (3, vI v4), (0, vR t), (1, vI a1), (2, vI a2)]) (st' := [vI (kI 275), vI q5]) rfl ?_
    refine j_icmp_eq hx (off := 13) (tgt := 45) (by decide +kernel) (by decide) (fun _ => ?_) (fun _ => ?_)
    · refine j_lv (lv' := [(0, vR t), (1, vI a1), (2, vI a2), (3, vI v4), (4, vI q5)]) ⟨rfl, rfl, rfl, rfl, rfl, trivial⟩ ?_
      exact wwn_fixed_45 h v4 q5 W
    refine j_runA hx 2 (tb := [(35, .iload 4), (37, .sipush 277)]) (jtb_ok (by decide +kernel)) (pc' := 40) (lv' := [(4, vI q5), (3, vI v4), (0, vR t), (1, vI a1), (2, vI a2)]) (st' := [vI (kI 277), vI q5]) rfl ?_
    refine j_icmp_eq hx (off := 5) (tgt := 45) (by decide +kernel) (by decide) (fun _ => ?_) (fun _ => ?_)
    · refine j_lv (lv' := [(0, vR t), (1, vI a1), (2, vI a2), (3, vI v4), (4, vI q5)]) ⟨rfl, rfl, rfl, rfl, rfl, trivial⟩ ?_
      exact wwn_fixed_45 h v4 q5 W
    refine j_runA hx 1 (tb := [(43, .iload_n 2)]) (jtb_ok (by decide +kernel)) (pc' := 44) (lv' := [(4, vI q5), (3, vI v4), (0, vR t), (1, vI a1), (2, vI a2)]) (st' := [vI a2]) rfl ?_
    exact j_iret hx hm (by decide +kernel) rfl (he _)
  refine j_runA hx 1 (tb := [(14, .iload_n 2)]) (jtb_ok (by decide +kernel)) (pc' := 15) (lv' := [(3, vI v4), (0, vR t), (1, vI a1), (2, vI a2)]) (st' := [vI a2]) rfl ?_
  exact j_iret hx hm (by decide +kernel) rfl (he _)
theorem cwn_fixed (t : Nat) (a1 : Int32) (a2 : Int32) (W : jW) : jM yX10_fixed cX10_fixed 10 (Option.some Jvm.ClassFile.FieldType.int) [] 2 34 [vR t, vI a1, vI a2] W ((fwn_fixed t a1 a2 W).bind (fun q => some (.returned (some (.int q.1)), q.2))) := 
  jM.of (Nat.le_of_ble_eq_true rfl) (fun x hx hm hr => wwn_fixed ⟨hx, hm, hr, fun _ => rfl⟩ W)
def hwn_whole (x : jCx) (en : (Int32 × jW) → Option (Outcome × jW)) (t : Nat) (a1 : Int32) (a2 : Int32) : Prop :=
  jOK x RX10 cX10_whole 3 ∧
  jMt x "whole" (Option.some Jvm.ClassFile.FieldType.int) [] ∧
  jRm x 6 95 ∧
  (∀ q : Int32 × jW, en q = some (.returned (some (.int q.1)), q.2))
theorem wwn_whole {x : jCx} {en : (Int32 × jW) → Option (Outcome × jW)} {t : Nat} {a1 : Int32} {a2 : Int32} (h : hwn_whole x en t a1 a2) (W : jW) : jJ x 3 0 [(0, vR t), (1, vI a1), (2, vI a2)] [] W (fwn_whole t a1 a2 W) en := by
  have h0 := h
  obtain ⟨hx, hm, hr, he⟩ := h0
  unfold fwn_whole
  refine j_runA hx 2 (tb := [(0, .iload_n 2), (1, .aload_n 0)]) (jtb_ok (by decide +kernel)) (pc' := 2) (lv' := [(0, vR t), (1, vI a1), (2, vI a2)]) (st' := [vR t, vI a2]) rfl ?_
  refine j_gd (fun h1 => ?_)
  refine j_getR hx flX10_32 kl1500 h1 (by decide) (by decide +kernel) ?_
  refine j_gd (fun h2 => ?_)
  refine j_getR hx flX10_64 kl1323 h2 (by decide) (by decide +kernel) ?_
  refine j_runA hx 1 (tb := [(8, .iload_n 1)]) (jtb_ok (by decide +kernel)) (pc' := 9) (lv' := [(0, vR t), (1, vI a1), (2, vI a2)]) (st' := [vI a1, vR (jR W 1323 (jR W 1500 t)), vI a2]) rfl ?_
  refine j_gd (fun h3 => ?_)
  refine j_iald hx (f := 1323) (o := (jR W 1500 t)) kd1323 rfl (by decide +kernel) h3 ?_
  refine j_icmp_ge hx (off := 27) (tgt := 37) (by decide +kernel) (by decide) (fun _ => ?_) (fun _ => ?_)
  · refine j_runA hx 3 (tb := [(37, .aload_n 0), (38, .iload_n 1), (39, .iload_n 2)]) (jtb_ok (by decide +kernel)) (pc' := 40) (lv' := [(0, vR t), (1, vI a1), (2, vI a2)]) (st' := [vI a2, vI a1, vR t]) rfl ?_
    refine j_WI (j_callV (av := [vI a1, vI a2]) (st := []) hx hr (Or.inl q3168) q3169 q3170 rfl md_fwn_word np_fwn_word (cwn_word t a1 a2 W) (by decide) (Nat.le_of_ble_eq_true rfl) h1 (by decide) (by decide +kernel)) (fun q4 _ => ?_)
    exact j_iret hx hm (by decide +kernel) rfl (he _)
  refine j_runA hx 2 (tb := [(13, .aload_n 0), (14, .aload_n 0)]) (jtb_ok (by decide +kernel)) (pc' := 15) (lv' := [(0, vR t), (1, vI a1), (2, vI a2)]) (st' := [vR t, vR t]) rfl ?_
  refine j_getR hx flX10_32 kl1500 h1 (by decide) (by decide +kernel) ?_
  refine j_getR hx flX10_96 kl1322 h2 (by decide) (by decide +kernel) ?_
  refine j_runA hx 1 (tb := [(21, .iload_n 1)]) (jtb_ok (by decide +kernel)) (pc' := 22) (lv' := [(0, vR t), (1, vI a1), (2, vI a2)]) (st' := [vI a1, vR (jR W 1322 (jR W 1500 t)), vR t]) rfl ?_
  refine j_gd (fun h6 => ?_)
  refine j_iald hx (f := 1322) (o := (jR W 1500 t)) kd1322 rfl (by decide +kernel) h6 ?_
  refine j_runA hx 5 (tb := [(23, .iload_n 2), (24, .iadd), (25, .aload_n 0), (26, .iload_n 1), (27, .iload_n 2)]) (jtb_ok (by decide +kernel)) (pc' := 28) (lv' := [(0, vR t), (1, vI a1), (2, vI a2)]) (st' := [vI a2, vI a1, vR t, vI ((jA W 1322 (jR W 1500 t) (ix a1)) + a2), vR t]) rfl ?_
  refine j_WI (j_callV (av := [vI a1, vI a2]) (st := [vI ((jA W 1322 (jR W 1500 t) (ix a1)) + a2), vR t]) hx hr (Or.inl q3168) q3169 q3170 rfl md_fwn_word np_fwn_word (cwn_word t a1 a2 W) (by decide) (Nat.le_of_ble_eq_true rfl) h1 (by decide) (by decide +kernel)) (fun q7 _ => ?_)
  refine j_gd (fun h9 => ?_)
  refine j_WI (j_callV (av := [vI ((jA W 1322 (jR W 1500 t) (ix a1)) + a2), vI q7.1]) (st := []) hx hr (Or.inl q3187) q3188 q3189 rfl md_fwn_fixed np_fwn_fixed (cwn_fixed t ((jA W 1322 (jR W 1500 t) (ix a1)) + a2) q7.1 q7.2) (by decide) (Nat.le_of_ble_eq_true rfl) h9 (by decide) (by decide +kernel)) (fun q10 _ => ?_)
  refine j_goto hx (off := 9) (by decide +kernel) (tgt := 43) (by decide) ?_
  exact j_iret hx hm (by decide +kernel) rfl (he _)
theorem cwn_whole (t : Nat) (a1 : Int32) (a2 : Int32) (W : jW) : jM yX10_whole cX10_whole 3 (Option.some Jvm.ClassFile.FieldType.int) [] 6 95 [vR t, vI a1, vI a2] W ((fwn_whole t a1 a2 W).bind (fun q => some (.returned (some (.int q.1)), q.2))) := 
  jM.of (Nat.le_of_ble_eq_true rfl) (fun x hx hm hr => wwn_whole ⟨hx, hm, hr, fun _ => rfl⟩ W)
def hwn_isGone (x : jCx) (en : (Int32) → Option (Outcome × jW)) (t : Nat) (a1 : Int32) (W : jW) : Prop :=
  jOK x RX10 cX10_isGone 2 ∧
  jMt x "isGone" (Option.some Jvm.ClassFile.FieldType.boolean) [] ∧
  jRm x 1 14 ∧
  (∀ q : Int32, en q = some (.returned (some (.int q)), W))
theorem wwn_isGone_42 {x : jCx} {en : (Int32) → Option (Outcome × jW)} {W : jW} {t : Nat} {a1 : Int32} (h : hwn_isGone x en t a1 W) : jJ x 2 42 [(0, vR t), (1, vI a1)] [] W (fwn_isGone_42 t a1 W) en := by
  have h0 := h
  obtain ⟨hx, hm, hr, he⟩ := h0
  unfold fwn_isGone_42
  refine j_runA hx 1 (tb := [(42, .iconst 0)]) (jtb_ok (by decide +kernel)) (pc' := 43) (lv' := [(0, vR t), (1, vI a1)]) (st' := [vI (kI 0)]) rfl ?_
  exact j_iret hx hm (by decide +kernel) jz0n (he _)
theorem wwn_isGone {x : jCx} {en : (Int32) → Option (Outcome × jW)} {W : jW} {t : Nat} {a1 : Int32} (h : hwn_isGone x en t a1 W) : jJ x 2 0 [(0, vR t), (1, vI a1)] [] W (fwn_isGone t a1 W) en := by
  have h0 := h
  obtain ⟨hx, hm, hr, he⟩ := h0
  unfold fwn_isGone
  refine j_runA hx 1 (tb := [(0, .aload_n 0)]) (jtb_ok (by decide +kernel)) (pc' := 1) (lv' := [(0, vR t), (1, vI a1)]) (st' := [vR t]) rfl ?_
  refine j_gd (fun h1 => ?_)
  refine j_getR hx flX10_18 kl1504 h1 (by decide) (by decide +kernel) ?_
  refine j_runA hx 1 (tb := [(4, .aload_n 0)]) (jtb_ok (by decide +kernel)) (pc' := 5) (lv' := [(0, vR t), (1, vI a1)]) (st' := [vR t, vR (jR W 1504 t)]) rfl ?_
  refine j_getR hx flX10_32 kl1500 h1 (by decide) (by decide +kernel) ?_
  refine j_gd (fun h2 => ?_)
  refine j_getR hx flX10_109 kl1317 h2 (by decide) (by decide +kernel) ?_
  refine j_runA hx 1 (tb := [(11, .iload_n 1)]) (jtb_ok (by decide +kernel)) (pc' := 12) (lv' := [(0, vR t), (1, vI a1)]) (st' := [vI a1, vR (jR W 1317 (jR W 1500 t)), vR (jR W 1504 t)]) rfl ?_
  refine j_gd (fun h3 => ?_)
  refine j_iald hx (f := 1317) (o := (jR W 1500 t)) kd1317 rfl (by decide +kernel) h3 ?_
  refine j_gd (fun h4 => ?_)
  refine j_bald hx (f := 1504) (o := t) kd1504 rfl (by decide +kernel) h4 ?_
  refine j_runA hx 1 (tb := [(14, .iconst 1)]) (jtb_ok (by decide +kernel)) (pc' := 15) (lv' := [(0, vR t), (1, vI a1)]) (st' := [vI (kI 1), vI (jA W 1504 t (ix (jA W 1317 (jR W 1500 t) (ix a1))))]) rfl ?_
  refine j_icmp_ne hx (off := 27) (tgt := 42) (by decide +kernel) (by decide) (fun _ => ?_) (fun _ => ?_)
  · exact wwn_isGone_42 h
  refine j_runA hx 2 (tb := [(18, .iload_n 1), (19, .aload_n 0)]) (jtb_ok (by decide +kernel)) (pc' := 20) (lv' := [(0, vR t), (1, vI a1)]) (st' := [vR t, vI a1]) rfl ?_
  refine j_getR hx flX10_32 kl1500 h1 (by decide) (by decide +kernel) ?_
  refine j_runA hx 1 (tb := [(23, .aload_n 0)]) (jtb_ok (by decide +kernel)) (pc' := 24) (lv' := [(0, vR t), (1, vI a1)]) (st' := [vR t, vR (jR W 1500 t), vI a1]) rfl ?_
  refine j_getR hx flX10_32 kl1500 h1 (by decide) (by decide +kernel) ?_
  refine j_getR hx flX10_109 kl1317 h2 (by decide) (by decide +kernel) ?_
  refine j_runA hx 1 (tb := [(30, .iload_n 1)]) (jtb_ok (by decide +kernel)) (pc' := 31) (lv' := [(0, vR t), (1, vI a1)]) (st' := [vI a1, vR (jR W 1317 (jR W 1500 t)), vR (jR W 1500 t), vI a1]) rfl ?_
  refine j_gd (fun h5 => ?_)
  refine j_iald hx (f := 1317) (o := (jR W 1500 t)) kd1317 rfl (by decide +kernel) h5 ?_
  refine j_OI (j_callV (av := [vI (jA W 1317 (jR W 1500 t) (ix a1))]) (st := [vI a1]) hx hr (Or.inr ⟨_, q3160⟩) q3065 qs147 rfl md_fmo_last np_fmo_last (cmo_last (jR W 1500 t) (jA W 1317 (jR W 1500 t) (ix a1)) W) (by decide) (Nat.le_of_ble_eq_true rfl) h2 (by decide) (by decide +kernel)) (fun q6 _ => ?_)
  refine j_icmp_ne hx (off := 7) (tgt := 42) (by decide +kernel) (by decide) (fun _ => ?_) (fun _ => ?_)
  · exact wwn_isGone_42 h
  refine j_runA hx 1 (tb := [(38, .iconst 1)]) (jtb_ok (by decide +kernel)) (pc' := 39) (lv' := [(0, vR t), (1, vI a1)]) (st' := [vI (kI 1)]) rfl ?_
  refine j_goto hx (off := 4) (by decide +kernel) (tgt := 43) (by decide) ?_
  exact j_iret hx hm (by decide +kernel) jz1n (he _)
theorem cwn_isGone (t : Nat) (a1 : Int32) (W : jW) : jM yX10_isGone cX10_isGone 2 (Option.some Jvm.ClassFile.FieldType.boolean) [] 1 14 [vR t, vI a1] W ((fwn_isGone t a1 W).bind (fun q => some (.returned (some (.int q)), W))) := 
  jM.of (Nat.le_of_ble_eq_true rfl) (fun x hx hm hr => wwn_isGone ⟨hx, hm, hr, fun _ => rfl⟩)
def hrn_init (x : jCx) (en : (jW) → Option (Outcome × jW)) (t : Nat) (a1 : Nat) (a2 : Int32) : Prop :=
  jOK x RX11 cX11_init 3 ∧
  jMt x "<init>" (Option.none : Option Jvm.ClassFile.FieldType) [] ∧
  jRm x 1 12 ∧
  (∀ q : jW, en q = some (.returned none, q))
theorem wrn_init {x : jCx} {en : (jW) → Option (Outcome × jW)} {t : Nat} {a1 : Nat} {a2 : Int32} (h : hrn_init x en t a1 a2) (W : jW) : jJ x 3 0 [(0, vR t), (1, vR a1), (2, vI a2)] [] W (frn_init t a1 a2 W) en := by
  have h0 := h
  obtain ⟨hx, hm, hr, he⟩ := h0
  unfold frn_init
  refine j_runA hx 1 (tb := [(0, .aload_n 0)]) (jtb_ok (by decide +kernel)) (pc' := 1) (lv' := [(0, vR t), (1, vR a1), (2, vI a2)]) (st' := [vR t]) rfl ?_
  refine j_gd (fun h1 => ?_)
  refine j_obj hx hr q2483 h1 q264 q265 (by decide +kernel) (by decide) (Nat.le_of_ble_eq_true rfl) ?_
  refine j_runA hx 2 (tb := [(4, .aload_n 0), (5, .bipush 32)]) (jtb_ok (by decide +kernel)) (pc' := 7) (lv' := [(0, vR t), (1, vR a1), (2, vI a2)]) (st' := [vI (kI 32), vR t]) rfl ?_
  refine j_gd (fun h2 => ?_)
  refine j_gd (fun h3 => ?_)
  refine j_nwB hx fwX11_9 (wi1603 hm) kd1603 ja1603_6 h3 (by decide) nr1603 fr1603 (by decide +kernel) (by decide +kernel) h2 ?_
  refine j_ltw rfl (fun W4 hc5 => ?_)
  have h6 : jC W4 t = 16 := (congrFun hc5 _).trans h3
  refine j_runA hx 2 (tb := [(12, .aload_n 0), (13, .bipush 32)]) (jtb_ok (by decide +kernel)) (pc' := 15) (lv' := [(0, vR t), (1, vR a1), (2, vI a2)]) (st' := [vI (kI 32), vR t]) rfl ?_
  refine j_gd (fun h8 => ?_)
  refine j_nwA hx fwX11_15 (wi1604 hm) ka1604 ja1604_4 h6 (by decide) nr1604 fr1604 (by decide +kernel) (by decide +kernel) h8 ?_
  refine j_ltw rfl (fun W9 hc10 => ?_)
  have h11 : jC W9 t = 16 := (congrFun hc10 _).trans h6
  refine j_runA hx 2 (tb := [(20, .aload_n 0), (21, .bipush 32)]) (jtb_ok (by decide +kernel)) (pc' := 23) (lv' := [(0, vR t), (1, vR a1), (2, vI a2)]) (st' := [vI (kI 32), vR t]) rfl ?_
  refine j_gd (fun h13 => ?_)
  refine j_nwA hx fwX11_19 (wi1605 hm) ka1605 ja1605_3 h11 (by decide) nr1605 fr1605 (by decide +kernel) (by decide +kernel) h13 ?_
  refine j_ltw rfl (fun W14 hc15 => ?_)
  have h16 : jC W14 t = 16 := (congrFun hc15 _).trans h11
  refine j_runA hx 1 (tb := [(28, .aload_n 0)]) (jtb_ok (by decide +kernel)) (pc' := 29) (lv' := [(0, vR t), (1, vR a1), (2, vI a2)]) (st' := [vR t]) rfl ?_
  refine j_ldc hx (v := (kI 125536)) (jkc q2484 (by decide +kernel)) (by decide +kernel) ?_
  refine j_gd (fun h18 => ?_)
  refine j_nwA hx fwX11_24 (wi1610 hm) ka1610 ja1610_4 h16 (by decide) nr1610 fr1610 (by decide +kernel) (by decide +kernel) h18 ?_
  refine j_ltw rfl (fun W19 hc20 => ?_)
  have h21 : jC W19 t = 16 := (congrFun hc20 _).trans h16
  refine j_runA hx 2 (tb := [(36, .aload_n 0), (37, .sipush 15692)]) (jtb_ok (by decide +kernel)) (pc' := 40) (lv' := [(0, vR t), (1, vR a1), (2, vI a2)]) (st' := [vI (kI 15692), vR t]) rfl ?_
  refine j_gd (fun h23 => ?_)
  refine j_nwA hx fwX11_27 (wi1611 hm) ka1611 ja1611_4 h21 (by decide) nr1611 fr1611 (by decide +kernel) (by decide +kernel) h23 ?_
  refine j_ltw rfl (fun W24 hc25 => ?_)
  have h26 : jC W24 t = 16 := (congrFun hc25 _).trans h21
  refine j_runA hx 2 (tb := [(45, .aload_n 0), (46, .sipush 15692)]) (jtb_ok (by decide +kernel)) (pc' := 49) (lv' := [(0, vR t), (1, vR a1), (2, vI a2)]) (st' := [vI (kI 15692), vR t]) rfl ?_
  refine j_gd (fun h28 => ?_)
  refine j_nwA hx fwX11_30 (wi1612 hm) ka1612 ja1612_3 h26 (by decide) nr1612 fr1612 (by decide +kernel) (by decide +kernel) h28 ?_
  refine j_ltw rfl (fun W29 hc30 => ?_)
  have h31 : jC W29 t = 16 := (congrFun hc30 _).trans h26
  refine j_runA hx 2 (tb := [(54, .aload_n 0), (55, .sipush 4096)]) (jtb_ok (by decide +kernel)) (pc' := 58) (lv' := [(0, vR t), (1, vR a1), (2, vI a2)]) (st' := [vI (kI 4096), vR t]) rfl ?_
  refine j_gd (fun h33 => ?_)
  refine j_nwA hx fwX11_33 (wi1613 hm) ka1613 ja1613_3 h31 (by decide) nr1613 fr1613 (by decide +kernel) (by decide +kernel) h33 ?_
  refine j_ltw rfl (fun W34 hc35 => ?_)
  have h36 : jC W34 t = 16 := (congrFun hc35 _).trans h31
  refine j_runA hx 2 (tb := [(63, .aload_n 0), (64, .sipush 800)]) (jtb_ok (by decide +kernel)) (pc' := 67) (lv' := [(0, vR t), (1, vR a1), (2, vI a2)]) (st' := [vI (kI 800), vR t]) rfl ?_
  refine j_gd (fun h38 => ?_)
  refine j_nwB hx fwX11_36 (wi1621 hm) kd1621 ja1621_6 h36 (by decide) nr1621 fr1621 (by decide +kernel) (by decide +kernel) h38 ?_
  refine j_ltw rfl (fun W39 hc40 => ?_)
  have h41 : jC W39 t = 16 := (congrFun hc40 _).trans h36
  refine j_runA hx 2 (tb := [(72, .aload_n 0), (73, .sipush 16384)]) (jtb_ok (by decide +kernel)) (pc' := 76) (lv' := [(0, vR t), (1, vR a1), (2, vI a2)]) (st' := [vI (kI 16384), vR t]) rfl ?_
  refine j_gd (fun h43 => ?_)
  refine j_nwA hx fwX11_39 (wi1622 hm) ka1622 ja1622_4 h41 (by decide) nr1622 fr1622 (by decide +kernel) (by decide +kernel) h43 ?_
  refine j_ltw rfl (fun W44 hc45 => ?_)
  have h46 : jC W44 t = 16 := (congrFun hc45 _).trans h41
  refine j_runA hx 2 (tb := [(81, .aload_n 0), (82, .aload_n 1)]) (jtb_ok (by decide +kernel)) (pc' := 83) (lv' := [(0, vR t), (1, vR a1), (2, vI a2)]) (st' := [vR a1, vR t]) rfl ?_
  refine j_putR hx fwX11_42 (wi1600 hm) kd1600 h46 (by decide) (by decide +kernel) nr1600 fr1600 ?_
  refine j_ltw rfl (fun W48 hc49 => ?_)
  have h50 : jC W48 t = 16 := (congrFun hc49 _).trans h46
  refine j_runA hx 2 (tb := [(86, .aload_n 0), (87, .iload_n 2)]) (jtb_ok (by decide +kernel)) (pc' := 88) (lv' := [(0, vR t), (1, vR a1), (2, vI a2)]) (st' := [vI a2, vR t]) rfl ?_
  refine j_putI hx fwX11_46 (wi1601 hm) kd1601 h50 (by decide) (by decide +kernel) (ni1601 _) (fi1601 _) ?_
  refine j_ltw rfl (fun W52 hc53 => ?_)
  have h54 : jC W52 t = 16 := (congrFun hc53 _).trans h50
  exact j_vret hx hm (by decide +kernel) (he _)
theorem crn_init (t : Nat) (a1 : Nat) (a2 : Int32) (W : jW) : jM yX11_init cX11_init 3 (Option.none : Option Jvm.ClassFile.FieldType) [] 1 12 [vR t, vR a1, vI a2] W ((frn_init t a1 a2 W).bind (fun q => some (.returned none, q))) := 
  jM.of (Nat.le_of_ble_eq_true rfl) (fun x hx hm hr => wrn_init ⟨hx, hm, hr, fun _ => rfl⟩ W)
def hhd_what (x : jCx) (en : (Int32) → Option (Outcome × jW)) (t : Nat) (a1 : Int32) (W : jW) : Prop :=
  jOK x RX9 cX9_what 2 ∧
  jMt x "what" (Option.some Jvm.ClassFile.FieldType.int) [] ∧
  jRm x 0 0 ∧
  (∀ q : Int32, en q = some (.returned (some (.int q)), W))
theorem whd_what {x : jCx} {en : (Int32) → Option (Outcome × jW)} {W : jW} {t : Nat} {a1 : Int32} (h : hhd_what x en t a1 W) : jJ x 2 0 [(0, vR t), (1, vI a1)] [] W (fhd_what t a1 W) en := by
  have h0 := h
  obtain ⟨hx, hm, hr, he⟩ := h0
  unfold fhd_what
  refine j_runA hx 1 (tb := [(0, .aload_n 0)]) (jtb_ok (by decide +kernel)) (pc' := 1) (lv' := [(0, vR t), (1, vI a1)]) (st' := [vR t]) rfl ?_
  refine j_gd (fun h1 => ?_)
  refine j_getR hx flX9_23 kl1410 h1 (by decide) (by decide +kernel) ?_
  refine j_runA hx 1 (tb := [(4, .iload_n 1)]) (jtb_ok (by decide +kernel)) (pc' := 5) (lv' := [(0, vR t), (1, vI a1)]) (st' := [vI a1, vR (jR W 1410 t)]) rfl ?_
  refine j_gd (fun h2 => ?_)
  refine j_iald hx (f := 1410) (o := t) kd1410 rfl (by decide +kernel) h2 ?_
  refine j_runA hx 1 (tb := [(6, .iconst 1)]) (jtb_ok (by decide +kernel)) (pc' := 7) (lv' := [(0, vR t), (1, vI a1)]) (st' := [vI (kI 1), vI (jA W 1410 t (ix a1))]) rfl ?_
  refine j_icmp_eq hx (off := 12) (tgt := 19) (by decide +kernel) (by decide) (fun _ => ?_) (fun _ => ?_)
  · refine j_runA hx 1 (tb := [(19, .aload_n 0)]) (jtb_ok (by decide +kernel)) (pc' := 20) (lv' := [(0, vR t), (1, vI a1)]) (st' := [vR t]) rfl ?_
    refine j_getR hx flX9_26 kl1411 h1 (by decide) (by decide +kernel) ?_
    refine j_runA hx 1 (tb := [(23, .iload_n 1)]) (jtb_ok (by decide +kernel)) (pc' := 24) (lv' := [(0, vR t), (1, vI a1)]) (st' := [vI a1, vR (jR W 1411 t)]) rfl ?_
    refine j_gd (fun h3 => ?_)
    refine j_iald hx (f := 1411) (o := t) kd1411 rfl (by decide +kernel) h3 ?_
    refine j_runA hx 1 (tb := [(25, .bipush 6)]) (jtb_ok (by decide +kernel)) (pc' := 27) (lv' := [(0, vR t), (1, vI a1)]) (st' := [vI (kI 6), vI (jA W 1411 t (ix a1))]) rfl ?_
    refine j_icmp_ne hx (off := 7) (tgt := 34) (by decide +kernel) (by decide) (fun _ => ?_) (fun _ => ?_)
    · refine j_runA hx 1 (tb := [(34, .aload_n 0)]) (jtb_ok (by decide +kernel)) (pc' := 35) (lv' := [(0, vR t), (1, vI a1)]) (st' := [vR t]) rfl ?_
      refine j_getR hx flX9_26 kl1411 h1 (by decide) (by decide +kernel) ?_
      refine j_runA hx 1 (tb := [(38, .iload_n 1)]) (jtb_ok (by decide +kernel)) (pc' := 39) (lv' := [(0, vR t), (1, vI a1)]) (st' := [vI a1, vR (jR W 1411 t)]) rfl ?_
      refine j_gd (fun h4 => ?_)
      refine j_iald hx (f := 1411) (o := t) kd1411 rfl (by decide +kernel) h4 ?_
      refine j_if_ne hx (off := 8) (tgt := 48) (by decide +kernel) (by decide) (fun _ => ?_) (fun _ => ?_)
      · refine j_runA hx 1 (tb := [(48, .iconst 5)]) (jtb_ok (by decide +kernel)) (pc' := 49) (lv' := [(0, vR t), (1, vI a1)]) (st' := [vI (kI 5)]) rfl ?_
        exact j_iret hx hm (by decide +kernel) rfl (he _)
      refine j_runA hx 1 (tb := [(43, .bipush 6)]) (jtb_ok (by decide +kernel)) (pc' := 45) (lv' := [(0, vR t), (1, vI a1)]) (st' := [vI (kI 6)]) rfl ?_
      refine j_goto hx (off := 4) (by decide +kernel) (tgt := 49) (by decide) ?_
      exact j_iret hx hm (by decide +kernel) rfl (he _)
    refine j_runA hx 1 (tb := [(30, .iconst 1)]) (jtb_ok (by decide +kernel)) (pc' := 31) (lv' := [(0, vR t), (1, vI a1)]) (st' := [vI (kI 1)]) rfl ?_
    refine j_goto hx (off := 18) (by decide +kernel) (tgt := 49) (by decide) ?_
    exact j_iret hx hm (by decide +kernel) rfl (he _)
  refine j_runA hx 1 (tb := [(10, .aload_n 0)]) (jtb_ok (by decide +kernel)) (pc' := 11) (lv' := [(0, vR t), (1, vI a1)]) (st' := [vR t]) rfl ?_
  refine j_getR hx flX9_23 kl1410 h1 (by decide) (by decide +kernel) ?_
  refine j_runA hx 1 (tb := [(14, .iload_n 1)]) (jtb_ok (by decide +kernel)) (pc' := 15) (lv' := [(0, vR t), (1, vI a1)]) (st' := [vI a1, vR (jR W 1410 t)]) rfl ?_
  refine j_gd (fun h5 => ?_)
  refine j_iald hx (f := 1410) (o := t) kd1410 rfl (by decide +kernel) h5 ?_
  refine j_goto hx (off := 33) (by decide +kernel) (tgt := 49) (by decide) ?_
  exact j_iret hx hm (by decide +kernel) rfl (he _)
theorem chd_what (t : Nat) (a1 : Int32) (W : jW) : jM yX9_what cX9_what 2 (Option.some Jvm.ClassFile.FieldType.int) [] 0 0 [vR t, vI a1] W ((fhd_what t a1 W).bind (fun q => some (.returned (some (.int q)), W))) := 
  jM.of (Nat.le_of_ble_eq_true rfl) (fun x hx hm hr => whd_what ⟨hx, hm, hr, fun _ => rfl⟩)
def hhd_head (x : jCx) (en : (Int32) → Option (Outcome × jW)) (t : Nat) (a1 : Int32) (W : jW) : Prop :=
  jOK x RX9 cX9_head 2 ∧
  jMt x "head" (Option.some Jvm.ClassFile.FieldType.int) [] ∧
  jRm x 0 0 ∧
  (∀ q : Int32, en q = some (.returned (some (.int q)), W))
theorem whd_head {x : jCx} {en : (Int32) → Option (Outcome × jW)} {W : jW} {t : Nat} {a1 : Int32} (h : hhd_head x en t a1 W) : jJ x 2 0 [(0, vR t), (1, vI a1)] [] W (fhd_head t a1 W) en := by
  have h0 := h
  obtain ⟨hx, hm, hr, he⟩ := h0
  unfold fhd_head
  refine j_runA hx 1 (tb := [(0, .aload_n 0)]) (jtb_ok (by decide +kernel)) (pc' := 1) (lv' := [(0, vR t), (1, vI a1)]) (st' := [vR t]) rfl ?_
  refine j_gd (fun h1 => ?_)
  refine j_getL hx flX9_141 kd1405 h1 (by decide) (by decide +kernel) ?_
  refine j_runA hx 5 (tb := [(4, .l2i), (5, .bipush 64), (7, .iload_n 1), (8, .imul), (9, .iadd)]) (jtb_ok (by decide +kernel)) (pc' := 10) (lv' := [(0, vR t), (1, vI a1)]) (st' := [vI (((jL W 1405 t).toInt32) + ((kI 64) * a1))]) rfl ?_
  exact j_iret hx hm (by decide +kernel) rfl (he _)
theorem chd_head (t : Nat) (a1 : Int32) (W : jW) : jM yX9_head cX9_head 2 (Option.some Jvm.ClassFile.FieldType.int) [] 0 0 [vR t, vI a1] W ((fhd_head t a1 W).bind (fun q => some (.returned (some (.int q)), W))) := 
  jM.of (Nat.le_of_ble_eq_true rfl) (fun x hx hm hr => whd_head ⟨hx, hm, hr, fun _ => rfl⟩)
def hhd_aim (x : jCx) (en : (Int32) → Option (Outcome × jW)) (t : Nat) (a1 : Int32) (W : jW) : Prop :=
  jOK x RX9 cX9_aim 2 ∧
  jMt x "aim" (Option.some Jvm.ClassFile.FieldType.int) [] ∧
  jRm x 1 18 ∧
  (∀ q : Int32, en q = some (.returned (some (.int q)), W))
theorem whd_aim {x : jCx} {en : (Int32) → Option (Outcome × jW)} {W : jW} {t : Nat} {a1 : Int32} (h : hhd_aim x en t a1 W) : jJ x 2 0 [(0, vR t), (1, vI a1)] [] W (fhd_aim t a1 W) en := by
  have h0 := h
  obtain ⟨hx, hm, hr, he⟩ := h0
  unfold fhd_aim
  refine j_runA hx 3 (tb := [(0, .aload_n 0), (1, .aload_n 0), (2, .iload_n 1)]) (jtb_ok (by decide +kernel)) (pc' := 3) (lv' := [(0, vR t), (1, vI a1)]) (st' := [vI a1, vR t, vR t]) rfl ?_
  refine j_gd (fun h1 => ?_)
  refine j_OI (j_callV (av := [vI a1]) (st := [vR t]) hx hr (Or.inl q2870) q2872 qs129 rfl md_fhd_head np_fhd_head (chd_head t a1 W) (by decide) (Nat.le_of_ble_eq_true rfl) h1 (by decide) (by decide +kernel)) (fun q2 _ => ?_)
  refine j_runA hx 4 (tb := [(6, .bipush 44), (8, .iadd), (9, .i2l), (10, .iconst 4)]) (jtb_ok (by decide +kernel)) (pc' := 11) (lv' := [(0, vR t), (1, vI a1)]) (st' := [vI (kI 4), vL ((q2 + (kI 44)).toInt64), vR t]) rfl ?_
  refine j_OL (j_callV (av := [vL ((q2 + (kI 44)).toInt64), vI (kI 4)]) (st := []) hx hr (Or.inl q2822) q2823 q2824 rfl md_fhd_num np_fhd_num (chd_num t ((q2 + (kI 44)).toInt64) (kI 4) W) (by decide) (Nat.le_of_ble_eq_true rfl) h1 (by decide) (by decide +kernel)) (fun q3 _ => ?_)
  refine j_runA hx 1 (tb := [(14, .l2i)]) (jtb_ok (by decide +kernel)) (pc' := 15) (lv' := [(0, vR t), (1, vI a1)]) (st' := [vI q3.toInt32]) rfl ?_
  exact j_iret hx hm (by decide +kernel) rfl (he _)
theorem chd_aim (t : Nat) (a1 : Int32) (W : jW) : jM yX9_aim cX9_aim 2 (Option.some Jvm.ClassFile.FieldType.int) [] 1 18 [vR t, vI a1] W ((fhd_aim t a1 W).bind (fun q => some (.returned (some (.int q)), W))) := 
  jM.of (Nat.le_of_ble_eq_true rfl) (fun x hx hm hr => whd_aim ⟨hx, hm, hr, fun _ => rfl⟩)
def hmo_newAddress (x : jCx) (en : (Int64) → Option (Outcome × jW)) (t : Nat) (a1 : Int64) (W : jW) : Prop :=
  jOK x RX8 cX8_newAddress 3 ∧
  jMt x "newAddress" (Option.some Jvm.ClassFile.FieldType.long) [] ∧
  jRm x 1 17 ∧
  (∀ q : Int64, en q = some (.returned (some (.long q)), W))
theorem wmo_newAddress {x : jCx} {en : (Int64) → Option (Outcome × jW)} {W : jW} {t : Nat} {a1 : Int64} (h : hmo_newAddress x en t a1 W) : jJ x 3 0 [(0, vR t), (1, vL a1)] [] W (fmo_newAddress t a1 W) en := by
  have h0 := h
  obtain ⟨hx, hm, hr, he⟩ := h0
  unfold fmo_newAddress
  refine j_runA hx 2 (tb := [(0, .lload_n 1), (1, .aload_n 0)]) (jtb_ok (by decide +kernel)) (pc' := 2) (lv' := [(0, vR t), (1, vL a1)]) (st' := [vR t, vL a1]) rfl ?_
  refine j_gd (fun h1 => ?_)
  refine j_getL hx flX8_310 kd1313 h1 (by decide) (by decide +kernel) ?_
  refine j_ldc2 hx (v := (kJ 4)) (jkd2 q2931 (by decide +kernel)) (by decide +kernel) ?_
  refine j_runA hx 1 (tb := [(8, .aload_n 0)]) (jtb_ok (by decide +kernel)) (pc' := 9) (lv' := [(0, vR t), (1, vL a1)]) (st' := [vR t, vL (kJ 4), vL (jL W 1313 t), vL a1]) rfl ?_
  refine j_getI hx flX8_316 kd1310 h1 (by decide) (by decide +kernel) ?_
  refine j_runA hx 3 (tb := [(12, .i2l), (13, .lmul), (14, .ladd)]) (jtb_ok (by decide +kernel)) (pc' := 15) (lv' := [(0, vR t), (1, vL a1)]) (st' := [vL ((jL W 1313 t) + ((kJ 4) * ((jI W 1310 t).toInt64))), vL a1]) rfl ?_
  refine j_lcmp_ne hx (off := 23) (tgt := 39) (by decide +kernel) (by decide +kernel) (by decide) (fun _ => ?_) (fun _ => ?_)
  · refine j_runA hx 1 (tb := [(39, .aload_n 0)]) (jtb_ok (by decide +kernel)) (pc' := 40) (lv' := [(0, vR t), (1, vL a1)]) (st' := [vR t]) rfl ?_
    refine j_getL hx flX8_310 kd1313 h1 (by decide) (by decide +kernel) ?_
    refine j_ldc2 hx (v := (kJ 4)) (jkd2 q2931 (by decide +kernel)) (by decide +kernel) ?_
    refine j_runA hx 1 (tb := [(46, .aload_n 0)]) (jtb_ok (by decide +kernel)) (pc' := 47) (lv' := [(0, vR t), (1, vL a1)]) (st' := [vR t, vL (kJ 4), vL (jL W 1313 t)]) rfl ?_
    refine j_getR hx flX8_143 kl1350 h1 (by decide) (by decide +kernel) ?_
    refine j_runA hx 2 (tb := [(50, .lload_n 1), (51, .aload_n 0)]) (jtb_ok (by decide +kernel)) (pc' := 52) (lv' := [(0, vR t), (1, vL a1)]) (st' := [vR t, vL a1, vR (jR W 1350 t), vL (kJ 4), vL (jL W 1313 t)]) rfl ?_
    refine j_getL hx flX8_310 kd1313 h1 (by decide) (by decide +kernel) ?_
    refine j_runA hx 3 (tb := [(55, .lsub), (56, .l2i), (57, .iconst 4)]) (jtb_ok (by decide +kernel)) (pc' := 58) (lv' := [(0, vR t), (1, vL a1)]) (st' := [vI (kI 4), vI ((a1 - (jL W 1313 t)).toInt32), vR (jR W 1350 t), vL (kJ 4), vL (jL W 1313 t)]) rfl ?_
    refine j_idiv hx (by decide +kernel) (by decide +kernel) ?_
    refine j_gd (fun h2 => ?_)
    refine j_OI (j_callV (av := [vI (((a1 - (jL W 1313 t)).toInt32) / (kI 4))]) (st := [vL (kJ 4), vL (jL W 1313 t)]) hx hr (Or.inl q3276) q3195 q3196 rfl md_fwn_newWord np_fwn_newWord (cwn_newWord (jR W 1350 t) (((a1 - (jL W 1313 t)).toInt32) / (kI 4)) W) (by decide) (Nat.le_of_ble_eq_true rfl) h2 (by decide) (by decide +kernel)) (fun q3 _ => ?_)
    refine j_runA hx 3 (tb := [(62, .i2l), (63, .lmul), (64, .ladd)]) (jtb_ok (by decide +kernel)) (pc' := 65) (lv' := [(0, vR t), (1, vL a1)]) (st' := [vL ((jL W 1313 t) + ((kJ 4) * q3.toInt64))]) rfl ?_
    exact j_lret hx hm (by decide +kernel) (he _)
  refine j_runA hx 1 (tb := [(19, .aload_n 0)]) (jtb_ok (by decide +kernel)) (pc' := 20) (lv' := [(0, vR t), (1, vL a1)]) (st' := [vR t]) rfl ?_
  refine j_getL hx flX8_310 kd1313 h1 (by decide) (by decide +kernel) ?_
  refine j_ldc2 hx (v := (kJ 4)) (jkd2 q2931 (by decide +kernel)) (by decide +kernel) ?_
  refine j_runA hx 1 (tb := [(26, .aload_n 0)]) (jtb_ok (by decide +kernel)) (pc' := 27) (lv' := [(0, vR t), (1, vL a1)]) (st' := [vR t, vL (kJ 4), vL (jL W 1313 t)]) rfl ?_
  refine j_getR hx flX8_143 kl1350 h1 (by decide) (by decide +kernel) ?_
  refine j_gd (fun h4 => ?_)
  refine j_getI hx flX8_491 kd1508 h4 (by decide) (by decide +kernel) ?_
  refine j_runA hx 3 (tb := [(33, .i2l), (34, .lmul), (35, .ladd)]) (jtb_ok (by decide +kernel)) (pc' := 36) (lv' := [(0, vR t), (1, vL a1)]) (st' := [vL ((jL W 1313 t) + ((kJ 4) * ((jI W 1508 (jR W 1350 t)).toInt64)))]) rfl ?_
  refine j_goto hx (off := 29) (by decide +kernel) (tgt := 65) (by decide) ?_
  exact j_lret hx hm (by decide +kernel) (he _)
theorem cmo_newAddress (t : Nat) (a1 : Int64) (W : jW) : jM yX8_newAddress cX8_newAddress 3 (Option.some Jvm.ClassFile.FieldType.long) [] 1 17 [vR t, vL a1] W ((fmo_newAddress t a1 W).bind (fun q => some (.returned (some (.long q)), W))) := 
  jM.of (Nat.le_of_ble_eq_true rfl) (fun x hx hm hr => wmo_newAddress ⟨hx, hm, hr, fun _ => rfl⟩)
def hrn_put (x : jCx) (en : (frn_put_S ⊕ (jW)) → Option (Outcome × jW)) (t : Nat) (a1 : Int32) (a2 : Int32) (a3 : Int64) : Prop :=
  jOK x RX11 cX11_put 6 ∧
  jMt x "put" (Option.none : Option Jvm.ClassFile.FieldType) [] ∧
  jRm x 0 0 ∧
  (∀ q : jW, en (.inr q) = some (.returned none, q)) ∧
  (∀ (l5 : Int32) (W : jW), jJ x 6 3 [(0, vR t), (1, vI a1), (2, vI a2), (3, vL a3), (5, vI l5)] [] W (some (.inl (l5, W))) en)
theorem wrn_put_3 {x : jCx} {en : (frn_put_S ⊕ (jW)) → Option (Outcome × jW)} {t : Nat} {a1 : Int32} {a2 : Int32} {a3 : Int64} (h : hrn_put x en t a1 a2 a3) (l5 : Int32) (W : jW) : jJ x 6 3 [(0, vR t), (1, vI a1), (2, vI a2), (3, vL a3), (5, vI l5)] [] W (frn_put_3 t a1 a2 a3 l5 W) en := by
  have h0 := h
  obtain ⟨hx, hm, hr, he, k3⟩ := h0
  unfold frn_put_3
  refine j_runA hx 2 (tb := [(3, .iload 5), (5, .iload_n 2)]) (jtb_ok (by decide +kernel)) (pc' := 6) (lv' := [(0, vR t), (1, vI a1), (2, vI a2), (3, vL a3), (5, vI l5)]) (st' := [vI a2, vI l5]) rfl ?_
  refine j_icmp_ge hx (off := 27) (tgt := 33) (by decide +kernel) (by decide) (fun _ => ?_) (fun _ => ?_)
  · exact j_vret hx hm (by decide +kernel) (he _)
  refine j_runA hx 1 (tb := [(9, .aload_n 0)]) (jtb_ok (by decide +kernel)) (pc' := 10) (lv' := [(0, vR t), (1, vI a1), (2, vI a2), (3, vL a3), (5, vI l5)]) (st' := [vR t]) rfl ?_
  refine j_gd (fun h2 => ?_)
  refine j_getR hx flX11_24 kl1610 h2 (by decide) (by decide +kernel) ?_
  refine j_runA hx 10 (tb := [(13, .iload_n 1), (14, .iload 5), (16, .iadd), (17, .lload_n 3), (18, .bipush 8), (20, .iload 5), (22, .imul), (23, .lshr), (24, .l2i), (25, .i2b)]) (jtb_ok (by decide +kernel)) (pc' := 26) (lv' := [(0, vR t), (1, vI a1), (2, vI a2), (3, vL a3), (5, vI l5)]) (st' := [vI (i2b ((lxr a3 ((kI 8) * l5)).toInt32)), vI (a1 + l5), vR (jR W 1610 t)]) rfl ?_
  refine j_gd (fun h3 => ?_)
  refine j_bast hx (f := 1610) (o := t) kd1610 rfl (by decide +kernel) h3 ?_
  refine j_ltw rfl (fun W4 hc5 => ?_)
  have h6 : jC W4 t = 16 := (congrFun hc5 _).trans h2
  refine j_runA hx 1 (tb := [(27, .iinc 5 1)]) (jtb_ok (by decide +kernel)) (pc' := 30) (lv' := [(5, vI (l5 + (kI 1))), (0, vR t), (1, vI a1), (2, vI a2), (3, vL a3)]) (st' := []) rfl ?_
  refine j_let (v := (l5 + (kI 1))) (lv := fun v8 => [(5, vI v8), (0, vR t), (1, vI a1), (2, vI a2), (3, vL a3)]) (st := fun _ => []) (fun v8 => ?_)
  refine j_goto hx (off := -27) (by decide +kernel) (tgt := 3) (by decide) ?_
  refine j_lv (lv' := [(0, vR t), (1, vI a1), (2, vI a2), (3, vL a3), (5, vI v8)]) ⟨rfl, rfl, rfl, rfl, rfl, trivial⟩ ?_
  exact k3 v8 W4
theorem wrn_put {x : jCx} {en : (frn_put_S ⊕ (jW)) → Option (Outcome × jW)} {t : Nat} {a1 : Int32} {a2 : Int32} {a3 : Int64} (h : hrn_put x en t a1 a2 a3) (W : jW) : jJ x 6 0 [(0, vR t), (1, vI a1), (2, vI a2), (3, vL a3)] [] W (frn_put_0 t a1 a2 a3 W) en := by
  have h0 := h
  obtain ⟨hx, hm, hr, he, k3⟩ := h0
  unfold frn_put_0
  refine j_runA hx 2 (tb := [(0, .iconst 0), (1, .istore 5)]) (jtb_ok (by decide +kernel)) (pc' := 3) (lv' := [(5, vI (kI 0)), (0, vR t), (1, vI a1), (2, vI a2), (3, vL a3)]) (st' := []) rfl ?_
  refine j_lv (lv' := [(0, vR t), (1, vI a1), (2, vI a2), (3, vL a3), (5, vI (kI 0))]) ⟨rfl, rfl, rfl, rfl, rfl, trivial⟩ ?_
  exact k3 (kI 0) W
theorem crn_put (t : Nat) (a1 : Int32) (a2 : Int32) (a3 : Int64) (W : jW) : jM yX11_put cX11_put 6 (Option.none : Option Jvm.ClassFile.FieldType) [] 0 0 [vR t, vI a1, vI a2, vL a3] W ((frn_put t a1 a2 a3 W).bind (fun q => some (.returned none, q))) := by
  refine jM.of (Nat.le_of_ble_eq_true rfl) (fun x hx hm hr => ?_)
  refine j_begin (P := (fun s => (3, [(0, vR t), (1, vI a1), (2, vI a2), (3, vL a3), (5, vI s.1)], s.2))) (fun en he hk => ?_)
  have h : hrn_put x en t a1 a2 a3 := ⟨hx, hm, hr, fun q => he _, fun l5 W => hk (l5, W)⟩
  exact ⟨fun s => wrn_put_3 h s.1 s.2, wrn_put h W⟩
