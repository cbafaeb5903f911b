/-! ===== walks: fsh_section fsh_isCode fsh_isData fsh_isHeld fsh_areApart fsh_isOf fsh_isFixed fcl_isIn ===== -/
set_option maxRecDepth 100000
def hsh_section (x : jCx) (en : ((Nat × jW) ⊕ jW) → Option (Outcome × jW)) (t : Nat) (a1 : Int32) : Prop :=
  jOK x RX3 cX3_section 10 ∧
  jMt x "section" (Option.none : Option Jvm.ClassFile.FieldType) [] ∧
  jRm x 6 85 ∧
  (∀ q : jW, en (.inr q) = some (.returned none, q)) ∧
  (∀ z : Nat × jW, en (.inl z) = some (.threw (z.1 - 1), z.2))
theorem wsh_section_448 {x : jCx} {en : ((Nat × jW) ⊕ jW) → Option (Outcome × jW)} {t : Nat} {a1 : Int32} (h : hsh_section x en t a1) (l2 : Int32) (l3 : Int32) (l4 : Int64) (l6 : Int64) (l8 : Int64) (s0 : Int32) (s1 : Nat) (W : jW) : jJ x 10 448 [(0, vR t), (1, vI a1), (2, vI l2), (3, vI l3), (4, vL l4), (6, vL l6), (8, vL l8)] [vI s0, vR s1] W (fsh_section_448 t a1 l2 l3 l4 l6 l8 s0 s1 W) en := by
  have h0 := h
  obtain ⟨hx, hm, hr, he, ht⟩ := h0
  unfold fsh_section_448
  refine j_runA hx 7 (tb := [(448, .iconst 3), (449, .lload 6), (451, .lload 8), (453, .ladd), (454, .lconst 1), (455, .lsub), (456, .l2i)]) (jtb_ok (by decide +kernel)) (pc' := 457) (lv' := [(0, vR t), (1, vI a1), (2, vI l2), (3, vI l3), (4, vL l4), (6, vL l6), (8, vL l8)]) (st' := [vI (((l6 + l8) - (kJ 1)).toInt32), vI (kI 3), vI s0, vR s1]) rfl ?_
  refine j_gd (fun h64 => ?_)
  refine j_EV (j_callV (av := [vI s0, vI (kI 3), vI (((l6 + l8) - (kJ 1)).toInt32)]) (st := []) hx hr (Or.inl q757) q758 q759 rfl md_ftr_must np_ftr_must (ctr_must s1 s0 (kI 3) (((l6 + l8) - (kJ 1)).toInt32) W) (by decide) (Nat.le_of_ble_eq_true rfl) h64 (by decide) (by decide +kernel)) (fun z _ r h9 => j_upE hm hx (ht z) h9) (fun q65 _ => ?_)
  refine j_runA hx 1 (tb := [(460, .aload_n 0)]) (jtb_ok (by decide +kernel)) (pc' := 461) (lv' := [(0, vR t), (1, vI a1), (2, vI l2), (3, vI l3), (4, vL l4), (6, vL l6), (8, vL l8)]) (st' := [vR t]) rfl ?_
  refine j_gd (fun h67 => ?_)
  refine j_getR hx flX3_25 kl411 h67 (by decide) (by decide +kernel) ?_
  refine j_runA hx 2 (tb := [(464, .iload_n 1), (465, .iload_n 3)]) (jtb_ok (by decide +kernel)) (pc' := 466) (lv' := [(0, vR t), (1, vI a1), (2, vI l2), (3, vI l3), (4, vL l4), (6, vL l6), (8, vL l8)]) (st' := [vI l3, vI a1, vR (jR q65 411 t)]) rfl ?_
  refine j_gd (fun h68 => ?_)
  refine j_iast hx (f := 411) (o := t) kd411 rfl (by decide +kernel) h68 ?_
  refine j_ltw rfl (fun W69 hc70 => ?_)
  have h71 : jC W69 t = 4 := (congrFun hc70 _).trans h67
  refine j_runA hx 1 (tb := [(467, .aload_n 0)]) (jtb_ok (by decide +kernel)) (pc' := 468) (lv' := [(0, vR t), (1, vI a1), (2, vI l2), (3, vI l3), (4, vL l4), (6, vL l6), (8, vL l8)]) (st' := [vR t]) rfl ?_
  refine j_getR hx flX3_28 kl412 h71 (by decide) (by decide +kernel) ?_
  refine j_runA hx 3 (tb := [(471, .iload_n 1), (472, .lload 4), (474, .l2i)]) (jtb_ok (by decide +kernel)) (pc' := 475) (lv' := [(0, vR t), (1, vI a1), (2, vI l2), (3, vI l3), (4, vL l4), (6, vL l6), (8, vL l8)]) (st' := [vI l4.toInt32, vI a1, vR (jR W69 412 t)]) rfl ?_
  refine j_gd (fun h73 => ?_)
  refine j_iast hx (f := 412) (o := t) kd412 rfl (by decide +kernel) h73 ?_
  refine j_ltw rfl (fun W74 hc75 => ?_)
  have h76 : jC W74 t = 4 := (congrFun hc75 _).trans h71
  refine j_runA hx 1 (tb := [(476, .aload_n 0)]) (jtb_ok (by decide +kernel)) (pc' := 477) (lv' := [(0, vR t), (1, vI a1), (2, vI l2), (3, vI l3), (4, vL l4), (6, vL l6), (8, vL l8)]) (st' := [vR t]) rfl ?_
  refine j_getR hx flX3_31 kl413 h76 (by decide) (by decide +kernel) ?_
  refine j_runA hx 2 (tb := [(480, .iload_n 1), (481, .aload_n 0)]) (jtb_ok (by decide +kernel)) (pc' := 482) (lv' := [(0, vR t), (1, vI a1), (2, vI l2), (3, vI l3), (4, vL l4), (6, vL l6), (8, vL l8)]) (st' := [vR t, vI a1, vR (jR W74 413 t)]) rfl ?_
  refine j_getR hx flX3_57 kl401 h76 (by decide) (by decide +kernel) ?_
  refine j_runA hx 3 (tb := [(485, .iload_n 2), (486, .bipush 16), (488, .iadd)]) (jtb_ok (by decide +kernel)) (pc' := 489) (lv' := [(0, vR t), (1, vI a1), (2, vI l2), (3, vI l3), (4, vL l4), (6, vL l6), (8, vL l8)]) (st' := [vI (l2 + (kI 16)), vR (jR W74 401 t), vI a1, vR (jR W74 413 t)]) rfl ?_
  refine j_gd (fun h78 => ?_)
  refine j_OL (h78.elim (fun hh => j_callU (av := [vI (l2 + (kI 16))]) (st := [vI a1, vR (jR W74 413 t)]) hx hr q761 q763 (hde_fsr_pair) (by decide) q762 q764 rfl md_fsr_pair np_fsr_pair (csr_pair (jR W74 401 t) (l2 + (kI 16)) W74) (by decide) (Nat.le_of_ble_eq_true rfl) hh (by decide) (by decide +kernel)) (fun hh => j_callU (av := [vI (l2 + (kI 16))]) (st := [vI a1, vR (jR W74 413 t)]) hx hr q761 q763 (hde_fsr_pair) (by decide) q762 q765 rfl md_fsr_pair np_fsr_pair (csr_pair (jR W74 401 t) (l2 + (kI 16)) W74) (by decide) (Nat.le_of_ble_eq_true rfl) hh (by decide) (by decide +kernel))) (fun q79 _ => ?_)
  refine j_gd (fun h80 => ?_)
  refine j_last hx (f := 413) (o := t) kd413 rfl (by decide +kernel) h80 ?_
  refine j_ltw rfl (fun W81 hc82 => ?_)
  have h83 : jC W81 t = 4 := (congrFun hc82 _).trans h76
  refine j_runA hx 1 (tb := [(493, .aload_n 0)]) (jtb_ok (by decide +kernel)) (pc' := 494) (lv' := [(0, vR t), (1, vI a1), (2, vI l2), (3, vI l3), (4, vL l4), (6, vL l6), (8, vL l8)]) (st' := [vR t]) rfl ?_
  refine j_getR hx flX3_34 kl414 h83 (by decide) (by decide +kernel) ?_
  refine j_runA hx 3 (tb := [(497, .iload_n 1), (498, .lload 6), (500, .l2i)]) (jtb_ok (by decide +kernel)) (pc' := 501) (lv' := [(0, vR t), (1, vI a1), (2, vI l2), (3, vI l3), (4, vL l4), (6, vL l6), (8, vL l8)]) (st' := [vI l6.toInt32, vI a1, vR (jR W81 414 t)]) rfl ?_
  refine j_gd (fun h85 => ?_)
  refine j_iast hx (f := 414) (o := t) kd414 rfl (by decide +kernel) h85 ?_
  refine j_ltw rfl (fun W86 hc87 => ?_)
  have h88 : jC W86 t = 4 := (congrFun hc87 _).trans h83
  refine j_runA hx 1 (tb := [(502, .aload_n 0)]) (jtb_ok (by decide +kernel)) (pc' := 503) (lv' := [(0, vR t), (1, vI a1), (2, vI l2), (3, vI l3), (4, vL l4), (6, vL l6), (8, vL l8)]) (st' := [vR t]) rfl ?_
  refine j_getR hx flX3_37 kl415 h88 (by decide) (by decide +kernel) ?_
  refine j_runA hx 3 (tb := [(506, .iload_n 1), (507, .lload 8), (509, .l2i)]) (jtb_ok (by decide +kernel)) (pc' := 510) (lv' := [(0, vR t), (1, vI a1), (2, vI l2), (3, vI l3), (4, vL l4), (6, vL l6), (8, vL l8)]) (st' := [vI l8.toInt32, vI a1, vR (jR W86 415 t)]) rfl ?_
  refine j_gd (fun h90 => ?_)
  refine j_iast hx (f := 415) (o := t) kd415 rfl (by decide +kernel) h90 ?_
  refine j_ltw rfl (fun W91 hc92 => ?_)
  have h93 : jC W91 t = 4 := (congrFun hc92 _).trans h88
  refine j_runA hx 1 (tb := [(511, .aload_n 0)]) (jtb_ok (by decide +kernel)) (pc' := 512) (lv' := [(0, vR t), (1, vI a1), (2, vI l2), (3, vI l3), (4, vL l4), (6, vL l6), (8, vL l8)]) (st' := [vR t]) rfl ?_
  refine j_getR hx flX3_40 kl416 h93 (by decide) (by decide +kernel) ?_
  refine j_runA hx 2 (tb := [(515, .iload_n 1), (516, .aload_n 0)]) (jtb_ok (by decide +kernel)) (pc' := 517) (lv' := [(0, vR t), (1, vI a1), (2, vI l2), (3, vI l3), (4, vL l4), (6, vL l6), (8, vL l8)]) (st' := [vR t, vI a1, vR (jR W91 416 t)]) rfl ?_
  refine j_getR hx flX3_57 kl401 h93 (by decide) (by decide +kernel) ?_
  refine j_runA hx 3 (tb := [(520, .iload_n 2), (521, .bipush 40), (523, .iadd)]) (jtb_ok (by decide +kernel)) (pc' := 524) (lv' := [(0, vR t), (1, vI a1), (2, vI l2), (3, vI l3), (4, vL l4), (6, vL l6), (8, vL l8)]) (st' := [vI (l2 + (kI 40)), vR (jR W91 401 t), vI a1, vR (jR W91 416 t)]) rfl ?_
  refine j_gd (fun h95 => ?_)
  refine j_OI (h95.elim (fun hh => j_callU (av := [vI (l2 + (kI 40))]) (st := [vI a1, vR (jR W91 416 t)]) hx hr q808 q769 (hde_fsr_word) (by decide) q768 q770 rfl md_fsr_word np_fsr_word (csr_word (jR W91 401 t) (l2 + (kI 40)) W91) (by decide) (Nat.le_of_ble_eq_true rfl) hh (by decide) (by decide +kernel)) (fun hh => j_callU (av := [vI (l2 + (kI 40))]) (st := [vI a1, vR (jR W91 416 t)]) hx hr q808 q769 (hde_fsr_word) (by decide) q768 q771 rfl md_fsr_word np_fsr_word (csr_word (jR W91 401 t) (l2 + (kI 40)) W91) (by decide) (Nat.le_of_ble_eq_true rfl) hh (by decide) (by decide +kernel))) (fun q96 _ => ?_)
  refine j_gd (fun h97 => ?_)
  refine j_iast hx (f := 416) (o := t) kd416 rfl (by decide +kernel) h97 ?_
  refine j_ltw rfl (fun W98 hc99 => ?_)
  have h100 : jC W98 t = 4 := (congrFun hc99 _).trans h93
  refine j_runA hx 1 (tb := [(528, .aload_n 0)]) (jtb_ok (by decide +kernel)) (pc' := 529) (lv' := [(0, vR t), (1, vI a1), (2, vI l2), (3, vI l3), (4, vL l4), (6, vL l6), (8, vL l8)]) (st' := [vR t]) rfl ?_
  refine j_getR hx flX3_43 kl417 h100 (by decide) (by decide +kernel) ?_
  refine j_runA hx 2 (tb := [(532, .iload_n 1), (533, .aload_n 0)]) (jtb_ok (by decide +kernel)) (pc' := 534) (lv' := [(0, vR t), (1, vI a1), (2, vI l2), (3, vI l3), (4, vL l4), (6, vL l6), (8, vL l8)]) (st' := [vR t, vI a1, vR (jR W98 417 t)]) rfl ?_
  refine j_getR hx flX3_57 kl401 h100 (by decide) (by decide +kernel) ?_
  refine j_runA hx 3 (tb := [(537, .iload_n 2), (538, .bipush 44), (540, .iadd)]) (jtb_ok (by decide +kernel)) (pc' := 541) (lv' := [(0, vR t), (1, vI a1), (2, vI l2), (3, vI l3), (4, vL l4), (6, vL l6), (8, vL l8)]) (st' := [vI (l2 + (kI 44)), vR (jR W98 401 t), vI a1, vR (jR W98 417 t)]) rfl ?_
  refine j_gd (fun h102 => ?_)
  refine j_OI (h102.elim (fun hh => j_callU (av := [vI (l2 + (kI 44))]) (st := [vI a1, vR (jR W98 417 t)]) hx hr q808 q769 (hde_fsr_word) (by decide) q768 q770 rfl md_fsr_word np_fsr_word (csr_word (jR W98 401 t) (l2 + (kI 44)) W98) (by decide) (Nat.le_of_ble_eq_true rfl) hh (by decide) (by decide +kernel)) (fun hh => j_callU (av := [vI (l2 + (kI 44))]) (st := [vI a1, vR (jR W98 417 t)]) hx hr q808 q769 (hde_fsr_word) (by decide) q768 q771 rfl md_fsr_word np_fsr_word (csr_word (jR W98 401 t) (l2 + (kI 44)) W98) (by decide) (Nat.le_of_ble_eq_true rfl) hh (by decide) (by decide +kernel))) (fun q103 _ => ?_)
  refine j_gd (fun h104 => ?_)
  refine j_iast hx (f := 417) (o := t) kd417 rfl (by decide +kernel) h104 ?_
  refine j_ltw rfl (fun W105 hc106 => ?_)
  have h107 : jC W105 t = 4 := (congrFun hc106 _).trans h100
  exact j_vret hx hm (by decide +kernel) (he _)
theorem wsh_section_443 {x : jCx} {en : ((Nat × jW) ⊕ jW) → Option (Outcome × jW)} {t : Nat} {a1 : Int32} (h : hsh_section x en t a1) (l2 : Int32) (l3 : Int32) (l4 : Int64) (l6 : Int64) (l8 : Int64) (s0 : Nat) (W : jW) : jJ x 10 443 [(0, vR t), (1, vI a1), (2, vI l2), (3, vI l3), (4, vL l4), (6, vL l6), (8, vL l8)] [vR s0] W (fsh_section_443 t a1 l2 l3 l4 l6 l8 s0 W) en := by
  have h0 := h
  obtain ⟨hx, hm, hr, he, ht⟩ := h0
  unfold fsh_section_443
  refine j_runA hx 1 (tb := [(443, .iconst 1)]) (jtb_ok (by decide +kernel)) (pc' := 444) (lv' := [(0, vR t), (1, vI a1), (2, vI l2), (3, vI l3), (4, vL l4), (6, vL l6), (8, vL l8)]) (st' := [vI (kI 1), vR s0]) rfl ?_
  refine j_goto hx (off := 4) (by decide +kernel) (tgt := 448) (by decide) ?_
  exact wsh_section_448 h l2 l3 l4 l6 l8 (kI 1) s0 W
theorem wsh_section_409 {x : jCx} {en : ((Nat × jW) ⊕ jW) → Option (Outcome × jW)} {t : Nat} {a1 : Int32} (h : hsh_section x en t a1) (l2 : Int32) (l3 : Int32) (l4 : Int64) (l6 : Int64) (l8 : Int64) (s0 : Int32) (s1 : Nat) (W : jW) : jJ x 10 409 [(0, vR t), (1, vI a1), (2, vI l2), (3, vI l3), (4, vL l4), (6, vL l6), (8, vL l8)] [vI s0, vR s1] W (fsh_section_409 t a1 l2 l3 l4 l6 l8 s0 s1 W) en := by
  have h0 := h
  obtain ⟨hx, hm, hr, he, ht⟩ := h0
  unfold fsh_section_409
  refine j_runA hx 3 (tb := [(409, .iconst 3), (410, .lload 6), (412, .l2i)]) (jtb_ok (by decide +kernel)) (pc' := 413) (lv' := [(0, vR t), (1, vI a1), (2, vI l2), (3, vI l3), (4, vL l4), (6, vL l6), (8, vL l8)]) (st' := [vI l6.toInt32, vI (kI 3), vI s0, vR s1]) rfl ?_
  refine j_gd (fun h57 => ?_)
  refine j_EV (j_callV (av := [vI s0, vI (kI 3), vI l6.toInt32]) (st := []) hx hr (Or.inl q757) q758 q759 rfl md_ftr_must np_ftr_must (ctr_must s1 s0 (kI 3) l6.toInt32 W) (by decide) (Nat.le_of_ble_eq_true rfl) h57 (by decide) (by decide +kernel)) (fun z _ r h9 => j_upE hm hx (ht z) h9) (fun q58 _ => ?_)
  refine j_runA hx 1 (tb := [(416, .aload_n 0)]) (jtb_ok (by decide +kernel)) (pc' := 417) (lv' := [(0, vR t), (1, vI a1), (2, vI l2), (3, vI l3), (4, vL l4), (6, vL l6), (8, vL l8)]) (st' := [vR t]) rfl ?_
  refine j_gd (fun h60 => ?_)
  refine j_getR hx flX3_53 kl400 h60 (by decide) (by decide +kernel) ?_
  refine j_runA hx 2 (tb := [(420, .iload_n 3), (421, .iconst 3)]) (jtb_ok (by decide +kernel)) (pc' := 422) (lv' := [(0, vR t), (1, vI a1), (2, vI l2), (3, vI l3), (4, vL l4), (6, vL l6), (8, vL l8)]) (st' := [vI (kI 3), vI l3, vR (jR q58 400 t)]) rfl ?_
  refine j_icmp_ne hx (off := 21) (tgt := 443) (by decide +kernel) (by decide) (fun _ => ?_) (fun _ => ?_)
  · exact wsh_section_443 h l2 l3 l4 l6 l8 (jR q58 400 t) q58
  refine j_runA hx 1 (tb := [(425, .aload_n 0)]) (jtb_ok (by decide +kernel)) (pc' := 426) (lv' := [(0, vR t), (1, vI a1), (2, vI l2), (3, vI l3), (4, vL l4), (6, vL l6), (8, vL l8)]) (st' := [vR t, vR (jR q58 400 t)]) rfl ?_
  refine j_getR hx flX3_57 kl401 h60 (by decide) (by decide +kernel) ?_
  refine j_runA hx 6 (tb := [(429, .lload 6), (431, .lload 8), (433, .ladd), (434, .lconst 1), (435, .lsub), (436, .l2i)]) (jtb_ok (by decide +kernel)) (pc' := 437) (lv' := [(0, vR t), (1, vI a1), (2, vI l2), (3, vI l3), (4, vL l4), (6, vL l6), (8, vL l8)]) (st' := [vI (((l6 + l8) - (kJ 1)).toInt32), vR (jR q58 401 t), vR (jR q58 400 t)]) rfl ?_
  refine j_gd (fun h61 => ?_)
  refine j_OI (h61.elim (fun hh => vd_fsr_at_l hh (j_callU (av := [vI (((l6 + l8) - (kJ 1)).toInt32)]) (st := [vR (jR q58 400 t)]) hx hr q844 q781 (hde_fsr_at) (by decide) q783 q782 rfl md_fhe_at np_fsr_at (che_at (jR q58 401 t) (((l6 + l8) - (kJ 1)).toInt32) q58) (by decide) (Nat.le_of_ble_eq_true rfl) hh (by decide) (by decide +kernel))) (fun hh => vd_fsr_at_r hh (j_callU (av := [vI (((l6 + l8) - (kJ 1)).toInt32)]) (st := [vR (jR q58 400 t)]) hx hr q844 q781 (hde_fsr_at) (by decide) q786 q785 rfl md_fwr_at np_fsr_at (cwr_at (jR q58 401 t) (((l6 + l8) - (kJ 1)).toInt32) q58) (by decide) (Nat.le_of_ble_eq_true rfl) hh (by decide) (by decide +kernel)))) (fun q62 _ => ?_)
  refine j_if_ne hx (off := 7) (tgt := 447) (by decide +kernel) (by decide) (fun _ => ?_) (fun _ => ?_)
  · refine j_runA hx 1 (tb := [(447, .iconst 0)]) (jtb_ok (by decide +kernel)) (pc' := 448) (lv' := [(0, vR t), (1, vI a1), (2, vI l2), (3, vI l3), (4, vL l4), (6, vL l6), (8, vL l8)]) (st' := [vI (kI 0), vR (jR q58 400 t)]) rfl ?_
    exact wsh_section_448 h l2 l3 l4 l6 l8 (kI 0) (jR q58 400 t) q58
  exact wsh_section_443 h l2 l3 l4 l6 l8 (jR q58 400 t) q58
theorem wsh_section_404 {x : jCx} {en : ((Nat × jW) ⊕ jW) → Option (Outcome × jW)} {t : Nat} {a1 : Int32} (h : hsh_section x en t a1) (l2 : Int32) (l3 : Int32) (l4 : Int64) (l6 : Int64) (l8 : Int64) (s0 : Nat) (W : jW) : jJ x 10 404 [(0, vR t), (1, vI a1), (2, vI l2), (3, vI l3), (4, vL l4), (6, vL l6), (8, vL l8)] [vR s0] W (fsh_section_404 t a1 l2 l3 l4 l6 l8 s0 W) en := by
  have h0 := h
  obtain ⟨hx, hm, hr, he, ht⟩ := h0
  unfold fsh_section_404
  refine j_runA hx 1 (tb := [(404, .iconst 1)]) (jtb_ok (by decide +kernel)) (pc' := 405) (lv' := [(0, vR t), (1, vI a1), (2, vI l2), (3, vI l3), (4, vL l4), (6, vL l6), (8, vL l8)]) (st' := [vI (kI 1), vR s0]) rfl ?_
  refine j_goto hx (off := 4) (by decide +kernel) (tgt := 409) (by decide) ?_
  exact wsh_section_409 h l2 l3 l4 l6 l8 (kI 1) s0 W
theorem wsh_section_374 {x : jCx} {en : ((Nat × jW) ⊕ jW) → Option (Outcome × jW)} {t : Nat} {a1 : Int32} (h : hsh_section x en t a1) (l2 : Int32) (l3 : Int32) (l4 : Int64) (l6 : Int64) (l8 : Int64) (s0 : Int32) (s1 : Nat) (W : jW) : jJ x 10 374 [(0, vR t), (1, vI a1), (2, vI l2), (3, vI l3), (4, vL l4), (6, vL l6), (8, vL l8)] [vI s0, vR s1] W (fsh_section_374 t a1 l2 l3 l4 l6 l8 s0 s1 W) en := by
  have h0 := h
  obtain ⟨hx, hm, hr, he, ht⟩ := h0
  unfold fsh_section_374
  refine j_runA hx 4 (tb := [(374, .iconst 3), (375, .iload_n 2), (376, .bipush 56), (378, .iadd)]) (jtb_ok (by decide +kernel)) (pc' := 379) (lv' := [(0, vR t), (1, vI a1), (2, vI l2), (3, vI l3), (4, vL l4), (6, vL l6), (8, vL l8)]) (st' := [vI (l2 + (kI 56)), vI (kI 3), vI s0, vR s1]) rfl ?_
  refine j_gd (fun h50 => ?_)
  refine j_EV (j_callV (av := [vI s0, vI (kI 3), vI (l2 + (kI 56))]) (st := []) hx hr (Or.inl q757) q758 q759 rfl md_ftr_must np_ftr_must (ctr_must s1 s0 (kI 3) (l2 + (kI 56)) W) (by decide) (Nat.le_of_ble_eq_true rfl) h50 (by decide) (by decide +kernel)) (fun z _ r h9 => j_upE hm hx (ht z) h9) (fun q51 _ => ?_)
  refine j_runA hx 1 (tb := [(382, .aload_n 0)]) (jtb_ok (by decide +kernel)) (pc' := 383) (lv' := [(0, vR t), (1, vI a1), (2, vI l2), (3, vI l3), (4, vL l4), (6, vL l6), (8, vL l8)]) (st' := [vR t]) rfl ?_
  refine j_gd (fun h53 => ?_)
  refine j_getR hx flX3_53 kl400 h53 (by decide) (by decide +kernel) ?_
  refine j_runA hx 2 (tb := [(386, .iload_n 3), (387, .iconst 3)]) (jtb_ok (by decide +kernel)) (pc' := 388) (lv' := [(0, vR t), (1, vI a1), (2, vI l2), (3, vI l3), (4, vL l4), (6, vL l6), (8, vL l8)]) (st' := [vI (kI 3), vI l3, vR (jR q51 400 t)]) rfl ?_
  refine j_icmp_ne hx (off := 16) (tgt := 404) (by decide +kernel) (by decide) (fun _ => ?_) (fun _ => ?_)
  · exact wsh_section_404 h l2 l3 l4 l6 l8 (jR q51 400 t) q51
  refine j_runA hx 1 (tb := [(391, .aload_n 0)]) (jtb_ok (by decide +kernel)) (pc' := 392) (lv' := [(0, vR t), (1, vI a1), (2, vI l2), (3, vI l3), (4, vL l4), (6, vL l6), (8, vL l8)]) (st' := [vR t, vR (jR q51 400 t)]) rfl ?_
  refine j_getR hx flX3_57 kl401 h53 (by decide) (by decide +kernel) ?_
  refine j_runA hx 2 (tb := [(395, .lload 6), (397, .l2i)]) (jtb_ok (by decide +kernel)) (pc' := 398) (lv' := [(0, vR t), (1, vI a1), (2, vI l2), (3, vI l3), (4, vL l4), (6, vL l6), (8, vL l8)]) (st' := [vI l6.toInt32, vR (jR q51 401 t), vR (jR q51 400 t)]) rfl ?_
  refine j_gd (fun h54 => ?_)
  refine j_OI (h54.elim (fun hh => vd_fsr_at_l hh (j_callU (av := [vI l6.toInt32]) (st := [vR (jR q51 400 t)]) hx hr q844 q781 (hde_fsr_at) (by decide) q783 q782 rfl md_fhe_at np_fsr_at (che_at (jR q51 401 t) l6.toInt32 q51) (by decide) (Nat.le_of_ble_eq_true rfl) hh (by decide) (by decide +kernel))) (fun hh => vd_fsr_at_r hh (j_callU (av := [vI l6.toInt32]) (st := [vR (jR q51 400 t)]) hx hr q844 q781 (hde_fsr_at) (by decide) q786 q785 rfl md_fwr_at np_fsr_at (cwr_at (jR q51 401 t) l6.toInt32 q51) (by decide) (Nat.le_of_ble_eq_true rfl) hh (by decide) (by decide +kernel)))) (fun q55 _ => ?_)
  refine j_if_ne hx (off := 7) (tgt := 408) (by decide +kernel) (by decide) (fun _ => ?_) (fun _ => ?_)
  · refine j_runA hx 1 (tb := [(408, .iconst 0)]) (jtb_ok (by decide +kernel)) (pc' := 409) (lv' := [(0, vR t), (1, vI a1), (2, vI l2), (3, vI l3), (4, vL l4), (6, vL l6), (8, vL l8)]) (st' := [vI (kI 0), vR (jR q51 400 t)]) rfl ?_
    exact wsh_section_409 h l2 l3 l4 l6 l8 (kI 0) (jR q51 400 t) q51
  exact wsh_section_404 h l2 l3 l4 l6 l8 (jR q51 400 t) q51
theorem wsh_section_369 {x : jCx} {en : ((Nat × jW) ⊕ jW) → Option (Outcome × jW)} {t : Nat} {a1 : Int32} (h : hsh_section x en t a1) (l2 : Int32) (l3 : Int32) (l4 : Int64) (l6 : Int64) (l8 : Int64) (s0 : Nat) (W : jW) : jJ x 10 369 [(0, vR t), (1, vI a1), (2, vI l2), (3, vI l3), (4, vL l4), (6, vL l6), (8, vL l8)] [vR s0] W (fsh_section_369 t a1 l2 l3 l4 l6 l8 s0 W) en := by
  have h0 := h
  obtain ⟨hx, hm, hr, he, ht⟩ := h0
  unfold fsh_section_369
  refine j_runA hx 1 (tb := [(369, .iconst 1)]) (jtb_ok (by decide +kernel)) (pc' := 370) (lv' := [(0, vR t), (1, vI a1), (2, vI l2), (3, vI l3), (4, vL l4), (6, vL l6), (8, vL l8)]) (st' := [vI (kI 1), vR s0]) rfl ?_
  refine j_goto hx (off := 4) (by decide +kernel) (tgt := 374) (by decide) ?_
  exact wsh_section_374 h l2 l3 l4 l6 l8 (kI 1) s0 W
theorem wsh_section_351 {x : jCx} {en : ((Nat × jW) ⊕ jW) → Option (Outcome × jW)} {t : Nat} {a1 : Int32} (h : hsh_section x en t a1) (l2 : Int32) (l3 : Int32) (l4 : Int64) (l6 : Int64) (l8 : Int64) (s0 : Nat) (W : jW) : jJ x 10 351 [(0, vR t), (1, vI a1), (2, vI l2), (3, vI l3), (4, vL l4), (6, vL l6), (8, vL l8)] [vR s0] W (fsh_section_351 t a1 l2 l3 l4 l6 l8 s0 W) en := by
  have h0 := h
  obtain ⟨hx, hm, hr, he, ht⟩ := h0
  unfold fsh_section_351
  refine j_runA hx 1 (tb := [(351, .aload_n 0)]) (jtb_ok (by decide +kernel)) (pc' := 352) (lv' := [(0, vR t), (1, vI a1), (2, vI l2), (3, vI l3), (4, vL l4), (6, vL l6), (8, vL l8)]) (st' := [vR t, vR s0]) rfl ?_
  refine j_gd (fun h112 => ?_)
  refine j_getR hx flX3_57 kl401 h112 (by decide) (by decide +kernel) ?_
  refine j_runA hx 3 (tb := [(355, .iload_n 2), (356, .bipush 56), (358, .iadd)]) (jtb_ok (by decide +kernel)) (pc' := 359) (lv' := [(0, vR t), (1, vI a1), (2, vI l2), (3, vI l3), (4, vL l4), (6, vL l6), (8, vL l8)]) (st' := [vI (l2 + (kI 56)), vR (jR W 401 t), vR s0]) rfl ?_
  refine j_gd (fun h113 => ?_)
  refine j_OL (h113.elim (fun hh => j_callU (av := [vI (l2 + (kI 56))]) (st := [vR s0]) hx hr q761 q763 (hde_fsr_pair) (by decide) q762 q764 rfl md_fsr_pair np_fsr_pair (csr_pair (jR W 401 t) (l2 + (kI 56)) W) (by decide) (Nat.le_of_ble_eq_true rfl) hh (by decide) (by decide +kernel)) (fun hh => j_callU (av := [vI (l2 + (kI 56))]) (st := [vR s0]) hx hr q761 q763 (hde_fsr_pair) (by decide) q762 q765 rfl md_fsr_pair np_fsr_pair (csr_pair (jR W 401 t) (l2 + (kI 56)) W) (by decide) (Nat.le_of_ble_eq_true rfl) hh (by decide) (by decide +kernel))) (fun q114 _ => ?_)
  refine j_ldc2 hx (v := (kJ 24)) (jkd2 q843 (by decide +kernel)) (by decide +kernel) ?_
  refine j_lcmp_ne hx (off := 7) (tgt := 373) (by decide +kernel) (by decide +kernel) (by decide) (fun _ => ?_) (fun _ => ?_)
  · refine j_runA hx 1 (tb := [(373, .iconst 0)]) (jtb_ok (by decide +kernel)) (pc' := 374) (lv' := [(0, vR t), (1, vI a1), (2, vI l2), (3, vI l3), (4, vL l4), (6, vL l6), (8, vL l8)]) (st' := [vI (kI 0), vR s0]) rfl ?_
    exact wsh_section_374 h l2 l3 l4 l6 l8 (kI 0) s0 W
  exact wsh_section_369 h l2 l3 l4 l6 l8 s0 W
theorem wsh_section_329 {x : jCx} {en : ((Nat × jW) ⊕ jW) → Option (Outcome × jW)} {t : Nat} {a1 : Int32} (h : hsh_section x en t a1) (l2 : Int32) (l3 : Int32) (l4 : Int64) (l6 : Int64) (l8 : Int64) (s0 : Int32) (s1 : Nat) (W : jW) : jJ x 10 329 [(0, vR t), (1, vI a1), (2, vI l2), (3, vI l3), (4, vL l4), (6, vL l6), (8, vL l8)] [vI s0, vR s1] W (fsh_section_329 t a1 l2 l3 l4 l6 l8 s0 s1 W) en := by
  have h0 := h
  obtain ⟨hx, hm, hr, he, ht⟩ := h0
  unfold fsh_section_329
  refine j_runA hx 4 (tb := [(329, .iconst 3), (330, .iload_n 2), (331, .bipush 32), (333, .iadd)]) (jtb_ok (by decide +kernel)) (pc' := 334) (lv' := [(0, vR t), (1, vI a1), (2, vI l2), (3, vI l3), (4, vL l4), (6, vL l6), (8, vL l8)]) (st' := [vI (l2 + (kI 32)), vI (kI 3), vI s0, vR s1]) rfl ?_
  refine j_gd (fun h44 => ?_)
  refine j_EV (j_callV (av := [vI s0, vI (kI 3), vI (l2 + (kI 32))]) (st := []) hx hr (Or.inl q757) q758 q759 rfl md_ftr_must np_ftr_must (ctr_must s1 s0 (kI 3) (l2 + (kI 32)) W) (by decide) (Nat.le_of_ble_eq_true rfl) h44 (by decide) (by decide +kernel)) (fun z _ r h9 => j_upE hm hx (ht z) h9) (fun q45 _ => ?_)
  refine j_runA hx 1 (tb := [(337, .aload_n 0)]) (jtb_ok (by decide +kernel)) (pc' := 338) (lv' := [(0, vR t), (1, vI a1), (2, vI l2), (3, vI l3), (4, vL l4), (6, vL l6), (8, vL l8)]) (st' := [vR t]) rfl ?_
  refine j_gd (fun h47 => ?_)
  refine j_getR hx flX3_53 kl400 h47 (by decide) (by decide +kernel) ?_
  refine j_runA hx 2 (tb := [(341, .iload_n 3), (342, .iconst 2)]) (jtb_ok (by decide +kernel)) (pc' := 343) (lv' := [(0, vR t), (1, vI a1), (2, vI l2), (3, vI l3), (4, vL l4), (6, vL l6), (8, vL l8)]) (st' := [vI (kI 2), vI l3, vR (jR q45 400 t)]) rfl ?_
  refine j_icmp_eq hx (off := 8) (tgt := 351) (by decide +kernel) (by decide) (fun _ => ?_) (fun _ => ?_)
  · exact wsh_section_351 h l2 l3 l4 l6 l8 (jR q45 400 t) q45
  refine j_runA hx 2 (tb := [(346, .iload_n 3), (347, .iconst 4)]) (jtb_ok (by decide +kernel)) (pc' := 348) (lv' := [(0, vR t), (1, vI a1), (2, vI l2), (3, vI l3), (4, vL l4), (6, vL l6), (8, vL l8)]) (st' := [vI (kI 4), vI l3, vR (jR q45 400 t)]) rfl ?_
  refine j_icmp_ne hx (off := 21) (tgt := 369) (by decide +kernel) (by decide) (fun _ => ?_) (fun _ => ?_)
  · exact wsh_section_369 h l2 l3 l4 l6 l8 (jR q45 400 t) q45
  exact wsh_section_351 h l2 l3 l4 l6 l8 (jR q45 400 t) q45
theorem wsh_section_324 {x : jCx} {en : ((Nat × jW) ⊕ jW) → Option (Outcome × jW)} {t : Nat} {a1 : Int32} (h : hsh_section x en t a1) (l2 : Int32) (l3 : Int32) (l4 : Int64) (l6 : Int64) (l8 : Int64) (s0 : Nat) (W : jW) : jJ x 10 324 [(0, vR t), (1, vI a1), (2, vI l2), (3, vI l3), (4, vL l4), (6, vL l6), (8, vL l8)] [vR s0] W (fsh_section_324 t a1 l2 l3 l4 l6 l8 s0 W) en := by
  have h0 := h
  obtain ⟨hx, hm, hr, he, ht⟩ := h0
  unfold fsh_section_324
  refine j_runA hx 1 (tb := [(324, .iconst 1)]) (jtb_ok (by decide +kernel)) (pc' := 325) (lv' := [(0, vR t), (1, vI a1), (2, vI l2), (3, vI l3), (4, vL l4), (6, vL l6), (8, vL l8)]) (st' := [vI (kI 1), vR s0]) rfl ?_
  refine j_goto hx (off := 4) (by decide +kernel) (tgt := 329) (by decide) ?_
  exact wsh_section_329 h l2 l3 l4 l6 l8 (kI 1) s0 W
theorem wsh_section_296 {x : jCx} {en : ((Nat × jW) ⊕ jW) → Option (Outcome × jW)} {t : Nat} {a1 : Int32} (h : hsh_section x en t a1) (l2 : Int32) (l3 : Int32) (l4 : Int64) (l6 : Int64) (l8 : Int64) (s0 : Int32) (s1 : Nat) (W : jW) : jJ x 10 296 [(0, vR t), (1, vI a1), (2, vI l2), (3, vI l3), (4, vL l4), (6, vL l6), (8, vL l8)] [vI s0, vR s1] W (fsh_section_296 t a1 l2 l3 l4 l6 l8 s0 s1 W) en := by
  have h0 := h
  obtain ⟨hx, hm, hr, he, ht⟩ := h0
  unfold fsh_section_296
  refine j_runA hx 4 (tb := [(296, .iconst 3), (297, .iload_n 2), (298, .bipush 32), (300, .iadd)]) (jtb_ok (by decide +kernel)) (pc' := 301) (lv' := [(0, vR t), (1, vI a1), (2, vI l2), (3, vI l3), (4, vL l4), (6, vL l6), (8, vL l8)]) (st' := [vI (l2 + (kI 32)), vI (kI 3), vI s0, vR s1]) rfl ?_
  refine j_gd (fun h39 => ?_)
  refine j_EV (j_callV (av := [vI s0, vI (kI 3), vI (l2 + (kI 32))]) (st := []) hx hr (Or.inl q757) q758 q759 rfl md_ftr_must np_ftr_must (ctr_must s1 s0 (kI 3) (l2 + (kI 32)) W) (by decide) (Nat.le_of_ble_eq_true rfl) h39 (by decide) (by decide +kernel)) (fun z _ r h9 => j_upE hm hx (ht z) h9) (fun q40 _ => ?_)
  refine j_runA hx 1 (tb := [(304, .aload_n 0)]) (jtb_ok (by decide +kernel)) (pc' := 305) (lv' := [(0, vR t), (1, vI a1), (2, vI l2), (3, vI l3), (4, vL l4), (6, vL l6), (8, vL l8)]) (st' := [vR t]) rfl ?_
  refine j_gd (fun h42 => ?_)
  refine j_getR hx flX3_53 kl400 h42 (by decide) (by decide +kernel) ?_
  refine j_runA hx 2 (tb := [(308, .iload_n 3), (309, .iconst 4)]) (jtb_ok (by decide +kernel)) (pc' := 310) (lv' := [(0, vR t), (1, vI a1), (2, vI l2), (3, vI l3), (4, vL l4), (6, vL l6), (8, vL l8)]) (st' := [vI (kI 4), vI l3, vR (jR q40 400 t)]) rfl ?_
  refine j_icmp_ne hx (off := 14) (tgt := 324) (by decide +kernel) (by decide) (fun _ => ?_) (fun _ => ?_)
  · exact wsh_section_324 h l2 l3 l4 l6 l8 (jR q40 400 t) q40
  refine j_runA hx 1 (tb := [(313, .lload 8)]) (jtb_ok (by decide +kernel)) (pc' := 315) (lv' := [(0, vR t), (1, vI a1), (2, vI l2), (3, vI l3), (4, vL l4), (6, vL l6), (8, vL l8)]) (st' := [vL l8, vR (jR q40 400 t)]) rfl ?_
  refine j_ldc2 hx (v := (kJ 24)) (jkd2 q843 (by decide +kernel)) (by decide +kernel) ?_
  refine j_lrem hx (by decide +kernel) (by decide +kernel) ?_
  refine j_runA hx 1 (tb := [(319, .lconst 0)]) (jtb_ok (by decide +kernel)) (pc' := 320) (lv' := [(0, vR t), (1, vI a1), (2, vI l2), (3, vI l3), (4, vL l4), (6, vL l6), (8, vL l8)]) (st' := [vL (kJ 0), vL (lrm l8 (kJ 24)), vR (jR q40 400 t)]) rfl ?_
  refine j_lcmp_ne hx (off := 7) (tgt := 328) (by decide +kernel) (by decide +kernel) (by decide) (fun _ => ?_) (fun _ => ?_)
  · refine j_runA hx 1 (tb := [(328, .iconst 0)]) (jtb_ok (by decide +kernel)) (pc' := 329) (lv' := [(0, vR t), (1, vI a1), (2, vI l2), (3, vI l3), (4, vL l4), (6, vL l6), (8, vL l8)]) (st' := [vI (kI 0), vR (jR q40 400 t)]) rfl ?_
    exact wsh_section_329 h l2 l3 l4 l6 l8 (kI 0) (jR q40 400 t) q40
  exact wsh_section_324 h l2 l3 l4 l6 l8 (jR q40 400 t) q40
theorem wsh_section_291 {x : jCx} {en : ((Nat × jW) ⊕ jW) → Option (Outcome × jW)} {t : Nat} {a1 : Int32} (h : hsh_section x en t a1) (l2 : Int32) (l3 : Int32) (l4 : Int64) (l6 : Int64) (l8 : Int64) (s0 : Nat) (W : jW) : jJ x 10 291 [(0, vR t), (1, vI a1), (2, vI l2), (3, vI l3), (4, vL l4), (6, vL l6), (8, vL l8)] [vR s0] W (fsh_section_291 t a1 l2 l3 l4 l6 l8 s0 W) en := by
  have h0 := h
  obtain ⟨hx, hm, hr, he, ht⟩ := h0
  unfold fsh_section_291
  refine j_runA hx 1 (tb := [(291, .iconst 1)]) (jtb_ok (by decide +kernel)) (pc' := 292) (lv' := [(0, vR t), (1, vI a1), (2, vI l2), (3, vI l3), (4, vL l4), (6, vL l6), (8, vL l8)]) (st' := [vI (kI 1), vR s0]) rfl ?_
  refine j_goto hx (off := 4) (by decide +kernel) (tgt := 296) (by decide) ?_
  exact wsh_section_296 h l2 l3 l4 l6 l8 (kI 1) s0 W
theorem wsh_section_295 {x : jCx} {en : ((Nat × jW) ⊕ jW) → Option (Outcome × jW)} {t : Nat} {a1 : Int32} (h : hsh_section x en t a1) (l2 : Int32) (l3 : Int32) (l4 : Int64) (l6 : Int64) (l8 : Int64) (s0 : Nat) (W : jW) : jJ x 10 295 [(0, vR t), (1, vI a1), (2, vI l2), (3, vI l3), (4, vL l4), (6, vL l6), (8, vL l8)] [vR s0] W (fsh_section_295 t a1 l2 l3 l4 l6 l8 s0 W) en := by
  have h0 := h
  obtain ⟨hx, hm, hr, he, ht⟩ := h0
  unfold fsh_section_295
  refine j_runA hx 1 (tb := [(295, .iconst 0)]) (jtb_ok (by decide +kernel)) (pc' := 296) (lv' := [(0, vR t), (1, vI a1), (2, vI l2), (3, vI l3), (4, vL l4), (6, vL l6), (8, vL l8)]) (st' := [vI (kI 0), vR s0]) rfl ?_
  exact wsh_section_296 h l2 l3 l4 l6 l8 (kI 0) s0 W
theorem wsh_section_256 {x : jCx} {en : ((Nat × jW) ⊕ jW) → Option (Outcome × jW)} {t : Nat} {a1 : Int32} (h : hsh_section x en t a1) (l2 : Int32) (l3 : Int32) (l4 : Int64) (l6 : Int64) (l8 : Int64) (s0 : Int32) (s1 : Nat) (W : jW) : jJ x 10 256 [(0, vR t), (1, vI a1), (2, vI l2), (3, vI l3), (4, vL l4), (6, vL l6), (8, vL l8)] [vI s0, vR s1] W (fsh_section_256 t a1 l2 l3 l4 l6 l8 s0 s1 W) en := by
  have h0 := h
  obtain ⟨hx, hm, hr, he, ht⟩ := h0
  unfold fsh_section_256
  refine j_runA hx 4 (tb := [(256, .iconst 3), (257, .iload_n 2), (258, .bipush 32), (260, .iadd)]) (jtb_ok (by decide +kernel)) (pc' := 261) (lv' := [(0, vR t), (1, vI a1), (2, vI l2), (3, vI l3), (4, vL l4), (6, vL l6), (8, vL l8)]) (st' := [vI (l2 + (kI 32)), vI (kI 3), vI s0, vR s1]) rfl ?_
  refine j_gd (fun h33 => ?_)
  refine j_EV (j_callV (av := [vI s0, vI (kI 3), vI (l2 + (kI 32))]) (st := []) hx hr (Or.inl q757) q758 q759 rfl md_ftr_must np_ftr_must (ctr_must s1 s0 (kI 3) (l2 + (kI 32)) W) (by decide) (Nat.le_of_ble_eq_true rfl) h33 (by decide) (by decide +kernel)) (fun z _ r h9 => j_upE hm hx (ht z) h9) (fun q34 _ => ?_)
  refine j_runA hx 1 (tb := [(264, .aload_n 0)]) (jtb_ok (by decide +kernel)) (pc' := 265) (lv' := [(0, vR t), (1, vI a1), (2, vI l2), (3, vI l3), (4, vL l4), (6, vL l6), (8, vL l8)]) (st' := [vR t]) rfl ?_
  refine j_gd (fun h36 => ?_)
  refine j_getR hx flX3_53 kl400 h36 (by decide) (by decide +kernel) ?_
  refine j_runA hx 2 (tb := [(268, .iload_n 3), (269, .iconst 2)]) (jtb_ok (by decide +kernel)) (pc' := 270) (lv' := [(0, vR t), (1, vI a1), (2, vI l2), (3, vI l3), (4, vL l4), (6, vL l6), (8, vL l8)]) (st' := [vI (kI 2), vI l3, vR (jR q34 400 t)]) rfl ?_
  refine j_icmp_ne hx (off := 21) (tgt := 291) (by decide +kernel) (by decide) (fun _ => ?_) (fun _ => ?_)
  · exact wsh_section_291 h l2 l3 l4 l6 l8 (jR q34 400 t) q34
  refine j_runA hx 2 (tb := [(273, .lload 8), (275, .lconst 0)]) (jtb_ok (by decide +kernel)) (pc' := 276) (lv' := [(0, vR t), (1, vI a1), (2, vI l2), (3, vI l3), (4, vL l4), (6, vL l6), (8, vL l8)]) (st' := [vL (kJ 0), vL l8, vR (jR q34 400 t)]) rfl ?_
  refine j_lcmp_le hx (off := 18) (tgt := 295) (by decide +kernel) (by decide +kernel) (by decide) (fun _ => ?_) (fun _ => ?_)
  · exact wsh_section_295 h l2 l3 l4 l6 l8 (jR q34 400 t) q34
  refine j_runA hx 1 (tb := [(280, .lload 8)]) (jtb_ok (by decide +kernel)) (pc' := 282) (lv' := [(0, vR t), (1, vI a1), (2, vI l2), (3, vI l3), (4, vL l4), (6, vL l6), (8, vL l8)]) (st' := [vL l8, vR (jR q34 400 t)]) rfl ?_
  refine j_ldc2 hx (v := (kJ 24)) (jkd2 q843 (by decide +kernel)) (by decide +kernel) ?_
  refine j_lrem hx (by decide +kernel) (by decide +kernel) ?_
  refine j_runA hx 1 (tb := [(286, .lconst 0)]) (jtb_ok (by decide +kernel)) (pc' := 287) (lv' := [(0, vR t), (1, vI a1), (2, vI l2), (3, vI l3), (4, vL l4), (6, vL l6), (8, vL l8)]) (st' := [vL (kJ 0), vL (lrm l8 (kJ 24)), vR (jR q34 400 t)]) rfl ?_
  refine j_lcmp_ne hx (off := 7) (tgt := 295) (by decide +kernel) (by decide +kernel) (by decide) (fun _ => ?_) (fun _ => ?_)
  · exact wsh_section_295 h l2 l3 l4 l6 l8 (jR q34 400 t) q34
  exact wsh_section_291 h l2 l3 l4 l6 l8 (jR q34 400 t) q34
theorem wsh_section_251 {x : jCx} {en : ((Nat × jW) ⊕ jW) → Option (Outcome × jW)} {t : Nat} {a1 : Int32} (h : hsh_section x en t a1) (l2 : Int32) (l3 : Int32) (l4 : Int64) (l6 : Int64) (l8 : Int64) (s0 : Nat) (W : jW) : jJ x 10 251 [(0, vR t), (1, vI a1), (2, vI l2), (3, vI l3), (4, vL l4), (6, vL l6), (8, vL l8)] [vR s0] W (fsh_section_251 t a1 l2 l3 l4 l6 l8 s0 W) en := by
  have h0 := h
  obtain ⟨hx, hm, hr, he, ht⟩ := h0
  unfold fsh_section_251
  refine j_runA hx 1 (tb := [(251, .iconst 1)]) (jtb_ok (by decide +kernel)) (pc' := 252) (lv' := [(0, vR t), (1, vI a1), (2, vI l2), (3, vI l3), (4, vL l4), (6, vL l6), (8, vL l8)]) (st' := [vI (kI 1), vR s0]) rfl ?_
  refine j_goto hx (off := 4) (by decide +kernel) (tgt := 256) (by decide) ?_
  exact wsh_section_256 h l2 l3 l4 l6 l8 (kI 1) s0 W
theorem wsh_section_227 {x : jCx} {en : ((Nat × jW) ⊕ jW) → Option (Outcome × jW)} {t : Nat} {a1 : Int32} (h : hsh_section x en t a1) (l2 : Int32) (l3 : Int32) (l4 : Int64) (l6 : Int64) (l8 : Int64) (s0 : Int32) (s1 : Nat) (W : jW) : jJ x 10 227 [(0, vR t), (1, vI a1), (2, vI l2), (3, vI l3), (4, vL l4), (6, vL l6), (8, vL l8)] [vI s0, vR s1] W (fsh_section_227 t a1 l2 l3 l4 l6 l8 s0 s1 W) en := by
  have h0 := h
  obtain ⟨hx, hm, hr, he, ht⟩ := h0
  unfold fsh_section_227
  refine j_runA hx 4 (tb := [(227, .iconst 3), (228, .iload_n 2), (229, .bipush 32), (231, .iadd)]) (jtb_ok (by decide +kernel)) (pc' := 232) (lv' := [(0, vR t), (1, vI a1), (2, vI l2), (3, vI l3), (4, vL l4), (6, vL l6), (8, vL l8)]) (st' := [vI (l2 + (kI 32)), vI (kI 3), vI s0, vR s1]) rfl ?_
  refine j_gd (fun h28 => ?_)
  refine j_EV (j_callV (av := [vI s0, vI (kI 3), vI (l2 + (kI 32))]) (st := []) hx hr (Or.inl q757) q758 q759 rfl md_ftr_must np_ftr_must (ctr_must s1 s0 (kI 3) (l2 + (kI 32)) W) (by decide) (Nat.le_of_ble_eq_true rfl) h28 (by decide) (by decide +kernel)) (fun z _ r h9 => j_upE hm hx (ht z) h9) (fun q29 _ => ?_)
  refine j_runA hx 1 (tb := [(235, .aload_n 0)]) (jtb_ok (by decide +kernel)) (pc' := 236) (lv' := [(0, vR t), (1, vI a1), (2, vI l2), (3, vI l3), (4, vL l4), (6, vL l6), (8, vL l8)]) (st' := [vR t]) rfl ?_
  refine j_gd (fun h31 => ?_)
  refine j_getR hx flX3_53 kl400 h31 (by decide) (by decide +kernel) ?_
  refine j_runA hx 2 (tb := [(239, .iload_n 3), (240, .iconst 3)]) (jtb_ok (by decide +kernel)) (pc' := 241) (lv' := [(0, vR t), (1, vI a1), (2, vI l2), (3, vI l3), (4, vL l4), (6, vL l6), (8, vL l8)]) (st' := [vI (kI 3), vI l3, vR (jR q29 400 t)]) rfl ?_
  refine j_icmp_ne hx (off := 10) (tgt := 251) (by decide +kernel) (by decide) (fun _ => ?_) (fun _ => ?_)
  · exact wsh_section_251 h l2 l3 l4 l6 l8 (jR q29 400 t) q29
  refine j_runA hx 2 (tb := [(244, .lload 8), (246, .lconst 0)]) (jtb_ok (by decide +kernel)) (pc' := 247) (lv' := [(0, vR t), (1, vI a1), (2, vI l2), (3, vI l3), (4, vL l4), (6, vL l6), (8, vL l8)]) (st' := [vL (kJ 0), vL l8, vR (jR q29 400 t)]) rfl ?_
  refine j_lcmp_le hx (off := 7) (tgt := 255) (by decide +kernel) (by decide +kernel) (by decide) (fun _ => ?_) (fun _ => ?_)
  · refine j_runA hx 1 (tb := [(255, .iconst 0)]) (jtb_ok (by decide +kernel)) (pc' := 256) (lv' := [(0, vR t), (1, vI a1), (2, vI l2), (3, vI l3), (4, vL l4), (6, vL l6), (8, vL l8)]) (st' := [vI (kI 0), vR (jR q29 400 t)]) rfl ?_
    exact wsh_section_256 h l2 l3 l4 l6 l8 (kI 0) (jR q29 400 t) q29
  exact wsh_section_251 h l2 l3 l4 l6 l8 (jR q29 400 t) q29
theorem wsh_section_226 {x : jCx} {en : ((Nat × jW) ⊕ jW) → Option (Outcome × jW)} {t : Nat} {a1 : Int32} (h : hsh_section x en t a1) (l2 : Int32) (l3 : Int32) (l4 : Int64) (l6 : Int64) (l8 : Int64) (s0 : Nat) (W : jW) : jJ x 10 226 [(0, vR t), (1, vI a1), (2, vI l2), (3, vI l3), (4, vL l4), (6, vL l6), (8, vL l8)] [vR s0] W (fsh_section_226 t a1 l2 l3 l4 l6 l8 s0 W) en := by
  have h0 := h
  obtain ⟨hx, hm, hr, he, ht⟩ := h0
  unfold fsh_section_226
  refine j_runA hx 1 (tb := [(226, .iconst 0)]) (jtb_ok (by decide +kernel)) (pc' := 227) (lv' := [(0, vR t), (1, vI a1), (2, vI l2), (3, vI l3), (4, vL l4), (6, vL l6), (8, vL l8)]) (st' := [vI (kI 0), vR s0]) rfl ?_
  exact wsh_section_227 h l2 l3 l4 l6 l8 (kI 0) s0 W
theorem wsh_section_168 {x : jCx} {en : ((Nat × jW) ⊕ jW) → Option (Outcome × jW)} {t : Nat} {a1 : Int32} (h : hsh_section x en t a1) (l2 : Int32) (l3 : Int32) (l4 : Int64) (l6 : Int64) (s0 : Int32) (s1 : Nat) (W : jW) : jJ x 10 168 [(0, vR t), (1, vI a1), (2, vI l2), (3, vI l3), (4, vL l4), (6, vL l6)] [vI s0, vR s1] W (fsh_section_168 t a1 l2 l3 l4 l6 s0 s1 W) en := by
  have h0 := h
  obtain ⟨hx, hm, hr, he, ht⟩ := h0
  unfold fsh_section_168
  refine j_runA hx 4 (tb := [(168, .iconst 3), (169, .iload_n 2), (170, .bipush 24), (172, .iadd)]) (jtb_ok (by decide +kernel)) (pc' := 173) (lv' := [(0, vR t), (1, vI a1), (2, vI l2), (3, vI l3), (4, vL l4), (6, vL l6)]) (st' := [vI (l2 + (kI 24)), vI (kI 3), vI s0, vR s1]) rfl ?_
  refine j_gd (fun h21 => ?_)
  refine j_EV (j_callV (av := [vI s0, vI (kI 3), vI (l2 + (kI 24))]) (st := []) hx hr (Or.inl q757) q758 q759 rfl md_ftr_must np_ftr_must (ctr_must s1 s0 (kI 3) (l2 + (kI 24)) W) (by decide) (Nat.le_of_ble_eq_true rfl) h21 (by decide) (by decide +kernel)) (fun z _ r h9 => j_upE hm hx (ht z) h9) (fun q22 _ => ?_)
  refine j_runA hx 1 (tb := [(176, .aload_n 0)]) (jtb_ok (by decide +kernel)) (pc' := 177) (lv' := [(0, vR t), (1, vI a1), (2, vI l2), (3, vI l3), (4, vL l4), (6, vL l6)]) (st' := [vR t]) rfl ?_
  refine j_gd (fun h24 => ?_)
  refine j_getR hx flX3_57 kl401 h24 (by decide) (by decide +kernel) ?_
  refine j_runA hx 3 (tb := [(180, .iload_n 2), (181, .bipush 32), (183, .iadd)]) (jtb_ok (by decide +kernel)) (pc' := 184) (lv' := [(0, vR t), (1, vI a1), (2, vI l2), (3, vI l3), (4, vL l4), (6, vL l6)]) (st' := [vI (l2 + (kI 32)), vR (jR q22 401 t)]) rfl ?_
  refine j_gd (fun h25 => ?_)
  refine j_OL (h25.elim (fun hh => j_callU (av := [vI (l2 + (kI 32))]) (st := []) hx hr q761 q763 (hde_fsr_pair) (by decide) q762 q764 rfl md_fsr_pair np_fsr_pair (csr_pair (jR q22 401 t) (l2 + (kI 32)) q22) (by decide) (Nat.le_of_ble_eq_true rfl) hh (by decide) (by decide +kernel)) (fun hh => j_callU (av := [vI (l2 + (kI 32))]) (st := []) hx hr q761 q763 (hde_fsr_pair) (by decide) q762 q765 rfl md_fsr_pair np_fsr_pair (csr_pair (jR q22 401 t) (l2 + (kI 32)) q22) (by decide) (Nat.le_of_ble_eq_true rfl) hh (by decide) (by decide +kernel))) (fun q26 _ => ?_)
  refine j_runA hx 2 (tb := [(187, .lstore 8), (189, .aload_n 0)]) (jtb_ok (by decide +kernel)) (pc' := 190) (lv' := [(8, vL q26), (0, vR t), (1, vI a1), (2, vI l2), (3, vI l3), (4, vL l4), (6, vL l6)]) (st' := [vR t]) rfl ?_
  refine j_getR hx flX3_53 kl400 h24 (by decide) (by decide +kernel) ?_
  refine j_runA hx 2 (tb := [(193, .lload 6), (195, .aload_n 0)]) (jtb_ok (by decide +kernel)) (pc' := 196) (lv' := [(8, vL q26), (0, vR t), (1, vI a1), (2, vI l2), (3, vI l3), (4, vL l4), (6, vL l6)]) (st' := [vR t, vL l6, vR (jR q22 400 t)]) rfl ?_
  refine j_getI hx flX3_143 kd405 h24 (by decide) (by decide +kernel) ?_
  refine j_runA hx 1 (tb := [(199, .i2l)]) (jtb_ok (by decide +kernel)) (pc' := 200) (lv' := [(8, vL q26), (0, vR t), (1, vI a1), (2, vI l2), (3, vI l3), (4, vL l4), (6, vL l6)]) (st' := [vL ((jI q22 405 t).toInt64), vL l6, vR (jR q22 400 t)]) rfl ?_
  refine j_TI (j_callS (av := [vL l6, vL ((jI q22 405 t).toInt64)]) (st := [vR (jR q22 400 t)]) hx hr (Or.inr ⟨_, q818⟩) q819 q226 md_fcl_isAbove np_fcl_isAbove (ccl_isAbove l6 ((jI q22 405 t).toInt64) q22) (by decide) (Nat.le_of_ble_eq_true rfl) (by decide +kernel)) ?_
  refine j_if_ne hx (off := 23) (tgt := 226) (by decide +kernel) (by decide) (fun _ => ?_) (fun _ => ?_)
  · refine j_lv (lv' := [(0, vR t), (1, vI a1), (2, vI l2), (3, vI l3), (4, vL l4), (6, vL l6), (8, vL q26)]) ⟨rfl, rfl, rfl, rfl, rfl, rfl, rfl, trivial⟩ ?_
    exact wsh_section_226 h l2 l3 l4 l6 q26 (jR q22 400 t) q22
  refine j_runA hx 2 (tb := [(206, .lload 8), (208, .aload_n 0)]) (jtb_ok (by decide +kernel)) (pc' := 209) (lv' := [(8, vL q26), (0, vR t), (1, vI a1), (2, vI l2), (3, vI l3), (4, vL l4), (6, vL l6)]) (st' := [vR t, vL q26, vR (jR q22 400 t)]) rfl ?_
  refine j_getI hx flX3_143 kd405 h24 (by decide) (by decide +kernel) ?_
  refine j_runA hx 3 (tb := [(212, .i2l), (213, .lload 6), (215, .lsub)]) (jtb_ok (by decide +kernel)) (pc' := 216) (lv' := [(8, vL q26), (0, vR t), (1, vI a1), (2, vI l2), (3, vI l3), (4, vL l4), (6, vL l6)]) (st' := [vL (((jI q22 405 t).toInt64) - l6), vL q26, vR (jR q22 400 t)]) rfl ?_
  refine j_TI (j_callS (av := [vL q26, vL (((jI q22 405 t).toInt64) - l6)]) (st := [vR (jR q22 400 t)]) hx hr (Or.inr ⟨_, q818⟩) q819 q226 md_fcl_isAbove np_fcl_isAbove (ccl_isAbove q26 (((jI q22 405 t).toInt64) - l6) q22) (by decide) (Nat.le_of_ble_eq_true rfl) (by decide +kernel)) ?_
  refine j_if_ne hx (off := 7) (tgt := 226) (by decide +kernel) (by decide) (fun _ => ?_) (fun _ => ?_)
  · refine j_lv (lv' := [(0, vR t), (1, vI a1), (2, vI l2), (3, vI l3), (4, vL l4), (6, vL l6), (8, vL q26)]) ⟨rfl, rfl, rfl, rfl, rfl, rfl, rfl, trivial⟩ ?_
    exact wsh_section_226 h l2 l3 l4 l6 q26 (jR q22 400 t) q22
  refine j_runA hx 1 (tb := [(222, .iconst 1)]) (jtb_ok (by decide +kernel)) (pc' := 223) (lv' := [(8, vL q26), (0, vR t), (1, vI a1), (2, vI l2), (3, vI l3), (4, vL l4), (6, vL l6)]) (st' := [vI (kI 1), vR (jR q22 400 t)]) rfl ?_
  refine j_goto hx (off := 4) (by decide +kernel) (tgt := 227) (by decide) ?_
  refine j_lv (lv' := [(0, vR t), (1, vI a1), (2, vI l2), (3, vI l3), (4, vL l4), (6, vL l6), (8, vL q26)]) ⟨rfl, rfl, rfl, rfl, rfl, rfl, rfl, trivial⟩ ?_
  exact wsh_section_227 h l2 l3 l4 l6 q26 (kI 1) (jR q22 400 t) q22
theorem wsh_section_119 {x : jCx} {en : ((Nat × jW) ⊕ jW) → Option (Outcome × jW)} {t : Nat} {a1 : Int32} (h : hsh_section x en t a1) (l2 : Int32) (l3 : Int32) (l4 : Int64) (s0 : Int32) (s1 : Nat) (W : jW) : jJ x 10 119 [(0, vR t), (1, vI a1), (2, vI l2), (3, vI l3), (4, vL l4)] [vI s0, vR s1] W (fsh_section_119 t a1 l2 l3 l4 s0 s1 W) en := by
  have h0 := h
  obtain ⟨hx, hm, hr, he, ht⟩ := h0
  unfold fsh_section_119
  refine j_runA hx 4 (tb := [(119, .iconst 3), (120, .iload_n 2), (121, .bipush 8), (123, .iadd)]) (jtb_ok (by decide +kernel)) (pc' := 124) (lv' := [(0, vR t), (1, vI a1), (2, vI l2), (3, vI l3), (4, vL l4)]) (st' := [vI (l2 + (kI 8)), vI (kI 3), vI s0, vR s1]) rfl ?_
  refine j_gd (fun h14 => ?_)
  refine j_EV (j_callV (av := [vI s0, vI (kI 3), vI (l2 + (kI 8))]) (st := []) hx hr (Or.inl q757) q758 q759 rfl md_ftr_must np_ftr_must (ctr_must s1 s0 (kI 3) (l2 + (kI 8)) W) (by decide) (Nat.le_of_ble_eq_true rfl) h14 (by decide) (by decide +kernel)) (fun z _ r h9 => j_upE hm hx (ht z) h9) (fun q15 _ => ?_)
  refine j_runA hx 1 (tb := [(127, .aload_n 0)]) (jtb_ok (by decide +kernel)) (pc' := 128) (lv' := [(0, vR t), (1, vI a1), (2, vI l2), (3, vI l3), (4, vL l4)]) (st' := [vR t]) rfl ?_
  refine j_gd (fun h17 => ?_)
  refine j_getR hx flX3_57 kl401 h17 (by decide) (by decide +kernel) ?_
  refine j_runA hx 3 (tb := [(131, .iload_n 2), (132, .bipush 24), (134, .iadd)]) (jtb_ok (by decide +kernel)) (pc' := 135) (lv' := [(0, vR t), (1, vI a1), (2, vI l2), (3, vI l3), (4, vL l4)]) (st' := [vI (l2 + (kI 24)), vR (jR q15 401 t)]) rfl ?_
  refine j_gd (fun h18 => ?_)
  refine j_OL (h18.elim (fun hh => j_callU (av := [vI (l2 + (kI 24))]) (st := []) hx hr q761 q763 (hde_fsr_pair) (by decide) q762 q764 rfl md_fsr_pair np_fsr_pair (csr_pair (jR q15 401 t) (l2 + (kI 24)) q15) (by decide) (Nat.le_of_ble_eq_true rfl) hh (by decide) (by decide +kernel)) (fun hh => j_callU (av := [vI (l2 + (kI 24))]) (st := []) hx hr q761 q763 (hde_fsr_pair) (by decide) q762 q765 rfl md_fsr_pair np_fsr_pair (csr_pair (jR q15 401 t) (l2 + (kI 24)) q15) (by decide) (Nat.le_of_ble_eq_true rfl) hh (by decide) (by decide +kernel))) (fun q19 _ => ?_)
  refine j_runA hx 2 (tb := [(138, .lstore 6), (140, .aload_n 0)]) (jtb_ok (by decide +kernel)) (pc' := 141) (lv' := [(6, vL q19), (0, vR t), (1, vI a1), (2, vI l2), (3, vI l3), (4, vL l4)]) (st' := [vR t]) rfl ?_
  refine j_getR hx flX3_53 kl400 h17 (by decide) (by decide +kernel) ?_
  refine j_runA hx 3 (tb := [(144, .bipush 64), (146, .bipush 56), (148, .aload_n 0)]) (jtb_ok (by decide +kernel)) (pc' := 149) (lv' := [(6, vL q19), (0, vR t), (1, vI a1), (2, vI l2), (3, vI l3), (4, vL l4)]) (st' := [vR t, vI (kI 56), vI (kI 64), vR (jR q15 400 t)]) rfl ?_
  refine j_getI hx flX3_64 kd402 h17 (by decide) (by decide +kernel) ?_
  refine j_runA hx 4 (tb := [(152, .imul), (153, .iadd), (154, .i2l), (155, .lload 6)]) (jtb_ok (by decide +kernel)) (pc' := 157) (lv' := [(6, vL q19), (0, vR t), (1, vI a1), (2, vI l2), (3, vI l3), (4, vL l4)]) (st' := [vL q19, vL (((kI 64) + ((kI 56) * (jI q15 402 t))).toInt64), vR (jR q15 400 t)]) rfl ?_
  refine j_TI (j_callS (av := [vL (((kI 64) + ((kI 56) * (jI q15 402 t))).toInt64), vL q19]) (st := [vR (jR q15 400 t)]) hx hr (Or.inr ⟨_, q818⟩) q819 q226 md_fcl_isAbove np_fcl_isAbove (ccl_isAbove (((kI 64) + ((kI 56) * (jI q15 402 t))).toInt64) q19 q15) (by decide) (Nat.le_of_ble_eq_true rfl) (by decide +kernel)) ?_
  refine j_if_ne hx (off := 7) (tgt := 167) (by decide +kernel) (by decide) (fun _ => ?_) (fun _ => ?_)
  · refine j_runA hx 1 (tb := [(167, .iconst 0)]) (jtb_ok (by decide +kernel)) (pc' := 168) (lv' := [(6, vL q19), (0, vR t), (1, vI a1), (2, vI l2), (3, vI l3), (4, vL l4)]) (st' := [vI (kI 0), vR (jR q15 400 t)]) rfl ?_
    refine j_lv (lv' := [(0, vR t), (1, vI a1), (2, vI l2), (3, vI l3), (4, vL l4), (6, vL q19)]) ⟨rfl, rfl, rfl, rfl, rfl, rfl, trivial⟩ ?_
    exact wsh_section_168 h l2 l3 l4 q19 (kI 0) (jR q15 400 t) q15
  refine j_runA hx 1 (tb := [(163, .iconst 1)]) (jtb_ok (by decide +kernel)) (pc' := 164) (lv' := [(6, vL q19), (0, vR t), (1, vI a1), (2, vI l2), (3, vI l3), (4, vL l4)]) (st' := [vI (kI 1), vR (jR q15 400 t)]) rfl ?_
  refine j_goto hx (off := 4) (by decide +kernel) (tgt := 168) (by decide) ?_
  refine j_lv (lv' := [(0, vR t), (1, vI a1), (2, vI l2), (3, vI l3), (4, vL l4), (6, vL q19)]) ⟨rfl, rfl, rfl, rfl, rfl, rfl, trivial⟩ ?_
  exact wsh_section_168 h l2 l3 l4 q19 (kI 1) (jR q15 400 t) q15
theorem wsh_section_99 {x : jCx} {en : ((Nat × jW) ⊕ jW) → Option (Outcome × jW)} {t : Nat} {a1 : Int32} (h : hsh_section x en t a1) (l2 : Int32) (l3 : Int32) (l4 : Int64) (s0 : Nat) (W : jW) : jJ x 10 99 [(0, vR t), (1, vI a1), (2, vI l2), (3, vI l3), (4, vL l4)] [vR s0] W (fsh_section_99 t a1 l2 l3 l4 s0 W) en := by
  have h0 := h
  obtain ⟨hx, hm, hr, he, ht⟩ := h0
  unfold fsh_section_99
  refine j_runA hx 1 (tb := [(99, .iconst 1)]) (jtb_ok (by decide +kernel)) (pc' := 100) (lv' := [(0, vR t), (1, vI a1), (2, vI l2), (3, vI l3), (4, vL l4)]) (st' := [vI (kI 1), vR s0]) rfl ?_
  refine j_goto hx (off := 19) (by decide +kernel) (tgt := 119) (by decide) ?_
  exact wsh_section_119 h l2 l3 l4 (kI 1) s0 W
theorem wsh_section_36 {x : jCx} {en : ((Nat × jW) ⊕ jW) → Option (Outcome × jW)} {t : Nat} {a1 : Int32} (h : hsh_section x en t a1) (l2 : Int32) (l3 : Int32) (s0 : Int32) (s1 : Nat) (W : jW) : jJ x 10 36 [(0, vR t), (1, vI a1), (2, vI l2), (3, vI l3)] [vI s0, vR s1] W (fsh_section_36 t a1 l2 l3 s0 s1 W) en := by
  have h0 := h
  obtain ⟨hx, hm, hr, he, ht⟩ := h0
  unfold fsh_section_36
  refine j_runA hx 4 (tb := [(36, .iconst 3), (37, .iload_n 2), (38, .iconst 4), (39, .iadd)]) (jtb_ok (by decide +kernel)) (pc' := 40) (lv' := [(0, vR t), (1, vI a1), (2, vI l2), (3, vI l3)]) (st' := [vI (l2 + (kI 4)), vI (kI 3), vI s0, vR s1]) rfl ?_
  refine j_gd (fun h6 => ?_)
  refine j_EV (j_callV (av := [vI s0, vI (kI 3), vI (l2 + (kI 4))]) (st := []) hx hr (Or.inl q757) q758 q759 rfl md_ftr_must np_ftr_must (ctr_must s1 s0 (kI 3) (l2 + (kI 4)) W) (by decide) (Nat.le_of_ble_eq_true rfl) h6 (by decide) (by decide +kernel)) (fun z _ r h9 => j_upE hm hx (ht z) h9) (fun q7 _ => ?_)
  refine j_runA hx 1 (tb := [(43, .aload_n 0)]) (jtb_ok (by decide +kernel)) (pc' := 44) (lv' := [(0, vR t), (1, vI a1), (2, vI l2), (3, vI l3)]) (st' := [vR t]) rfl ?_
  refine j_gd (fun h9 => ?_)
  refine j_getR hx flX3_57 kl401 h9 (by decide) (by decide +kernel) ?_
  refine j_runA hx 3 (tb := [(47, .iload_n 2), (48, .bipush 8), (50, .iadd)]) (jtb_ok (by decide +kernel)) (pc' := 51) (lv' := [(0, vR t), (1, vI a1), (2, vI l2), (3, vI l3)]) (st' := [vI (l2 + (kI 8)), vR (jR q7 401 t)]) rfl ?_
  refine j_gd (fun h10 => ?_)
  refine j_OL (h10.elim (fun hh => j_callU (av := [vI (l2 + (kI 8))]) (st := []) hx hr q761 q763 (hde_fsr_pair) (by decide) q762 q764 rfl md_fsr_pair np_fsr_pair (csr_pair (jR q7 401 t) (l2 + (kI 8)) q7) (by decide) (Nat.le_of_ble_eq_true rfl) hh (by decide) (by decide +kernel)) (fun hh => j_callU (av := [vI (l2 + (kI 8))]) (st := []) hx hr q761 q763 (hde_fsr_pair) (by decide) q762 q765 rfl md_fsr_pair np_fsr_pair (csr_pair (jR q7 401 t) (l2 + (kI 8)) q7) (by decide) (Nat.le_of_ble_eq_true rfl) hh (by decide) (by decide +kernel))) (fun q11 _ => ?_)
  refine j_runA hx 2 (tb := [(54, .lstore 4), (56, .aload_n 0)]) (jtb_ok (by decide +kernel)) (pc' := 57) (lv' := [(4, vL q11), (0, vR t), (1, vI a1), (2, vI l2), (3, vI l3)]) (st' := [vR t]) rfl ?_
  refine j_getR hx flX3_53 kl400 h9 (by decide) (by decide +kernel) ?_
  refine j_runA hx 2 (tb := [(60, .iload_n 3), (61, .iconst 1)]) (jtb_ok (by decide +kernel)) (pc' := 62) (lv' := [(4, vL q11), (0, vR t), (1, vI a1), (2, vI l2), (3, vI l3)]) (st' := [vI (kI 1), vI l3, vR (jR q7 400 t)]) rfl ?_
  refine j_icmp_ne hx (off := 45) (tgt := 107) (by decide +kernel) (by decide) (fun _ => ?_) (fun _ => ?_)
  · refine j_runA hx 2 (tb := [(107, .lload 4), (109, .lconst 0)]) (jtb_ok (by decide +kernel)) (pc' := 110) (lv' := [(4, vL q11), (0, vR t), (1, vI a1), (2, vI l2), (3, vI l3)]) (st' := [vL (kJ 0), vL q11, vR (jR q7 400 t)]) rfl ?_
    refine j_lcmp_ne hx (off := 7) (tgt := 118) (by decide +kernel) (by decide +kernel) (by decide) (fun _ => ?_) (fun _ => ?_)
    · refine j_runA hx 1 (tb := [(118, .iconst 0)]) (jtb_ok (by decide +kernel)) (pc' := 119) (lv' := [(4, vL q11), (0, vR t), (1, vI a1), (2, vI l2), (3, vI l3)]) (st' := [vI (kI 0), vR (jR q7 400 t)]) rfl ?_
      refine j_lv (lv' := [(0, vR t), (1, vI a1), (2, vI l2), (3, vI l3), (4, vL q11)]) ⟨rfl, rfl, rfl, rfl, rfl, trivial⟩ ?_
      exact wsh_section_119 h l2 l3 q11 (kI 0) (jR q7 400 t) q7
    refine j_runA hx 1 (tb := [(114, .iconst 1)]) (jtb_ok (by decide +kernel)) (pc' := 115) (lv' := [(4, vL q11), (0, vR t), (1, vI a1), (2, vI l2), (3, vI l3)]) (st' := [vI (kI 1), vR (jR q7 400 t)]) rfl ?_
    refine j_goto hx (off := 4) (by decide +kernel) (tgt := 119) (by decide) ?_
    refine j_lv (lv' := [(0, vR t), (1, vI a1), (2, vI l2), (3, vI l3), (4, vL q11)]) ⟨rfl, rfl, rfl, rfl, rfl, trivial⟩ ?_
    exact wsh_section_119 h l2 l3 q11 (kI 1) (jR q7 400 t) q7
  refine j_runA hx 1 (tb := [(65, .lload 4)]) (jtb_ok (by decide +kernel)) (pc' := 67) (lv' := [(4, vL q11), (0, vR t), (1, vI a1), (2, vI l2), (3, vI l3)]) (st' := [vL q11, vR (jR q7 400 t)]) rfl ?_
  refine j_ldc2 hx (v := (kJ 6)) (jkd2 q841 (by decide +kernel)) (by decide +kernel) ?_
  refine j_lcmp_eq hx (off := 28) (tgt := 99) (by decide +kernel) (by decide +kernel) (by decide) (fun _ => ?_) (fun _ => ?_)
  · refine j_lv (lv' := [(0, vR t), (1, vI a1), (2, vI l2), (3, vI l3), (4, vL q11)]) ⟨rfl, rfl, rfl, rfl, rfl, trivial⟩ ?_
    exact wsh_section_99 h l2 l3 q11 (jR q7 400 t) q7
  refine j_runA hx 2 (tb := [(74, .lload 4), (76, .lconst 0)]) (jtb_ok (by decide +kernel)) (pc' := 77) (lv' := [(4, vL q11), (0, vR t), (1, vI a1), (2, vI l2), (3, vI l3)]) (st' := [vL (kJ 0), vL q11, vR (jR q7 400 t)]) rfl ?_
  refine j_lcmp_eq hx (off := 21) (tgt := 99) (by decide +kernel) (by decide +kernel) (by decide) (fun _ => ?_) (fun _ => ?_)
  · refine j_lv (lv' := [(0, vR t), (1, vI a1), (2, vI l2), (3, vI l3), (4, vL q11)]) ⟨rfl, rfl, rfl, rfl, rfl, trivial⟩ ?_
    exact wsh_section_99 h l2 l3 q11 (jR q7 400 t) q7
  refine j_runA hx 1 (tb := [(81, .lload 4)]) (jtb_ok (by decide +kernel)) (pc' := 83) (lv' := [(4, vL q11), (0, vR t), (1, vI a1), (2, vI l2), (3, vI l3)]) (st' := [vL q11, vR (jR q7 400 t)]) rfl ?_
  refine j_ldc2 hx (v := (kJ 2)) (jkd2 q802 (by decide +kernel)) (by decide +kernel) ?_
  refine j_lcmp_eq hx (off := 12) (tgt := 99) (by decide +kernel) (by decide +kernel) (by decide) (fun _ => ?_) (fun _ => ?_)
  · refine j_lv (lv' := [(0, vR t), (1, vI a1), (2, vI l2), (3, vI l3), (4, vL q11)]) ⟨rfl, rfl, rfl, rfl, rfl, trivial⟩ ?_
    exact wsh_section_99 h l2 l3 q11 (jR q7 400 t) q7
  refine j_runA hx 1 (tb := [(90, .lload 4)]) (jtb_ok (by decide +kernel)) (pc' := 92) (lv' := [(4, vL q11), (0, vR t), (1, vI a1), (2, vI l2), (3, vI l3)]) (st' := [vL q11, vR (jR q7 400 t)]) rfl ?_
  refine j_ldc2 hx (v := (kJ 3)) (jkd2 q842 (by decide +kernel)) (by decide +kernel) ?_
  refine j_lcmp_ne hx (off := 7) (tgt := 103) (by decide +kernel) (by decide +kernel) (by decide) (fun _ => ?_) (fun _ => ?_)
  · refine j_runA hx 1 (tb := [(103, .iconst 0)]) (jtb_ok (by decide +kernel)) (pc' := 104) (lv' := [(4, vL q11), (0, vR t), (1, vI a1), (2, vI l2), (3, vI l3)]) (st' := [vI (kI 0), vR (jR q7 400 t)]) rfl ?_
    refine j_goto hx (off := 15) (by decide +kernel) (tgt := 119) (by decide) ?_
    refine j_lv (lv' := [(0, vR t), (1, vI a1), (2, vI l2), (3, vI l3), (4, vL q11)]) ⟨rfl, rfl, rfl, rfl, rfl, trivial⟩ ?_
    exact wsh_section_119 h l2 l3 q11 (kI 0) (jR q7 400 t) q7
  refine j_lv (lv' := [(0, vR t), (1, vI a1), (2, vI l2), (3, vI l3), (4, vL q11)]) ⟨rfl, rfl, rfl, rfl, rfl, trivial⟩ ?_
  exact wsh_section_99 h l2 l3 q11 (jR q7 400 t) q7
theorem wsh_section_35 {x : jCx} {en : ((Nat × jW) ⊕ jW) → Option (Outcome × jW)} {t : Nat} {a1 : Int32} (h : hsh_section x en t a1) (l2 : Int32) (l3 : Int32) (s0 : Nat) (W : jW) : jJ x 10 35 [(0, vR t), (1, vI a1), (2, vI l2), (3, vI l3)] [vR s0] W (fsh_section_35 t a1 l2 l3 s0 W) en := by
  have h0 := h
  obtain ⟨hx, hm, hr, he, ht⟩ := h0
  unfold fsh_section_35
  refine j_runA hx 1 (tb := [(35, .iconst 0)]) (jtb_ok (by decide +kernel)) (pc' := 36) (lv' := [(0, vR t), (1, vI a1), (2, vI l2), (3, vI l3)]) (st' := [vI (kI 0), vR s0]) rfl ?_
  exact wsh_section_36 h l2 l3 (kI 0) s0 W
theorem wsh_section {x : jCx} {en : ((Nat × jW) ⊕ jW) → Option (Outcome × jW)} {t : Nat} {a1 : Int32} (h : hsh_section x en t a1) (W : jW) : jJ x 10 0 [(0, vR t), (1, vI a1)] [] W (fsh_section t a1 W) en := by
  have h0 := h
  obtain ⟨hx, hm, hr, he, ht⟩ := h0
  unfold fsh_section
  refine j_runA hx 2 (tb := [(0, .aload_n 0), (1, .iload_n 1)]) (jtb_ok (by decide +kernel)) (pc' := 2) (lv' := [(0, vR t), (1, vI a1)]) (st' := [vI a1, vR t]) rfl ?_
  refine j_gd (fun h1 => ?_)
  refine j_OI (j_callV (av := [vI a1]) (st := []) hx hr (Or.inl q837) q838 q839 rfl md_fsh_headOf np_fsh_headOf (csh_headOf t a1 W) (by decide) (Nat.le_of_ble_eq_true rfl) h1 (by decide) (by decide +kernel)) (fun q2 _ => ?_)
  refine j_runA hx 2 (tb := [(5, .istore_n 2), (6, .aload_n 0)]) (jtb_ok (by decide +kernel)) (pc' := 7) (lv' := [(2, vI q2), (0, vR t), (1, vI a1)]) (st' := [vR t]) rfl ?_
  refine j_getR hx flX3_57 kl401 h1 (by decide) (by decide +kernel) ?_
  refine j_runA hx 3 (tb := [(10, .iload_n 2), (11, .iconst 4), (12, .iadd)]) (jtb_ok (by decide +kernel)) (pc' := 13) (lv' := [(2, vI q2), (0, vR t), (1, vI a1)]) (st' := [vI (q2 + (kI 4)), vR (jR W 401 t)]) rfl ?_
  refine j_gd (fun h3 => ?_)
  refine j_OI (h3.elim (fun hh => j_callU (av := [vI (q2 + (kI 4))]) (st := []) hx hr q808 q769 (hde_fsr_word) (by decide) q768 q770 rfl md_fsr_word np_fsr_word (csr_word (jR W 401 t) (q2 + (kI 4)) W) (by decide) (Nat.le_of_ble_eq_true rfl) hh (by decide) (by decide +kernel)) (fun hh => j_callU (av := [vI (q2 + (kI 4))]) (st := []) hx hr q808 q769 (hde_fsr_word) (by decide) q768 q771 rfl md_fsr_word np_fsr_word (csr_word (jR W 401 t) (q2 + (kI 4)) W) (by decide) (Nat.le_of_ble_eq_true rfl) hh (by decide) (by decide +kernel))) (fun q4 _ => ?_)
  refine j_runA hx 2 (tb := [(16, .istore_n 3), (17, .aload_n 0)]) (jtb_ok (by decide +kernel)) (pc' := 18) (lv' := [(3, vI q4), (2, vI q2), (0, vR t), (1, vI a1)]) (st' := [vR t]) rfl ?_
  refine j_getR hx flX3_53 kl400 h1 (by decide) (by decide +kernel) ?_
  refine j_runA hx 2 (tb := [(21, .iload_n 3), (22, .iconst 1)]) (jtb_ok (by decide +kernel)) (pc' := 23) (lv' := [(3, vI q4), (2, vI q2), (0, vR t), (1, vI a1)]) (st' := [vI (kI 1), vI q4, vR (jR W 400 t)]) rfl ?_
  refine j_icmp_lt hx (off := 12) (tgt := 35) (by decide +kernel) (by decide) (fun _ => ?_) (fun _ => ?_)
  · refine j_lv (lv' := [(0, vR t), (1, vI a1), (2, vI q2), (3, vI q4)]) ⟨rfl, rfl, rfl, rfl, trivial⟩ ?_
    exact wsh_section_35 h q2 q4 (jR W 400 t) W
  refine j_runA hx 2 (tb := [(26, .iload_n 3), (27, .iconst 4)]) (jtb_ok (by decide +kernel)) (pc' := 28) (lv' := [(3, vI q4), (2, vI q2), (0, vR t), (1, vI a1)]) (st' := [vI (kI 4), vI q4, vR (jR W 400 t)]) rfl ?_
  refine j_icmp_gt hx (off := 7) (tgt := 35) (by decide +kernel) (by decide) (fun _ => ?_) (fun _ => ?_)
  · refine j_lv (lv' := [(0, vR t), (1, vI a1), (2, vI q2), (3, vI q4)]) ⟨rfl, rfl, rfl, rfl, trivial⟩ ?_
    exact wsh_section_35 h q2 q4 (jR W 400 t) W
  refine j_runA hx 1 (tb := [(31, .iconst 1)]) (jtb_ok (by decide +kernel)) (pc' := 32) (lv' := [(3, vI q4), (2, vI q2), (0, vR t), (1, vI a1)]) (st' := [vI (kI 1), vR (jR W 400 t)]) rfl ?_
  refine j_goto hx (off := 4) (by decide +kernel) (tgt := 36) (by decide) ?_
  refine j_lv (lv' := [(0, vR t), (1, vI a1), (2, vI q2), (3, vI q4)]) ⟨rfl, rfl, rfl, rfl, trivial⟩ ?_
  exact wsh_section_36 h q2 q4 (kI 1) (jR W 400 t) W
theorem csh_section (t : Nat) (a1 : Int32) (W : jW) : jM yX3_section cX3_section 10 (Option.none : Option Jvm.ClassFile.FieldType) [] 6 85 [vR t, vI a1] W ((fsh_section t a1 W).bind (fun q => some (Sum.elim (fun z => (.threw (z.1 - 1), z.2)) (fun q => (.returned none, q)) q))) := 
  jM.of (Nat.le_of_ble_eq_true rfl) (fun x hx hm hr => wsh_section ⟨hx, hm, hr, fun _ => rfl, fun _ => rfl⟩ W)
def hsh_isCode (x : jCx) (en : (Int32) → Option (Outcome × jW)) (t : Nat) (a1 : Int32) (W : jW) : Prop :=
  jOK x RX3 cX3_isCode 2 ∧
  jMt x "isCode" (Option.some Jvm.ClassFile.FieldType.boolean) [] ∧
  jRm x 0 0 ∧
  (∀ q : Int32, en q = some (.returned (some (.int q)), W))
theorem wsh_isCode_25 {x : jCx} {en : (Int32) → Option (Outcome × jW)} {W : jW} {t : Nat} {a1 : Int32} (h : hsh_isCode x en t a1 W) : jJ x 2 25 [(0, vR t), (1, vI a1)] [] W (fsh_isCode_25 t a1 W) en := by
  have h0 := h
  obtain ⟨hx, hm, hr, he⟩ := h0
  unfold fsh_isCode_25
  refine j_runA hx 1 (tb := [(25, .iconst 0)]) (jtb_ok (by decide +kernel)) (pc' := 26) (lv' := [(0, vR t), (1, vI a1)]) (st' := [vI (kI 0)]) rfl ?_
  exact j_iret hx hm (by decide +kernel) jz0n (he _)
theorem wsh_isCode {x : jCx} {en : (Int32) → Option (Outcome × jW)} {W : jW} {t : Nat} {a1 : Int32} (h : hsh_isCode x en t a1 W) : jJ x 2 0 [(0, vR t), (1, vI a1)] [] W (fsh_isCode t a1 W) en := by
  have h0 := h
  obtain ⟨hx, hm, hr, he⟩ := h0
  unfold fsh_isCode
  refine j_runA hx 1 (tb := [(0, .aload_n 0)]) (jtb_ok (by decide +kernel)) (pc' := 1) (lv' := [(0, vR t), (1, vI a1)]) (st' := [vR t]) rfl ?_
  refine j_gd (fun h1 => ?_)
  refine j_getR hx flX3_25 kl411 h1 (by decide) (by decide +kernel) ?_
  refine j_runA hx 1 (tb := [(4, .iload_n 1)]) (jtb_ok (by decide +kernel)) (pc' := 5) (lv' := [(0, vR t), (1, vI a1)]) (st' := [vI a1, vR (jR W 411 t)]) rfl ?_
  refine j_gd (fun h2 => ?_)
  refine j_iald hx (f := 411) (o := t) kd411 rfl (by decide +kernel) h2 ?_
  refine j_runA hx 1 (tb := [(6, .iconst 1)]) (jtb_ok (by decide +kernel)) (pc' := 7) (lv' := [(0, vR t), (1, vI a1)]) (st' := [vI (kI 1), vI (jA W 411 t (ix a1))]) rfl ?_
  refine j_icmp_ne hx (off := 18) (tgt := 25) (by decide +kernel) (by decide) (fun _ => ?_) (fun _ => ?_)
  · exact wsh_isCode_25 h
  refine j_runA hx 1 (tb := [(10, .aload_n 0)]) (jtb_ok (by decide +kernel)) (pc' := 11) (lv' := [(0, vR t), (1, vI a1)]) (st' := [vR t]) rfl ?_
  refine j_getR hx flX3_28 kl412 h1 (by decide) (by decide +kernel) ?_
  refine j_runA hx 1 (tb := [(14, .iload_n 1)]) (jtb_ok (by decide +kernel)) (pc' := 15) (lv' := [(0, vR t), (1, vI a1)]) (st' := [vI a1, vR (jR W 412 t)]) rfl ?_
  refine j_gd (fun h3 => ?_)
  refine j_iald hx (f := 412) (o := t) kd412 rfl (by decide +kernel) h3 ?_
  refine j_runA hx 1 (tb := [(16, .bipush 6)]) (jtb_ok (by decide +kernel)) (pc' := 18) (lv' := [(0, vR t), (1, vI a1)]) (st' := [vI (kI 6), vI (jA W 412 t (ix a1))]) rfl ?_
  refine j_icmp_ne hx (off := 7) (tgt := 25) (by decide +kernel) (by decide) (fun _ => ?_) (fun _ => ?_)
  · exact wsh_isCode_25 h
  refine j_runA hx 1 (tb := [(21, .iconst 1)]) (jtb_ok (by decide +kernel)) (pc' := 22) (lv' := [(0, vR t), (1, vI a1)]) (st' := [vI (kI 1)]) rfl ?_
  refine j_goto hx (off := 4) (by decide +kernel) (tgt := 26) (by decide) ?_
  exact j_iret hx hm (by decide +kernel) jz1n (he _)
theorem csh_isCode (t : Nat) (a1 : Int32) (W : jW) : jM yX3_isCode cX3_isCode 2 (Option.some Jvm.ClassFile.FieldType.boolean) [] 0 0 [vR t, vI a1] W ((fsh_isCode t a1 W).bind (fun q => some (.returned (some (.int q)), W))) := 
  jM.of (Nat.le_of_ble_eq_true rfl) (fun x hx hm hr => wsh_isCode ⟨hx, hm, hr, fun _ => rfl⟩)
def hsh_isData (x : jCx) (en : (Int32) → Option (Outcome × jW)) (t : Nat) (a1 : Int32) (W : jW) : Prop :=
  jOK x RX3 cX3_isData 2 ∧
  jMt x "isData" (Option.some Jvm.ClassFile.FieldType.boolean) [] ∧
  jRm x 0 0 ∧
  (∀ q : Int32, en q = some (.returned (some (.int q)), W))
theorem wsh_isData_30 {x : jCx} {en : (Int32) → Option (Outcome × jW)} {W : jW} {t : Nat} {a1 : Int32} (h : hsh_isData x en t a1 W) : jJ x 2 30 [(0, vR t), (1, vI a1)] [] W (fsh_isData_30 t a1 W) en := by
  have h0 := h
  obtain ⟨hx, hm, hr, he⟩ := h0
  unfold fsh_isData_30
  refine j_runA hx 1 (tb := [(30, .iconst 1)]) (jtb_ok (by decide +kernel)) (pc' := 31) (lv' := [(0, vR t), (1, vI a1)]) (st' := [vI (kI 1)]) rfl ?_
  refine j_goto hx (off := 4) (by decide +kernel) (tgt := 35) (by decide) ?_
  exact j_iret hx hm (by decide +kernel) jz1n (he _)
theorem wsh_isData_34 {x : jCx} {en : (Int32) → Option (Outcome × jW)} {W : jW} {t : Nat} {a1 : Int32} (h : hsh_isData x en t a1 W) : jJ x 2 34 [(0, vR t), (1, vI a1)] [] W (fsh_isData_34 t a1 W) en := by
  have h0 := h
  obtain ⟨hx, hm, hr, he⟩ := h0
  unfold fsh_isData_34
  refine j_runA hx 1 (tb := [(34, .iconst 0)]) (jtb_ok (by decide +kernel)) (pc' := 35) (lv' := [(0, vR t), (1, vI a1)]) (st' := [vI (kI 0)]) rfl ?_
  exact j_iret hx hm (by decide +kernel) jz0n (he _)
theorem wsh_isData {x : jCx} {en : (Int32) → Option (Outcome × jW)} {W : jW} {t : Nat} {a1 : Int32} (h : hsh_isData x en t a1 W) : jJ x 2 0 [(0, vR t), (1, vI a1)] [] W (fsh_isData t a1 W) en := by
  have h0 := h
  obtain ⟨hx, hm, hr, he⟩ := h0
  unfold fsh_isData
  refine j_runA hx 1 (tb := [(0, .aload_n 0)]) (jtb_ok (by decide +kernel)) (pc' := 1) (lv' := [(0, vR t), (1, vI a1)]) (st' := [vR t]) rfl ?_
  refine j_gd (fun h1 => ?_)
  refine j_getR hx flX3_25 kl411 h1 (by decide) (by decide +kernel) ?_
  refine j_runA hx 1 (tb := [(4, .iload_n 1)]) (jtb_ok (by decide +kernel)) (pc' := 5) (lv' := [(0, vR t), (1, vI a1)]) (st' := [vI a1, vR (jR W 411 t)]) rfl ?_
  refine j_gd (fun h2 => ?_)
  refine j_iald hx (f := 411) (o := t) kd411 rfl (by decide +kernel) h2 ?_
  refine j_runA hx 1 (tb := [(6, .iconst 1)]) (jtb_ok (by decide +kernel)) (pc' := 7) (lv' := [(0, vR t), (1, vI a1)]) (st' := [vI (kI 1), vI (jA W 411 t (ix a1))]) rfl ?_
  refine j_icmp_ne hx (off := 27) (tgt := 34) (by decide +kernel) (by decide) (fun _ => ?_) (fun _ => ?_)
  · exact wsh_isData_34 h
  refine j_runA hx 1 (tb := [(10, .aload_n 0)]) (jtb_ok (by decide +kernel)) (pc' := 11) (lv' := [(0, vR t), (1, vI a1)]) (st' := [vR t]) rfl ?_
  refine j_getR hx flX3_28 kl412 h1 (by decide) (by decide +kernel) ?_
  refine j_runA hx 1 (tb := [(14, .iload_n 1)]) (jtb_ok (by decide +kernel)) (pc' := 15) (lv' := [(0, vR t), (1, vI a1)]) (st' := [vI a1, vR (jR W 412 t)]) rfl ?_
  refine j_gd (fun h3 => ?_)
  refine j_iald hx (f := 412) (o := t) kd412 rfl (by decide +kernel) h3 ?_
  refine j_runA hx 1 (tb := [(16, .iconst 2)]) (jtb_ok (by decide +kernel)) (pc' := 17) (lv' := [(0, vR t), (1, vI a1)]) (st' := [vI (kI 2), vI (jA W 412 t (ix a1))]) rfl ?_
  refine j_icmp_eq hx (off := 13) (tgt := 30) (by decide +kernel) (by decide) (fun _ => ?_) (fun _ => ?_)
  · exact wsh_isData_30 h
  refine j_runA hx 1 (tb := [(20, .aload_n 0)]) (jtb_ok (by decide +kernel)) (pc' := 21) (lv' := [(0, vR t), (1, vI a1)]) (st' := [vR t]) rfl ?_
  refine j_getR hx flX3_28 kl412 h1 (by decide) (by decide +kernel) ?_
  refine j_runA hx 1 (tb := [(24, .iload_n 1)]) (jtb_ok (by decide +kernel)) (pc' := 25) (lv' := [(0, vR t), (1, vI a1)]) (st' := [vI a1, vR (jR W 412 t)]) rfl ?_
  refine j_gd (fun h4 => ?_)
  refine j_iald hx (f := 412) (o := t) kd412 rfl (by decide +kernel) h4 ?_
  refine j_runA hx 1 (tb := [(26, .iconst 3)]) (jtb_ok (by decide +kernel)) (pc' := 27) (lv' := [(0, vR t), (1, vI a1)]) (st' := [vI (kI 3), vI (jA W 412 t (ix a1))]) rfl ?_
  refine j_icmp_ne hx (off := 7) (tgt := 34) (by decide +kernel) (by decide) (fun _ => ?_) (fun _ => ?_)
  · exact wsh_isData_34 h
  exact wsh_isData_30 h
theorem csh_isData (t : Nat) (a1 : Int32) (W : jW) : jM yX3_isData cX3_isData 2 (Option.some Jvm.ClassFile.FieldType.boolean) [] 0 0 [vR t, vI a1] W ((fsh_isData t a1 W).bind (fun q => some (.returned (some (.int q)), W))) := 
  jM.of (Nat.le_of_ble_eq_true rfl) (fun x hx hm hr => wsh_isData ⟨hx, hm, hr, fun _ => rfl⟩)
def hsh_isHeld (x : jCx) (en : (fsh_isHeld_S ⊕ (Int32)) → Option (Outcome × jW)) (t : Nat) (a1 : Int32) (W : jW) : Prop :=
  jOK x RX3 cX3_isHeld 6 ∧
  jMt x "isHeld" (Option.some Jvm.ClassFile.FieldType.boolean) [] ∧
  jRm x 1 13 ∧
  (∀ q : Int32, en (.inr q) = some (.returned (some (.int q)), W)) ∧
  (∀ (l2 : Int32), jJ x 6 2 [(0, vR t), (1, vI a1), (2, vI l2)] [] W (some (.inl l2)) en)
theorem wsh_isHeld_115 {x : jCx} {en : (fsh_isHeld_S ⊕ (Int32)) → Option (Outcome × jW)} {W : jW} {t : Nat} {a1 : Int32} (h : hsh_isHeld x en t a1 W) : jJ x 6 115 [(0, vR t), (1, vI a1)] [] W (fsh_isHeld_115 t a1 W) en := by
  have h0 := h
  obtain ⟨hx, hm, hr, he, k2⟩ := h0
  unfold fsh_isHeld_115
  refine j_runA hx 1 (tb := [(115, .iconst 1)]) (jtb_ok (by decide +kernel)) (pc' := 116) (lv' := [(0, vR t), (1, vI a1)]) (st' := [vI (kI 1)]) rfl ?_
  exact j_iret hx hm (by decide +kernel) jz1n (he _)
theorem wsh_isHeld_117 {x : jCx} {en : (fsh_isHeld_S ⊕ (Int32)) → Option (Outcome × jW)} {W : jW} {t : Nat} {a1 : Int32} (h : hsh_isHeld x en t a1 W) (l2 : Int32) : jJ x 6 117 [(0, vR t), (1, vI a1), (2, vI l2)] [] W (fsh_isHeld_117 t a1 l2 W) en := by
  have h0 := h
  obtain ⟨hx, hm, hr, he, k2⟩ := h0
  unfold fsh_isHeld_117
  refine j_runA hx 1 (tb := [(117, .iinc 2 1)]) (jtb_ok (by decide +kernel)) (pc' := 120) (lv' := [(2, vI (l2 + (kI 1))), (0, vR t), (1, vI a1)]) (st' := []) rfl ?_
  refine j_let (v := (l2 + (kI 1))) (lv := fun v18 => [(2, vI v18), (0, vR t), (1, vI a1)]) (st := fun _ => []) (fun v18 => ?_)
  refine j_goto hx (off := -118) (by decide +kernel) (tgt := 2) (by decide) ?_
  refine j_lv (lv' := [(0, vR t), (1, vI a1), (2, vI v18)]) ⟨rfl, rfl, rfl, trivial⟩ ?_
  exact k2 v18
theorem wsh_isHeld_67 {x : jCx} {en : (fsh_isHeld_S ⊕ (Int32)) → Option (Outcome × jW)} {W : jW} {t : Nat} {a1 : Int32} (h : hsh_isHeld x en t a1 W) (l2 : Int32) (l3 : Int64) (s0 : Int32) : jJ x 6 67 [(0, vR t), (1, vI a1), (2, vI l2), (3, vL l3)] [vI s0] W (fsh_isHeld_67 t a1 l2 l3 s0 W) en := by
  have h0 := h
  obtain ⟨hx, hm, hr, he, k2⟩ := h0
  unfold fsh_isHeld_67
  refine j_runA hx 2 (tb := [(67, .istore 5), (69, .iload 5)]) (jtb_ok (by decide +kernel)) (pc' := 71) (lv' := [(5, vI s0), (0, vR t), (1, vI a1), (2, vI l2), (3, vL l3)]) (st' := [vI s0]) rfl ?_
  refine j_if_eq hx (off := 46) (tgt := 117) (by decide +kernel) (by decide) (fun _ => ?_) (fun _ => ?_)
  · refine j_lv (lv' := [(0, vR t), (1, vI a1), (2, vI l2)]) ⟨rfl, rfl, rfl, trivial⟩ ?_
    exact wsh_isHeld_117 h l2
  refine j_runA hx 1 (tb := [(74, .aload_n 0)]) (jtb_ok (by decide +kernel)) (pc' := 75) (lv' := [(5, vI s0), (0, vR t), (1, vI a1), (2, vI l2), (3, vL l3)]) (st' := [vR t]) rfl ?_
  refine j_gd (fun h11 => ?_)
  refine j_getR hx flX3_34 kl414 h11 (by decide) (by decide +kernel) ?_
  refine j_runA hx 1 (tb := [(78, .iload_n 1)]) (jtb_ok (by decide +kernel)) (pc' := 79) (lv' := [(5, vI s0), (0, vR t), (1, vI a1), (2, vI l2), (3, vL l3)]) (st' := [vI a1, vR (jR W 414 t)]) rfl ?_
  refine j_gd (fun h12 => ?_)
  refine j_iald hx (f := 414) (o := t) kd414 rfl (by decide +kernel) h12 ?_
  refine j_runA hx 2 (tb := [(80, .i2l), (81, .aload_n 0)]) (jtb_ok (by decide +kernel)) (pc' := 82) (lv' := [(5, vI s0), (0, vR t), (1, vI a1), (2, vI l2), (3, vL l3)]) (st' := [vR t, vL ((jA W 414 t (ix a1)).toInt64)]) rfl ?_
  refine j_getR hx flX3_19 kl409 h11 (by decide) (by decide +kernel) ?_
  refine j_runA hx 1 (tb := [(85, .iload_n 2)]) (jtb_ok (by decide +kernel)) (pc' := 86) (lv' := [(5, vI s0), (0, vR t), (1, vI a1), (2, vI l2), (3, vL l3)]) (st' := [vI l2, vR (jR W 409 t), vL ((jA W 414 t (ix a1)).toInt64)]) rfl ?_
  refine j_gd (fun h13 => ?_)
  refine j_iald hx (f := 409) (o := t) kd409 rfl (by decide +kernel) h13 ?_
  refine j_runA hx 3 (tb := [(87, .i2l), (88, .lload_n 3), (89, .ladd)]) (jtb_ok (by decide +kernel)) (pc' := 90) (lv' := [(5, vI s0), (0, vR t), (1, vI a1), (2, vI l2), (3, vL l3)]) (st' := [vL (((jA W 409 t (ix l2)).toInt64) + l3), vL ((jA W 414 t (ix a1)).toInt64)]) rfl ?_
  refine j_lcmp_ne hx (off := 26) (tgt := 117) (by decide +kernel) (by decide +kernel) (by decide) (fun _ => ?_) (fun _ => ?_)
  · refine j_lv (lv' := [(0, vR t), (1, vI a1), (2, vI l2)]) ⟨rfl, rfl, rfl, trivial⟩ ?_
    exact wsh_isHeld_117 h l2
  refine j_runA hx 1 (tb := [(94, .aload_n 0)]) (jtb_ok (by decide +kernel)) (pc' := 95) (lv' := [(5, vI s0), (0, vR t), (1, vI a1), (2, vI l2), (3, vL l3)]) (st' := [vR t]) rfl ?_
  refine j_getR hx flX3_28 kl412 h11 (by decide) (by decide +kernel) ?_
  refine j_runA hx 1 (tb := [(98, .iload_n 1)]) (jtb_ok (by decide +kernel)) (pc' := 99) (lv' := [(5, vI s0), (0, vR t), (1, vI a1), (2, vI l2), (3, vL l3)]) (st' := [vI a1, vR (jR W 412 t)]) rfl ?_
  refine j_gd (fun h14 => ?_)
  refine j_iald hx (f := 412) (o := t) kd412 rfl (by decide +kernel) h14 ?_
  refine j_runA hx 1 (tb := [(100, .iconst 2)]) (jtb_ok (by decide +kernel)) (pc' := 101) (lv' := [(5, vI s0), (0, vR t), (1, vI a1), (2, vI l2), (3, vL l3)]) (st' := [vI (kI 2), vI (jA W 412 t (ix a1))]) rfl ?_
  refine j_icmp_eq hx (off := 14) (tgt := 115) (by decide +kernel) (by decide) (fun _ => ?_) (fun _ => ?_)
  · refine j_lv (lv' := [(0, vR t), (1, vI a1)]) ⟨rfl, rfl, trivial⟩ ?_
    exact wsh_isHeld_115 h
  refine j_runA hx 1 (tb := [(104, .aload_n 0)]) (jtb_ok (by decide +kernel)) (pc' := 105) (lv' := [(5, vI s0), (0, vR t), (1, vI a1), (2, vI l2), (3, vL l3)]) (st' := [vR t]) rfl ?_
  refine j_getR hx flX3_9 kl407 h11 (by decide) (by decide +kernel) ?_
  refine j_runA hx 1 (tb := [(108, .iload_n 2)]) (jtb_ok (by decide +kernel)) (pc' := 109) (lv' := [(5, vI s0), (0, vR t), (1, vI a1), (2, vI l2), (3, vL l3)]) (st' := [vI l2, vR (jR W 407 t)]) rfl ?_
  refine j_gd (fun h15 => ?_)
  refine j_iald hx (f := 407) (o := t) kd407 rfl (by decide +kernel) h15 ?_
  refine j_runA hx 1 (tb := [(110, .bipush 6)]) (jtb_ok (by decide +kernel)) (pc' := 112) (lv' := [(5, vI s0), (0, vR t), (1, vI a1), (2, vI l2), (3, vL l3)]) (st' := [vI (kI 6), vI (jA W 407 t (ix l2))]) rfl ?_
  refine j_icmp_ne hx (off := 5) (tgt := 117) (by decide +kernel) (by decide) (fun _ => ?_) (fun _ => ?_)
  · refine j_lv (lv' := [(0, vR t), (1, vI a1), (2, vI l2)]) ⟨rfl, rfl, rfl, trivial⟩ ?_
    exact wsh_isHeld_117 h l2
  refine j_lv (lv' := [(0, vR t), (1, vI a1)]) ⟨rfl, rfl, trivial⟩ ?_
  exact wsh_isHeld_115 h
theorem wsh_isHeld_66 {x : jCx} {en : (fsh_isHeld_S ⊕ (Int32)) → Option (Outcome × jW)} {W : jW} {t : Nat} {a1 : Int32} (h : hsh_isHeld x en t a1 W) (l2 : Int32) (l3 : Int64) : jJ x 6 66 [(0, vR t), (1, vI a1), (2, vI l2), (3, vL l3)] [] W (fsh_isHeld_66 t a1 l2 l3 W) en := by
  have h0 := h
  obtain ⟨hx, hm, hr, he, k2⟩ := h0
  unfold fsh_isHeld_66
  refine j_runA hx 1 (tb := [(66, .iconst 0)]) (jtb_ok (by decide +kernel)) (pc' := 67) (lv' := [(0, vR t), (1, vI a1), (2, vI l2), (3, vL l3)]) (st' := [vI (kI 0)]) rfl ?_
  exact wsh_isHeld_67 h l2 l3 (kI 0)
theorem wsh_isHeld_2 {x : jCx} {en : (fsh_isHeld_S ⊕ (Int32)) → Option (Outcome × jW)} {W : jW} {t : Nat} {a1 : Int32} (h : hsh_isHeld x en t a1 W) (l2 : Int32) : jJ x 6 2 [(0, vR t), (1, vI a1), (2, vI l2)] [] W (fsh_isHeld_2 t a1 l2 W) en := by
  have h0 := h
  obtain ⟨hx, hm, hr, he, k2⟩ := h0
  unfold fsh_isHeld_2
  refine j_runA hx 2 (tb := [(2, .iload_n 2), (3, .aload_n 0)]) (jtb_ok (by decide +kernel)) (pc' := 4) (lv' := [(0, vR t), (1, vI a1), (2, vI l2)]) (st' := [vR t, vI l2]) rfl ?_
  refine j_gd (fun h2 => ?_)
  refine j_OI (j_callV (av := []) (st := [vI l2]) hx hr (Or.inl q792) q793 q794 rfl md_fsh_last np_fsh_last (csh_last t W) (by decide) (Nat.le_of_ble_eq_true rfl) h2 (by decide) (by decide +kernel)) (fun q3 _ => ?_)
  refine j_icmp_ge hx (off := 116) (tgt := 123) (by decide +kernel) (by decide) (fun _ => ?_) (fun _ => ?_)
  · refine j_runA hx 1 (tb := [(123, .iconst 0)]) (jtb_ok (by decide +kernel)) (pc' := 124) (lv' := [(0, vR t), (1, vI a1), (2, vI l2)]) (st' := [vI (kI 0)]) rfl ?_
    exact j_iret hx hm (by decide +kernel) jz0n (he _)
  refine j_runA hx 1 (tb := [(10, .aload_n 0)]) (jtb_ok (by decide +kernel)) (pc' := 11) (lv' := [(0, vR t), (1, vI a1), (2, vI l2)]) (st' := [vR t]) rfl ?_
  refine j_getR hx flX3_31 kl413 h2 (by decide) (by decide +kernel) ?_
  refine j_runA hx 1 (tb := [(14, .iload_n 1)]) (jtb_ok (by decide +kernel)) (pc' := 15) (lv' := [(0, vR t), (1, vI a1), (2, vI l2)]) (st' := [vI a1, vR (jR W 413 t)]) rfl ?_
  refine j_gd (fun h4 => ?_)
  refine j_lald hx (f := 413) (o := t) kd413 rfl (by decide +kernel) h4 ?_
  refine j_runA hx 1 (tb := [(16, .aload_n 0)]) (jtb_ok (by decide +kernel)) (pc' := 17) (lv' := [(0, vR t), (1, vI a1), (2, vI l2)]) (st' := [vR t, vL (jB W 413 t (ix a1))]) rfl ?_
  refine j_getR hx flX3_15 kl408 h2 (by decide) (by decide +kernel) ?_
  refine j_runA hx 1 (tb := [(20, .iload_n 2)]) (jtb_ok (by decide +kernel)) (pc' := 21) (lv' := [(0, vR t), (1, vI a1), (2, vI l2)]) (st' := [vI l2, vR (jR W 408 t), vL (jB W 413 t (ix a1))]) rfl ?_
  refine j_gd (fun h5 => ?_)
  refine j_lald hx (f := 408) (o := t) kd408 rfl (by decide +kernel) h5 ?_
  refine j_runA hx 2 (tb := [(22, .lsub), (23, .lstore_n 3)]) (jtb_ok (by decide +kernel)) (pc' := 24) (lv' := [(3, vL ((jB W 413 t (ix a1)) - (jB W 408 t (ix l2)))), (0, vR t), (1, vI a1), (2, vI l2)]) (st' := []) rfl ?_
  refine j_let (v := ((jB W 413 t (ix a1)) - (jB W 408 t (ix l2)))) (lv := fun v6 => [(3, vL v6), (0, vR t), (1, vI a1), (2, vI l2)]) (st := fun _ => []) (fun v6 => ?_)
  refine j_runA hx 2 (tb := [(24, .lload_n 3), (25, .lconst 0)]) (jtb_ok (by decide +kernel)) (pc' := 26) (lv' := [(3, vL v6), (0, vR t), (1, vI a1), (2, vI l2)]) (st' := [vL (kJ 0), vL v6]) rfl ?_
  refine j_lcmp_lt hx (off := 39) (tgt := 66) (by decide +kernel) (by decide +kernel) (by decide) (fun _ => ?_) (fun _ => ?_)
  · refine j_lv (lv' := [(0, vR t), (1, vI a1), (2, vI l2), (3, vL v6)]) ⟨rfl, rfl, rfl, rfl, trivial⟩ ?_
    exact wsh_isHeld_66 h l2 v6
  refine j_runA hx 2 (tb := [(30, .lload_n 3), (31, .aload_n 0)]) (jtb_ok (by decide +kernel)) (pc' := 32) (lv' := [(3, vL v6), (0, vR t), (1, vI a1), (2, vI l2)]) (st' := [vR t, vL v6]) rfl ?_
  refine j_getR hx flX3_22 kl410 h2 (by decide) (by decide +kernel) ?_
  refine j_runA hx 1 (tb := [(35, .iload_n 2)]) (jtb_ok (by decide +kernel)) (pc' := 36) (lv' := [(3, vL v6), (0, vR t), (1, vI a1), (2, vI l2)]) (st' := [vI l2, vR (jR W 410 t), vL v6]) rfl ?_
  refine j_gd (fun h7 => ?_)
  refine j_iald hx (f := 410) (o := t) kd410 rfl (by decide +kernel) h7 ?_
  refine j_runA hx 1 (tb := [(37, .i2l)]) (jtb_ok (by decide +kernel)) (pc' := 38) (lv' := [(3, vL v6), (0, vR t), (1, vI a1), (2, vI l2)]) (st' := [vL ((jA W 410 t (ix l2)).toInt64), vL v6]) rfl ?_
  refine j_lcmp_gt hx (off := 27) (tgt := 66) (by decide +kernel) (by decide +kernel) (by decide) (fun _ => ?_) (fun _ => ?_)
  · refine j_lv (lv' := [(0, vR t), (1, vI a1), (2, vI l2), (3, vL v6)]) ⟨rfl, rfl, rfl, rfl, trivial⟩ ?_
    exact wsh_isHeld_66 h l2 v6
  refine j_runA hx 2 (tb := [(42, .lload_n 3), (43, .aload_n 0)]) (jtb_ok (by decide +kernel)) (pc' := 44) (lv' := [(3, vL v6), (0, vR t), (1, vI a1), (2, vI l2)]) (st' := [vR t, vL v6]) rfl ?_
  refine j_getR hx flX3_37 kl415 h2 (by decide) (by decide +kernel) ?_
  refine j_runA hx 1 (tb := [(47, .iload_n 1)]) (jtb_ok (by decide +kernel)) (pc' := 48) (lv' := [(3, vL v6), (0, vR t), (1, vI a1), (2, vI l2)]) (st' := [vI a1, vR (jR W 415 t), vL v6]) rfl ?_
  refine j_gd (fun h8 => ?_)
  refine j_iald hx (f := 415) (o := t) kd415 rfl (by decide +kernel) h8 ?_
  refine j_runA hx 3 (tb := [(49, .i2l), (50, .ladd), (51, .aload_n 0)]) (jtb_ok (by decide +kernel)) (pc' := 52) (lv' := [(3, vL v6), (0, vR t), (1, vI a1), (2, vI l2)]) (st' := [vR t, vL (v6 + ((jA W 415 t (ix a1)).toInt64))]) rfl ?_
  refine j_getR hx flX3_22 kl410 h2 (by decide) (by decide +kernel) ?_
  refine j_runA hx 1 (tb := [(55, .iload_n 2)]) (jtb_ok (by decide +kernel)) (pc' := 56) (lv' := [(3, vL v6), (0, vR t), (1, vI a1), (2, vI l2)]) (st' := [vI l2, vR (jR W 410 t), vL (v6 + ((jA W 415 t (ix a1)).toInt64))]) rfl ?_
  refine j_gd (fun h9 => ?_)
  refine j_iald hx (f := 410) (o := t) kd410 rfl (by decide +kernel) h9 ?_
  refine j_runA hx 1 (tb := [(57, .i2l)]) (jtb_ok (by decide +kernel)) (pc' := 58) (lv' := [(3, vL v6), (0, vR t), (1, vI a1), (2, vI l2)]) (st' := [vL ((jA W 410 t (ix l2)).toInt64), vL (v6 + ((jA W 415 t (ix a1)).toInt64))]) rfl ?_
  refine j_lcmp_gt hx (off := 7) (tgt := 66) (by decide +kernel) (by decide +kernel) (by decide) (fun _ => ?_) (fun _ => ?_)
  · refine j_lv (lv' := [(0, vR t), (1, vI a1), (2, vI l2), (3, vL v6)]) ⟨rfl, rfl, rfl, rfl, trivial⟩ ?_
    exact wsh_isHeld_66 h l2 v6
  refine j_runA hx 1 (tb := [(62, .iconst 1)]) (jtb_ok (by decide +kernel)) (pc' := 63) (lv' := [(3, vL v6), (0, vR t), (1, vI a1), (2, vI l2)]) (st' := [vI (kI 1)]) rfl ?_
  refine j_goto hx (off := 4) (by decide +kernel) (tgt := 67) (by decide) ?_
  refine j_lv (lv' := [(0, vR t), (1, vI a1), (2, vI l2), (3, vL v6)]) ⟨rfl, rfl, rfl, rfl, trivial⟩ ?_
  exact wsh_isHeld_67 h l2 v6 (kI 1)
theorem wsh_isHeld {x : jCx} {en : (fsh_isHeld_S ⊕ (Int32)) → Option (Outcome × jW)} {W : jW} {t : Nat} {a1 : Int32} (h : hsh_isHeld x en t a1 W) : jJ x 6 0 [(0, vR t), (1, vI a1)] [] W (fsh_isHeld_0 t a1 W) en := by
  have h0 := h
  obtain ⟨hx, hm, hr, he, k2⟩ := h0
  unfold fsh_isHeld_0
  refine j_runA hx 2 (tb := [(0, .iconst 0), (1, .istore_n 2)]) (jtb_ok (by decide +kernel)) (pc' := 2) (lv' := [(2, vI (kI 0)), (0, vR t), (1, vI a1)]) (st' := []) rfl ?_
  refine j_lv (lv' := [(0, vR t), (1, vI a1), (2, vI (kI 0))]) ⟨rfl, rfl, rfl, trivial⟩ ?_
  exact k2 (kI 0)
theorem csh_isHeld (t : Nat) (a1 : Int32) (W : jW) : jM yX3_isHeld cX3_isHeld 6 (Option.some Jvm.ClassFile.FieldType.boolean) [] 1 13 [vR t, vI a1] W ((fsh_isHeld t a1 W).bind (fun q => some (.returned (some (.int q)), W))) := by
  refine jM.of (Nat.le_of_ble_eq_true rfl) (fun x hx hm hr => ?_)
  refine j_begin (P := (fun s => (2, [(0, vR t), (1, vI a1), (2, vI s)], W))) (fun en he hk => ?_)
  have h : hsh_isHeld x en t a1 W := ⟨hx, hm, hr, fun q => he _, fun l2 => hk l2⟩
  exact ⟨fun s => wsh_isHeld_2 h s, wsh_isHeld h⟩
def hsh_areApart (x : jCx) (en : (Int32) → Option (Outcome × jW)) (t : Nat) (a1 : Int32) (a2 : Int32) (W : jW) : Prop :=
  jOK x RX3 cX3_areApart 3 ∧
  jMt x "areApart" (Option.some Jvm.ClassFile.FieldType.boolean) [] ∧
  jRm x 0 0 ∧
  (∀ q : Int32, en q = some (.returned (some (.int q)), W))
theorem wsh_areApart_62 {x : jCx} {en : (Int32) → Option (Outcome × jW)} {W : jW} {t : Nat} {a1 : Int32} {a2 : Int32} (h : hsh_areApart x en t a1 a2 W) : jJ x 3 62 [(0, vR t), (1, vI a1), (2, vI a2)] [] W (fsh_areApart_62 t a1 a2 W) en := by
  have h0 := h
  obtain ⟨hx, hm, hr, he⟩ := h0
  unfold fsh_areApart_62
  refine j_runA hx 1 (tb := [(62, .iconst 1)]) (jtb_ok (by decide +kernel)) (pc' := 63) (lv' := [(0, vR t), (1, vI a1), (2, vI a2)]) (st' := [vI (kI 1)]) rfl ?_
  refine j_goto hx (off := 4) (by decide +kernel) (tgt := 67) (by decide) ?_
  exact j_iret hx hm (by decide +kernel) jz1n (he _)
theorem wsh_areApart {x : jCx} {en : (Int32) → Option (Outcome × jW)} {W : jW} {t : Nat} {a1 : Int32} {a2 : Int32} (h : hsh_areApart x en t a1 a2 W) : jJ x 3 0 [(0, vR t), (1, vI a1), (2, vI a2)] [] W (fsh_areApart t a1 a2 W) en := by
  have h0 := h
  obtain ⟨hx, hm, hr, he⟩ := h0
  unfold fsh_areApart
  refine j_runA hx 1 (tb := [(0, .aload_n 0)]) (jtb_ok (by decide +kernel)) (pc' := 1) (lv' := [(0, vR t), (1, vI a1), (2, vI a2)]) (st' := [vR t]) rfl ?_
  refine j_gd (fun h1 => ?_)
  refine j_getR hx flX3_37 kl415 h1 (by decide) (by decide +kernel) ?_
  refine j_runA hx 1 (tb := [(4, .iload_n 1)]) (jtb_ok (by decide +kernel)) (pc' := 5) (lv' := [(0, vR t), (1, vI a1), (2, vI a2)]) (st' := [vI a1, vR (jR W 415 t)]) rfl ?_
  refine j_gd (fun h2 => ?_)
  refine j_iald hx (f := 415) (o := t) kd415 rfl (by decide +kernel) h2 ?_
  refine j_if_eq hx (off := 56) (tgt := 62) (by decide +kernel) (by decide) (fun _ => ?_) (fun _ => ?_)
  · exact wsh_areApart_62 h
  refine j_runA hx 1 (tb := [(9, .aload_n 0)]) (jtb_ok (by decide +kernel)) (pc' := 10) (lv' := [(0, vR t), (1, vI a1), (2, vI a2)]) (st' := [vR t]) rfl ?_
  refine j_getR hx flX3_37 kl415 h1 (by decide) (by decide +kernel) ?_
  refine j_runA hx 1 (tb := [(13, .iload_n 2)]) (jtb_ok (by decide +kernel)) (pc' := 14) (lv' := [(0, vR t), (1, vI a1), (2, vI a2)]) (st' := [vI a2, vR (jR W 415 t)]) rfl ?_
  refine j_gd (fun h3 => ?_)
  refine j_iald hx (f := 415) (o := t) kd415 rfl (by decide +kernel) h3 ?_
  refine j_if_eq hx (off := 47) (tgt := 62) (by decide +kernel) (by decide) (fun _ => ?_) (fun _ => ?_)
  · exact wsh_areApart_62 h
  refine j_runA hx 1 (tb := [(18, .aload_n 0)]) (jtb_ok (by decide +kernel)) (pc' := 19) (lv' := [(0, vR t), (1, vI a1), (2, vI a2)]) (st' := [vR t]) rfl ?_
  refine j_getR hx flX3_34 kl414 h1 (by decide) (by decide +kernel) ?_
  refine j_runA hx 1 (tb := [(22, .iload_n 1)]) (jtb_ok (by decide +kernel)) (pc' := 23) (lv' := [(0, vR t), (1, vI a1), (2, vI a2)]) (st' := [vI a1, vR (jR W 414 t)]) rfl ?_
  refine j_gd (fun h4 => ?_)
  refine j_iald hx (f := 414) (o := t) kd414 rfl (by decide +kernel) h4 ?_
  refine j_runA hx 1 (tb := [(24, .aload_n 0)]) (jtb_ok (by decide +kernel)) (pc' := 25) (lv' := [(0, vR t), (1, vI a1), (2, vI a2)]) (st' := [vR t, vI (jA W 414 t (ix a1))]) rfl ?_
  refine j_getR hx flX3_37 kl415 h1 (by decide) (by decide +kernel) ?_
  refine j_runA hx 1 (tb := [(28, .iload_n 1)]) (jtb_ok (by decide +kernel)) (pc' := 29) (lv' := [(0, vR t), (1, vI a1), (2, vI a2)]) (st' := [vI a1, vR (jR W 415 t), vI (jA W 414 t (ix a1))]) rfl ?_
  refine j_gd (fun h5 => ?_)
  refine j_iald hx (f := 415) (o := t) kd415 rfl (by decide +kernel) h5 ?_
  refine j_runA hx 2 (tb := [(30, .iadd), (31, .aload_n 0)]) (jtb_ok (by decide +kernel)) (pc' := 32) (lv' := [(0, vR t), (1, vI a1), (2, vI a2)]) (st' := [vR t, vI ((jA W 414 t (ix a1)) + (jA W 415 t (ix a1)))]) rfl ?_
  refine j_getR hx flX3_34 kl414 h1 (by decide) (by decide +kernel) ?_
  refine j_runA hx 1 (tb := [(35, .iload_n 2)]) (jtb_ok (by decide +kernel)) (pc' := 36) (lv' := [(0, vR t), (1, vI a1), (2, vI a2)]) (st' := [vI a2, vR (jR W 414 t), vI ((jA W 414 t (ix a1)) + (jA W 415 t (ix a1)))]) rfl ?_
  refine j_gd (fun h6 => ?_)
  refine j_iald hx (f := 414) (o := t) kd414 rfl (by decide +kernel) h6 ?_
  refine j_icmp_le hx (off := 25) (tgt := 62) (by decide +kernel) (by decide) (fun _ => ?_) (fun _ => ?_)
  · exact wsh_areApart_62 h
  refine j_runA hx 1 (tb := [(40, .aload_n 0)]) (jtb_ok (by decide +kernel)) (pc' := 41) (lv' := [(0, vR t), (1, vI a1), (2, vI a2)]) (st' := [vR t]) rfl ?_
  refine j_getR hx flX3_34 kl414 h1 (by decide) (by decide +kernel) ?_
  refine j_runA hx 1 (tb := [(44, .iload_n 2)]) (jtb_ok (by decide +kernel)) (pc' := 45) (lv' := [(0, vR t), (1, vI a1), (2, vI a2)]) (st' := [vI a2, vR (jR W 414 t)]) rfl ?_
  refine j_gd (fun h7 => ?_)
  refine j_iald hx (f := 414) (o := t) kd414 rfl (by decide +kernel) h7 ?_
  refine j_runA hx 1 (tb := [(46, .aload_n 0)]) (jtb_ok (by decide +kernel)) (pc' := 47) (lv' := [(0, vR t), (1, vI a1), (2, vI a2)]) (st' := [vR t, vI (jA W 414 t (ix a2))]) rfl ?_
  refine j_getR hx flX3_37 kl415 h1 (by decide) (by decide +kernel) ?_
  refine j_runA hx 1 (tb := [(50, .iload_n 2)]) (jtb_ok (by decide +kernel)) (pc' := 51) (lv' := [(0, vR t), (1, vI a1), (2, vI a2)]) (st' := [vI a2, vR (jR W 415 t), vI (jA W 414 t (ix a2))]) rfl ?_
  refine j_gd (fun h8 => ?_)
  refine j_iald hx (f := 415) (o := t) kd415 rfl (by decide +kernel) h8 ?_
  refine j_runA hx 2 (tb := [(52, .iadd), (53, .aload_n 0)]) (jtb_ok (by decide +kernel)) (pc' := 54) (lv' := [(0, vR t), (1, vI a1), (2, vI a2)]) (st' := [vR t, vI ((jA W 414 t (ix a2)) + (jA W 415 t (ix a2)))]) rfl ?_
  refine j_getR hx flX3_34 kl414 h1 (by decide) (by decide +kernel) ?_
  refine j_runA hx 1 (tb := [(57, .iload_n 1)]) (jtb_ok (by decide +kernel)) (pc' := 58) (lv' := [(0, vR t), (1, vI a1), (2, vI a2)]) (st' := [vI a1, vR (jR W 414 t), vI ((jA W 414 t (ix a2)) + (jA W 415 t (ix a2)))]) rfl ?_
  refine j_gd (fun h9 => ?_)
  refine j_iald hx (f := 414) (o := t) kd414 rfl (by decide +kernel) h9 ?_
  refine j_icmp_gt hx (off := 7) (tgt := 66) (by decide +kernel) (by decide) (fun _ => ?_) (fun _ => ?_)
  · refine j_runA hx 1 (tb := [(66, .iconst 0)]) (jtb_ok (by decide +kernel)) (pc' := 67) (lv' := [(0, vR t), (1, vI a1), (2, vI a2)]) (st' := [vI (kI 0)]) rfl ?_
    exact j_iret hx hm (by decide +kernel) jz0n (he _)
  exact wsh_areApart_62 h
theorem csh_areApart (t : Nat) (a1 : Int32) (a2 : Int32) (W : jW) : jM yX3_areApart cX3_areApart 3 (Option.some Jvm.ClassFile.FieldType.boolean) [] 0 0 [vR t, vI a1, vI a2] W ((fsh_areApart t a1 a2 W).bind (fun q => some (.returned (some (.int q)), W))) := 
  jM.of (Nat.le_of_ble_eq_true rfl) (fun x hx hm hr => wsh_areApart ⟨hx, hm, hr, fun _ => rfl⟩)
def hsh_isOf (x : jCx) (en : (Int32) → Option (Outcome × jW)) (t : Nat) (a1 : Int32) (a2 : Int32) (W : jW) : Prop :=
  jOK x RX3 cX3_isOf 3 ∧
  jMt x "isOf" (Option.some Jvm.ClassFile.FieldType.boolean) [] ∧
  jRm x 0 0 ∧
  (∀ q : Int32, en q = some (.returned (some (.int q)), W))
theorem wsh_isOf_26 {x : jCx} {en : (Int32) → Option (Outcome × jW)} {W : jW} {t : Nat} {a1 : Int32} {a2 : Int32} (h : hsh_isOf x en t a1 a2 W) : jJ x 3 26 [(0, vR t), (1, vI a1), (2, vI a2)] [] W (fsh_isOf_26 t a1 a2 W) en := by
  have h0 := h
  obtain ⟨hx, hm, hr, he⟩ := h0
  unfold fsh_isOf_26
  refine j_runA hx 1 (tb := [(26, .iconst 0)]) (jtb_ok (by decide +kernel)) (pc' := 27) (lv' := [(0, vR t), (1, vI a1), (2, vI a2)]) (st' := [vI (kI 0)]) rfl ?_
  exact j_iret hx hm (by decide +kernel) jz0n (he _)
theorem wsh_isOf {x : jCx} {en : (Int32) → Option (Outcome × jW)} {W : jW} {t : Nat} {a1 : Int32} {a2 : Int32} (h : hsh_isOf x en t a1 a2 W) : jJ x 3 0 [(0, vR t), (1, vI a1), (2, vI a2)] [] W (fsh_isOf t a1 a2 W) en := by
  have h0 := h
  obtain ⟨hx, hm, hr, he⟩ := h0
  unfold fsh_isOf
  refine j_runA hx 1 (tb := [(0, .iload_n 1)]) (jtb_ok (by decide +kernel)) (pc' := 1) (lv' := [(0, vR t), (1, vI a1), (2, vI a2)]) (st' := [vI a1]) rfl ?_
  refine j_if_lt hx (off := 25) (tgt := 26) (by decide +kernel) (by decide) (fun _ => ?_) (fun _ => ?_)
  · exact wsh_isOf_26 h
  refine j_runA hx 2 (tb := [(4, .iload_n 1), (5, .aload_n 0)]) (jtb_ok (by decide +kernel)) (pc' := 6) (lv' := [(0, vR t), (1, vI a1), (2, vI a2)]) (st' := [vR t, vI a1]) rfl ?_
  refine j_gd (fun h1 => ?_)
  refine j_getI hx flX3_78 kd403 h1 (by decide) (by decide +kernel) ?_
  refine j_icmp_ge hx (off := 17) (tgt := 26) (by decide +kernel) (by decide) (fun _ => ?_) (fun _ => ?_)
  · exact wsh_isOf_26 h
  refine j_runA hx 1 (tb := [(12, .aload_n 0)]) (jtb_ok (by decide +kernel)) (pc' := 13) (lv' := [(0, vR t), (1, vI a1), (2, vI a2)]) (st' := [vR t]) rfl ?_
  refine j_getR hx flX3_25 kl411 h1 (by decide) (by decide +kernel) ?_
  refine j_runA hx 1 (tb := [(16, .iload_n 1)]) (jtb_ok (by decide +kernel)) (pc' := 17) (lv' := [(0, vR t), (1, vI a1), (2, vI a2)]) (st' := [vI a1, vR (jR W 411 t)]) rfl ?_
  refine j_gd (fun h2 => ?_)
  refine j_iald hx (f := 411) (o := t) kd411 rfl (by decide +kernel) h2 ?_
  refine j_runA hx 1 (tb := [(18, .iload_n 2)]) (jtb_ok (by decide +kernel)) (pc' := 19) (lv' := [(0, vR t), (1, vI a1), (2, vI a2)]) (st' := [vI a2, vI (jA W 411 t (ix a1))]) rfl ?_
  refine j_icmp_ne hx (off := 7) (tgt := 26) (by decide +kernel) (by decide) (fun _ => ?_) (fun _ => ?_)
  · exact wsh_isOf_26 h
  refine j_runA hx 1 (tb := [(22, .iconst 1)]) (jtb_ok (by decide +kernel)) (pc' := 23) (lv' := [(0, vR t), (1, vI a1), (2, vI a2)]) (st' := [vI (kI 1)]) rfl ?_
  refine j_goto hx (off := 4) (by decide +kernel) (tgt := 27) (by decide) ?_
  exact j_iret hx hm (by decide +kernel) jz1n (he _)
theorem csh_isOf (t : Nat) (a1 : Int32) (a2 : Int32) (W : jW) : jM yX3_isOf cX3_isOf 3 (Option.some Jvm.ClassFile.FieldType.boolean) [] 0 0 [vR t, vI a1, vI a2] W ((fsh_isOf t a1 a2 W).bind (fun q => some (.returned (some (.int q)), W))) := 
  jM.of (Nat.le_of_ble_eq_true rfl) (fun x hx hm hr => wsh_isOf ⟨hx, hm, hr, fun _ => rfl⟩)
def hsh_isFixed (x : jCx) (en : (fsh_isFixed_S ⊕ (Int32)) → Option (Outcome × jW)) (t : Nat) (a1 : Int32) (W : jW) : Prop :=
  jOK x RX3 cX3_isFixed 3 ∧
  jMt x "isFixed" (Option.some Jvm.ClassFile.FieldType.boolean) [] ∧
  jRm x 1 13 ∧
  (∀ q : Int32, en (.inr q) = some (.returned (some (.int q)), W)) ∧
  (∀ (l2 : Int32), jJ x 3 53 [(0, vR t), (1, vI a1), (2, vI l2)] [] W (some (.inl l2)) en)
theorem wsh_isFixed_49 {x : jCx} {en : (fsh_isFixed_S ⊕ (Int32)) → Option (Outcome × jW)} {W : jW} {t : Nat} {a1 : Int32} (h : hsh_isFixed x en t a1 W) : jJ x 3 49 [(0, vR t), (1, vI a1)] [] W (fsh_isFixed_49 t a1 W) en := by
  have h0 := h
  obtain ⟨hx, hm, hr, he, k53⟩ := h0
  unfold fsh_isFixed_49
  refine j_runA hx 1 (tb := [(49, .iconst 0)]) (jtb_ok (by decide +kernel)) (pc' := 50) (lv' := [(0, vR t), (1, vI a1)]) (st' := [vI (kI 0)]) rfl ?_
  exact j_iret hx hm (by decide +kernel) jz0n (he _)
theorem wsh_isFixed_85 {x : jCx} {en : (fsh_isFixed_S ⊕ (Int32)) → Option (Outcome × jW)} {W : jW} {t : Nat} {a1 : Int32} (h : hsh_isFixed x en t a1 W) (l2 : Int32) : jJ x 3 85 [(0, vR t), (1, vI a1), (2, vI l2)] [] W (fsh_isFixed_85 t a1 l2 W) en := by
  have h0 := h
  obtain ⟨hx, hm, hr, he, k53⟩ := h0
  unfold fsh_isFixed_85
  refine j_runA hx 1 (tb := [(85, .iinc 2 1)]) (jtb_ok (by decide +kernel)) (pc' := 88) (lv' := [(2, vI (l2 + (kI 1))), (0, vR t), (1, vI a1)]) (st' := []) rfl ?_
  refine j_let (v := (l2 + (kI 1))) (lv := fun v15 => [(2, vI v15), (0, vR t), (1, vI a1)]) (st := fun _ => []) (fun v15 => ?_)
  refine j_goto hx (off := -35) (by decide +kernel) (tgt := 53) (by decide) ?_
  refine j_lv (lv' := [(0, vR t), (1, vI a1), (2, vI v15)]) ⟨rfl, rfl, rfl, trivial⟩ ?_
  exact k53 v15
theorem wsh_isFixed_53 {x : jCx} {en : (fsh_isFixed_S ⊕ (Int32)) → Option (Outcome × jW)} {W : jW} {t : Nat} {a1 : Int32} (h : hsh_isFixed x en t a1 W) (l2 : Int32) : jJ x 3 53 [(0, vR t), (1, vI a1), (2, vI l2)] [] W (fsh_isFixed_53 t a1 l2 W) en := by
  have h0 := h
  obtain ⟨hx, hm, hr, he, k53⟩ := h0
  unfold fsh_isFixed_53
  refine j_runA hx 2 (tb := [(53, .iload_n 2), (54, .iload_n 1)]) (jtb_ok (by decide +kernel)) (pc' := 55) (lv' := [(0, vR t), (1, vI a1), (2, vI l2)]) (st' := [vI a1, vI l2]) rfl ?_
  refine j_icmp_ge hx (off := 36) (tgt := 91) (by decide +kernel) (by decide) (fun _ => ?_) (fun _ => ?_)
  · refine j_runA hx 1 (tb := [(91, .iconst 1)]) (jtb_ok (by decide +kernel)) (pc' := 92) (lv' := [(0, vR t), (1, vI a1), (2, vI l2)]) (st' := [vI (kI 1)]) rfl ?_
    exact j_iret hx hm (by decide +kernel) jz1n (he _)
  refine j_runA hx 1 (tb := [(58, .aload_n 0)]) (jtb_ok (by decide +kernel)) (pc' := 59) (lv' := [(0, vR t), (1, vI a1), (2, vI l2)]) (st' := [vR t]) rfl ?_
  refine j_gd (fun h10 => ?_)
  refine j_getR hx flX3_25 kl411 h10 (by decide) (by decide +kernel) ?_
  refine j_runA hx 1 (tb := [(62, .iload_n 2)]) (jtb_ok (by decide +kernel)) (pc' := 63) (lv' := [(0, vR t), (1, vI a1), (2, vI l2)]) (st' := [vI l2, vR (jR W 411 t)]) rfl ?_
  refine j_gd (fun h11 => ?_)
  refine j_iald hx (f := 411) (o := t) kd411 rfl (by decide +kernel) h11 ?_
  refine j_runA hx 1 (tb := [(64, .iconst 4)]) (jtb_ok (by decide +kernel)) (pc' := 65) (lv' := [(0, vR t), (1, vI a1), (2, vI l2)]) (st' := [vI (kI 4), vI (jA W 411 t (ix l2))]) rfl ?_
  refine j_icmp_ne hx (off := 20) (tgt := 85) (by decide +kernel) (by decide) (fun _ => ?_) (fun _ => ?_)
  · exact wsh_isFixed_85 h l2
  refine j_runA hx 1 (tb := [(68, .aload_n 0)]) (jtb_ok (by decide +kernel)) (pc' := 69) (lv' := [(0, vR t), (1, vI a1), (2, vI l2)]) (st' := [vR t]) rfl ?_
  refine j_getR hx flX3_43 kl417 h10 (by decide) (by decide +kernel) ?_
  refine j_runA hx 1 (tb := [(72, .iload_n 2)]) (jtb_ok (by decide +kernel)) (pc' := 73) (lv' := [(0, vR t), (1, vI a1), (2, vI l2)]) (st' := [vI l2, vR (jR W 417 t)]) rfl ?_
  refine j_gd (fun h12 => ?_)
  refine j_iald hx (f := 417) (o := t) kd417 rfl (by decide +kernel) h12 ?_
  refine j_runA hx 1 (tb := [(74, .aload_n 0)]) (jtb_ok (by decide +kernel)) (pc' := 75) (lv' := [(0, vR t), (1, vI a1), (2, vI l2)]) (st' := [vR t, vI (jA W 417 t (ix l2))]) rfl ?_
  refine j_getR hx flX3_43 kl417 h10 (by decide) (by decide +kernel) ?_
  refine j_runA hx 1 (tb := [(78, .iload_n 1)]) (jtb_ok (by decide +kernel)) (pc' := 79) (lv' := [(0, vR t), (1, vI a1), (2, vI l2)]) (st' := [vI a1, vR (jR W 417 t), vI (jA W 417 t (ix l2))]) rfl ?_
  refine j_gd (fun h13 => ?_)
  refine j_iald hx (f := 417) (o := t) kd417 rfl (by decide +kernel) h13 ?_
  refine j_icmp_ne hx (off := 5) (tgt := 85) (by decide +kernel) (by decide) (fun _ => ?_) (fun _ => ?_)
  · exact wsh_isFixed_85 h l2
  refine j_runA hx 1 (tb := [(83, .iconst 0)]) (jtb_ok (by decide +kernel)) (pc' := 84) (lv' := [(0, vR t), (1, vI a1), (2, vI l2)]) (st' := [vI (kI 0)]) rfl ?_
  exact j_iret hx hm (by decide +kernel) jz0n (he _)
theorem wsh_isFixed_51 {x : jCx} {en : (fsh_isFixed_S ⊕ (Int32)) → Option (Outcome × jW)} {W : jW} {t : Nat} {a1 : Int32} (h : hsh_isFixed x en t a1 W) : jJ x 3 51 [(0, vR t), (1, vI a1)] [] W (fsh_isFixed_51 t a1 W) en := by
  have h0 := h
  obtain ⟨hx, hm, hr, he, k53⟩ := h0
  unfold fsh_isFixed_51
  refine j_runA hx 2 (tb := [(51, .iconst 1), (52, .istore_n 2)]) (jtb_ok (by decide +kernel)) (pc' := 53) (lv' := [(2, vI (kI 1)), (0, vR t), (1, vI a1)]) (st' := []) rfl ?_
  refine j_lv (lv' := [(0, vR t), (1, vI a1), (2, vI (kI 1))]) ⟨rfl, rfl, rfl, trivial⟩ ?_
  exact k53 (kI 1)
theorem wsh_isFixed {x : jCx} {en : (fsh_isFixed_S ⊕ (Int32)) → Option (Outcome × jW)} {W : jW} {t : Nat} {a1 : Int32} (h : hsh_isFixed x en t a1 W) : jJ x 3 0 [(0, vR t), (1, vI a1)] [] W (fsh_isFixed_0 t a1 W) en := by
  have h0 := h
  obtain ⟨hx, hm, hr, he, k53⟩ := h0
  unfold fsh_isFixed_0
  refine j_runA hx 1 (tb := [(0, .aload_n 0)]) (jtb_ok (by decide +kernel)) (pc' := 1) (lv' := [(0, vR t), (1, vI a1)]) (st' := [vR t]) rfl ?_
  refine j_gd (fun h1 => ?_)
  refine j_getR hx flX3_43 kl417 h1 (by decide) (by decide +kernel) ?_
  refine j_runA hx 1 (tb := [(4, .iload_n 1)]) (jtb_ok (by decide +kernel)) (pc' := 5) (lv' := [(0, vR t), (1, vI a1)]) (st' := [vI a1, vR (jR W 417 t)]) rfl ?_
  refine j_gd (fun h2 => ?_)
  refine j_iald hx (f := 417) (o := t) kd417 rfl (by decide +kernel) h2 ?_
  refine j_runA hx 1 (tb := [(6, .iconst 1)]) (jtb_ok (by decide +kernel)) (pc' := 7) (lv' := [(0, vR t), (1, vI a1)]) (st' := [vI (kI 1), vI (jA W 417 t (ix a1))]) rfl ?_
  refine j_icmp_lt hx (off := 42) (tgt := 49) (by decide +kernel) (by decide) (fun _ => ?_) (fun _ => ?_)
  · exact wsh_isFixed_49 h
  refine j_runA hx 1 (tb := [(10, .aload_n 0)]) (jtb_ok (by decide +kernel)) (pc' := 11) (lv' := [(0, vR t), (1, vI a1)]) (st' := [vR t]) rfl ?_
  refine j_getR hx flX3_43 kl417 h1 (by decide) (by decide +kernel) ?_
  refine j_runA hx 1 (tb := [(14, .iload_n 1)]) (jtb_ok (by decide +kernel)) (pc' := 15) (lv' := [(0, vR t), (1, vI a1)]) (st' := [vI a1, vR (jR W 417 t)]) rfl ?_
  refine j_gd (fun h3 => ?_)
  refine j_iald hx (f := 417) (o := t) kd417 rfl (by decide +kernel) h3 ?_
  refine j_runA hx 1 (tb := [(16, .aload_n 0)]) (jtb_ok (by decide +kernel)) (pc' := 17) (lv' := [(0, vR t), (1, vI a1)]) (st' := [vR t, vI (jA W 417 t (ix a1))]) rfl ?_
  refine j_getI hx flX3_78 kd403 h1 (by decide) (by decide +kernel) ?_
  refine j_icmp_ge hx (off := 29) (tgt := 49) (by decide +kernel) (by decide) (fun _ => ?_) (fun _ => ?_)
  · exact wsh_isFixed_49 h
  refine j_runA hx 2 (tb := [(23, .aload_n 0), (24, .aload_n 0)]) (jtb_ok (by decide +kernel)) (pc' := 25) (lv' := [(0, vR t), (1, vI a1)]) (st' := [vR t, vR t]) rfl ?_
  refine j_getR hx flX3_43 kl417 h1 (by decide) (by decide +kernel) ?_
  refine j_runA hx 1 (tb := [(28, .iload_n 1)]) (jtb_ok (by decide +kernel)) (pc' := 29) (lv' := [(0, vR t), (1, vI a1)]) (st' := [vI a1, vR (jR W 417 t), vR t]) rfl ?_
  refine j_gd (fun h4 => ?_)
  refine j_iald hx (f := 417) (o := t) kd417 rfl (by decide +kernel) h4 ?_
  refine j_OI (j_callV (av := [vI (jA W 417 t (ix a1))]) (st := []) hx hr (Or.inl q845) q846 q847 rfl md_fsh_isCode np_fsh_isCode (csh_isCode t (jA W 417 t (ix a1)) W) (by decide) (Nat.le_of_ble_eq_true rfl) h1 (by decide) (by decide +kernel)) (fun q5 _ => ?_)
  refine j_if_ne hx (off := 18) (tgt := 51) (by decide +kernel) (by decide) (fun _ => ?_) (fun _ => ?_)
  · exact wsh_isFixed_51 h
  refine j_runA hx 2 (tb := [(36, .aload_n 0), (37, .aload_n 0)]) (jtb_ok (by decide +kernel)) (pc' := 38) (lv' := [(0, vR t), (1, vI a1)]) (st' := [vR t, vR t]) rfl ?_
  refine j_getR hx flX3_43 kl417 h1 (by decide) (by decide +kernel) ?_
  refine j_runA hx 1 (tb := [(41, .iload_n 1)]) (jtb_ok (by decide +kernel)) (pc' := 42) (lv' := [(0, vR t), (1, vI a1)]) (st' := [vI a1, vR (jR W 417 t), vR t]) rfl ?_
  refine j_gd (fun h6 => ?_)
  refine j_iald hx (f := 417) (o := t) kd417 rfl (by decide +kernel) h6 ?_
  refine j_OI (j_callV (av := [vI (jA W 417 t (ix a1))]) (st := []) hx hr (Or.inl q851) q852 q853 rfl md_fsh_isData np_fsh_isData (csh_isData t (jA W 417 t (ix a1)) W) (by decide) (Nat.le_of_ble_eq_true rfl) h1 (by decide) (by decide +kernel)) (fun q7 _ => ?_)
  refine j_if_ne hx (off := 5) (tgt := 51) (by decide +kernel) (by decide) (fun _ => ?_) (fun _ => ?_)
  · exact wsh_isFixed_51 h
  exact wsh_isFixed_49 h
theorem csh_isFixed (t : Nat) (a1 : Int32) (W : jW) : jM yX3_isFixed cX3_isFixed 3 (Option.some Jvm.ClassFile.FieldType.boolean) [] 1 13 [vR t, vI a1] W ((fsh_isFixed t a1 W).bind (fun q => some (.returned (some (.int q)), W))) := by
  refine jM.of (Nat.le_of_ble_eq_true rfl) (fun x hx hm hr => ?_)
  refine j_begin (P := (fun s => (53, [(0, vR t), (1, vI a1), (2, vI s)], W))) (fun en he hk => ?_)
  have h : hsh_isFixed x en t a1 W := ⟨hx, hm, hr, fun q => he _, fun l2 => hk l2⟩
  exact ⟨fun s => wsh_isFixed_53 h s, wsh_isFixed h⟩
def hcl_isIn (x : jCx) (en : (Int32) → Option (Outcome × jW)) (a0 : Int64) (a2 : Int64) (a4 : Int64) (W : jW) : Prop :=
  jOK x RX0 cX0_isIn 6 ∧
  jMt x "isIn" (Option.some Jvm.ClassFile.FieldType.boolean) [] ∧
  jRm x 1 15 ∧
  (∀ q : Int32, en q = some (.returned (some (.int q)), W))
theorem wcl_isIn_21 {x : jCx} {en : (Int32) → Option (Outcome × jW)} {W : jW} {a0 : Int64} {a2 : Int64} {a4 : Int64} (h : hcl_isIn x en a0 a2 a4 W) : jJ x 6 21 [(0, vL a0), (2, vL a2), (4, vL a4)] [] W (some (fcl_isIn_21 a0 a2 a4)) en := by
  have h0 := h
  obtain ⟨hx, hm, hr, he⟩ := h0
  unfold fcl_isIn_21
  refine j_runA hx 1 (tb := [(21, .iconst 0)]) (jtb_ok (by decide +kernel)) (pc' := 22) (lv' := [(0, vL a0), (2, vL a2), (4, vL a4)]) (st' := [vI (kI 0)]) rfl ?_
  exact j_iret hx hm (by decide +kernel) jz0n (he _)
theorem wcl_isIn {x : jCx} {en : (Int32) → Option (Outcome × jW)} {W : jW} {a0 : Int64} {a2 : Int64} {a4 : Int64} (h : hcl_isIn x en a0 a2 a4 W) : jJ x 6 0 [(0, vL a0), (2, vL a2), (4, vL a4)] [] W (some (fcl_isIn a0 a2 a4)) en := by
  have h0 := h
  obtain ⟨hx, hm, hr, he⟩ := h0
  unfold fcl_isIn
  refine j_runA hx 2 (tb := [(0, .lload_n 2), (1, .lload_n 0)]) (jtb_ok (by decide +kernel)) (pc' := 2) (lv' := [(0, vL a0), (2, vL a2), (4, vL a4)]) (st' := [vL a0, vL a2]) rfl ?_
  refine j_TI (j_callS (av := [vL a2, vL a0]) (st := []) hx hr (Or.inl q874) q819 q226 md_fcl_isAbove np_fcl_isAbove (ccl_isAbove a2 a0 W) (by decide) (Nat.le_of_ble_eq_true rfl) (by decide +kernel)) ?_
  refine j_tot (j_if_ne hx (off := 16) (tgt := 21) (by decide +kernel) (by decide) (fun _ => ?_) (fun _ => ?_))
  · exact wcl_isIn_21 h
  refine j_runA hx 2 (tb := [(8, .lload 4), (10, .lload_n 0)]) (jtb_ok (by decide +kernel)) (pc' := 11) (lv' := [(0, vL a0), (2, vL a2), (4, vL a4)]) (st' := [vL a0, vL a4]) rfl ?_
  refine j_TI (j_callS (av := [vL a4, vL a0]) (st := []) hx hr (Or.inl q874) q819 q226 md_fcl_isAbove np_fcl_isAbove (ccl_isAbove a4 a0 W) (by decide) (Nat.le_of_ble_eq_true rfl) (by decide +kernel)) ?_
  refine j_tot (j_if_eq hx (off := 7) (tgt := 21) (by decide +kernel) (by decide) (fun _ => ?_) (fun _ => ?_))
  · exact wcl_isIn_21 h
  refine j_runA hx 1 (tb := [(17, .iconst 1)]) (jtb_ok (by decide +kernel)) (pc' := 18) (lv' := [(0, vL a0), (2, vL a2), (4, vL a4)]) (st' := [vI (kI 1)]) rfl ?_
  refine j_goto hx (off := 4) (by decide +kernel) (tgt := 22) (by decide) ?_
  exact j_iret hx hm (by decide +kernel) jz1n (he _)
theorem ccl_isIn (a0 : Int64) (a2 : Int64) (a4 : Int64) (W : jW) : jM yX0_isIn cX0_isIn 6 (Option.some Jvm.ClassFile.FieldType.boolean) [] 1 15 [vL a0, vL a2, vL a4] W (some (.returned (some (.int (fcl_isIn a0 a2 a4))), W)) := 
  jM.of (mm := some (fcl_isIn a0 a2 a4)) (en := fun q => some (.returned (some (.int q)), W)) (Nat.le_of_ble_eq_true rfl) (fun x hx hm hr => wcl_isIn ⟨hx, hm, hr, fun _ => rfl⟩)
