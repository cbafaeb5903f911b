/-! ===== walks: fpg_isTold fpg_lookFixes fwo_isBranch fwo_goes fpg_goal fpg_isGood fpg_lastOf fwo_ends fpg_targetWord fpg_leaders fpg_wordsOf fpg_lastWord ===== -/
set_option maxRecDepth 100000
def hpg_isTold (x : jCx) (en : (Int32 × jW) → Option (Outcome × jW)) (t : Nat) (a1 : Int32) (a2 : Int32) : Prop :=
  jOK x RX1 cX1_isTold 11 ∧
  jMt x "isTold" (Option.some Jvm.ClassFile.FieldType.boolean) [] ∧
  jRm x 8 109 ∧
  (∀ q : Int32 × jW, en q = some (.returned (some (.int q.1)), q.2))
theorem wpg_isTold_62 {x : jCx} {en : (Int32 × jW) → Option (Outcome × jW)} {t : Nat} {a1 : Int32} {a2 : Int32} (h : hpg_isTold x en t a1 a2) (W : jW) : jJ x 11 62 [(0, vR t), (1, vI a1), (2, vI a2)] [] W (fpg_isTold_62 t a1 a2 W) en := by
  have h0 := h
  obtain ⟨hx, hm, hr, he⟩ := h0
  unfold fpg_isTold_62
  refine j_runA hx 1 (tb := [(62, .iconst 0)]) (jtb_ok (by decide +kernel)) (pc' := 63) (lv' := [(0, vR t), (1, vI a1), (2, vI a2)]) (st' := [vI (kI 0)]) rfl ?_
  exact j_iret hx hm (by decide +kernel) jz0n (he _)
theorem wpg_isTold_423 {x : jCx} {en : (Int32 × jW) → Option (Outcome × jW)} {t : Nat} {a1 : Int32} {a2 : Int32} (h : hpg_isTold x en t a1 a2) (W : jW) : jJ x 11 423 [(0, vR t), (1, vI a1), (2, vI a2)] [] W (fpg_isTold_423 t a1 a2 W) en := by
  have h0 := h
  obtain ⟨hx, hm, hr, he⟩ := h0
  unfold fpg_isTold_423
  refine j_runA hx 1 (tb := [(423, .iconst 0)]) (jtb_ok (by decide +kernel)) (pc' := 424) (lv' := [(0, vR t), (1, vI a1), (2, vI a2)]) (st' := [vI (kI 0)]) rfl ?_
  exact j_iret hx hm (by decide +kernel) jz0n (he _)
theorem wpg_isTold_365 {x : jCx} {en : (Int32 × jW) → Option (Outcome × jW)} {t : Nat} {a1 : Int32} {a2 : Int32} (h : hpg_isTold x en t a1 a2) (l3 : Int64) (l8 : Int32) (l9 : Int32) (s0 : Int32) (W : jW) : jJ x 11 365 [(0, vR t), (1, vI a1), (2, vI a2), (3, vL l3), (8, vI l8), (9, vI l9)] [vI s0] W (fpg_isTold_365 t a1 a2 l3 l8 l9 s0 W) en := by
  have h0 := h
  obtain ⟨hx, hm, hr, he⟩ := h0
  unfold fpg_isTold_365
  refine j_runA hx 2 (tb := [(365, .istore 10), (367, .aload_n 0)]) (jtb_ok (by decide +kernel)) (pc' := 368) (lv' := [(10, vI s0), (0, vR t), (1, vI a1), (2, vI a2), (3, vL l3), (8, vI l8), (9, vI l9)]) (st' := [vR t]) rfl ?_
  refine j_gd (fun h33 => ?_)
  refine j_getR hx flX1_36 kl205 h33 (by decide) (by decide +kernel) ?_
  refine j_runA hx 1 (tb := [(371, .iload 8)]) (jtb_ok (by decide +kernel)) (pc' := 373) (lv' := [(10, vI s0), (0, vR t), (1, vI a1), (2, vI a2), (3, vL l3), (8, vI l8), (9, vI l9)]) (st' := [vI l8, vR (jR W 205 t)]) rfl ?_
  refine j_gd (fun h34 => ?_)
  refine j_iald hx (f := 205) (o := t) kd205 rfl (by decide +kernel) h34 ?_
  refine j_runA hx 1 (tb := [(374, .bipush 9)]) (jtb_ok (by decide +kernel)) (pc' := 376) (lv' := [(10, vI s0), (0, vR t), (1, vI a1), (2, vI a2), (3, vL l3), (8, vI l8), (9, vI l9)]) (st' := [vI (kI 9), vI (jA W 205 t (ix l8))]) rfl ?_
  refine j_icmp_ne hx (off := 47) (tgt := 423) (by decide +kernel) (by decide) (fun _ => ?_) (fun _ => ?_)
  · refine j_lv (lv' := [(0, vR t), (1, vI a1), (2, vI a2)]) ⟨rfl, rfl, rfl, trivial⟩ ?_
    exact wpg_isTold_423 h W
  refine j_runA hx 1 (tb := [(379, .iload 9)]) (jtb_ok (by decide +kernel)) (pc' := 381) (lv' := [(10, vI s0), (0, vR t), (1, vI a1), (2, vI a2), (3, vL l3), (8, vI l8), (9, vI l9)]) (st' := [vI l9]) rfl ?_
  refine j_TI (j_callS (av := [vI l9]) (st := []) hx hr (Or.inl q1091) q1092 q247 md_fwo_bytesOf np_fwo_bytesOf (cwo_bytesOf l9 W) (by decide) (Nat.le_of_ble_eq_true rfl) (by decide +kernel)) ?_
  refine j_runA hx 1 (tb := [(384, .iload 10)]) (jtb_ok (by decide +kernel)) (pc' := 386) (lv' := [(10, vI s0), (0, vR t), (1, vI a1), (2, vI a2), (3, vL l3), (8, vI l8), (9, vI l9)]) (st' := [vI s0, vI (fwo_bytesOf l9)]) rfl ?_
  refine j_icmp_ne hx (off := 37) (tgt := 423) (by decide +kernel) (by decide) (fun _ => ?_) (fun _ => ?_)
  · refine j_lv (lv' := [(0, vR t), (1, vI a1), (2, vI a2)]) ⟨rfl, rfl, rfl, trivial⟩ ?_
    exact wpg_isTold_423 h W
  refine j_runA hx 1 (tb := [(389, .aload_n 0)]) (jtb_ok (by decide +kernel)) (pc' := 390) (lv' := [(10, vI s0), (0, vR t), (1, vI a1), (2, vI a2), (3, vL l3), (8, vI l8), (9, vI l9)]) (st' := [vR t]) rfl ?_
  refine j_getR hx flX1_21 kl201 h33 (by decide) (by decide +kernel) ?_
  refine j_runA hx 1 (tb := [(393, .lload_n 3)]) (jtb_ok (by decide +kernel)) (pc' := 394) (lv' := [(10, vI s0), (0, vR t), (1, vI a1), (2, vI a2), (3, vL l3), (8, vI l8), (9, vI l9)]) (st' := [vL l3, vR (jR W 201 t)]) rfl ?_
  refine j_gd (fun h35 => ?_)
  refine j_OI (j_callV (av := [vL l3]) (st := []) hx hr (Or.inl q1032) q893 q894 rfl md_fsh_isText np_fsh_isText (csh_isText (jR W 201 t) l3 W) (by decide) (Nat.le_of_ble_eq_true rfl) h35 (by decide) (by decide +kernel)) (fun q36 _ => ?_)
  refine j_if_ne hx (off := 26) (tgt := 423) (by decide +kernel) (by decide) (fun _ => ?_) (fun _ => ?_)
  · refine j_lv (lv' := [(0, vR t), (1, vI a1), (2, vI a2)]) ⟨rfl, rfl, rfl, trivial⟩ ?_
    exact wpg_isTold_423 h W
  refine j_runA hx 1 (tb := [(400, .iload 9)]) (jtb_ok (by decide +kernel)) (pc' := 402) (lv' := [(10, vI s0), (0, vR t), (1, vI a1), (2, vI a2), (3, vL l3), (8, vI l8), (9, vI l9)]) (st' := [vI l9]) rfl ?_
  refine j_TI (j_callS (av := [vI l9]) (st := []) hx hr (Or.inl q1081) q1082 q247 md_fwo_twelve np_fwo_twelve (cwo_twelve l9 W) (by decide) (Nat.le_of_ble_eq_true rfl) (by decide +kernel)) ?_
  refine j_runA hx 5 (tb := [(405, .i2l), (406, .iload 10), (408, .i2l), (409, .lmul), (410, .lload_n 3)]) (jtb_ok (by decide +kernel)) (pc' := 411) (lv' := [(10, vI s0), (0, vR t), (1, vI a1), (2, vI a2), (3, vL l3), (8, vI l8), (9, vI l9)]) (st' := [vL l3, vL (((fwo_twelve l9).toInt64) * s0.toInt64)]) rfl ?_
  refine j_ldc2 hx (v := (kJ 4095)) (jkd2 q1084 (by decide +kernel)) (by decide +kernel) ?_
  refine j_runA hx 1 (tb := [(414, .land)]) (jtb_ok (by decide +kernel)) (pc' := 415) (lv' := [(10, vI s0), (0, vR t), (1, vI a1), (2, vI a2), (3, vL l3), (8, vI l8), (9, vI l9)]) (st' := [vL (l3 &&& (kJ 4095)), vL (((fwo_twelve l9).toInt64) * s0.toInt64)]) rfl ?_
  refine j_lcmp_ne hx (off := 7) (tgt := 423) (by decide +kernel) (by decide +kernel) (by decide) (fun _ => ?_) (fun _ => ?_)
  · refine j_lv (lv' := [(0, vR t), (1, vI a1), (2, vI a2)]) ⟨rfl, rfl, rfl, trivial⟩ ?_
    exact wpg_isTold_423 h W
  refine j_runA hx 1 (tb := [(419, .iconst 1)]) (jtb_ok (by decide +kernel)) (pc' := 420) (lv' := [(10, vI s0), (0, vR t), (1, vI a1), (2, vI a2), (3, vL l3), (8, vI l8), (9, vI l9)]) (st' := [vI (kI 1)]) rfl ?_
  refine j_goto hx (off := 4) (by decide +kernel) (tgt := 424) (by decide) ?_
  exact j_iret hx hm (by decide +kernel) jz1n (he _)
theorem wpg_isTold_339 {x : jCx} {en : (Int32 × jW) → Option (Outcome × jW)} {t : Nat} {a1 : Int32} {a2 : Int32} (h : hpg_isTold x en t a1 a2) (l3 : Int64) (l5 : Int32) (l8 : Int32) (l9 : Int32) (W : jW) : jJ x 11 339 [(0, vR t), (1, vI a1), (2, vI a2), (3, vL l3), (5, vI l5), (8, vI l8), (9, vI l9)] [] W (fpg_isTold_339 t a1 a2 l3 l5 l8 l9 W) en := by
  have h0 := h
  obtain ⟨hx, hm, hr, he⟩ := h0
  unfold fpg_isTold_339
  refine j_runA hx 2 (tb := [(339, .iload 5), (341, .sipush 278)]) (jtb_ok (by decide +kernel)) (pc' := 344) (lv' := [(0, vR t), (1, vI a1), (2, vI a2), (3, vL l3), (5, vI l5), (8, vI l8), (9, vI l9)]) (st' := [vI (kI 278), vI l5]) rfl ?_
  refine j_icmp_ne hx (off := 7) (tgt := 351) (by decide +kernel) (by decide) (fun _ => ?_) (fun _ => ?_)
  · refine j_runA hx 2 (tb := [(351, .iload 5), (353, .sipush 285)]) (jtb_ok (by decide +kernel)) (pc' := 356) (lv' := [(0, vR t), (1, vI a1), (2, vI a2), (3, vL l3), (5, vI l5), (8, vI l8), (9, vI l9)]) (st' := [vI (kI 285), vI l5]) rfl ?_
    refine j_icmp_ne hx (off := 7) (tgt := 363) (by decide +kernel) (by decide) (fun _ => ?_) (fun _ => ?_)
    · refine j_runA hx 1 (tb := [(363, .bipush 8)]) (jtb_ok (by decide +kernel)) (pc' := 365) (lv' := [(0, vR t), (1, vI a1), (2, vI a2), (3, vL l3), (5, vI l5), (8, vI l8), (9, vI l9)]) (st' := [vI (kI 8)]) rfl ?_
      refine j_lv (lv' := [(0, vR t), (1, vI a1), (2, vI a2), (3, vL l3), (8, vI l8), (9, vI l9)]) ⟨rfl, rfl, rfl, rfl, rfl, rfl, trivial⟩ ?_
      exact wpg_isTold_365 h l3 l8 l9 (kI 8) W
    refine j_runA hx 1 (tb := [(359, .iconst 4)]) (jtb_ok (by decide +kernel)) (pc' := 360) (lv' := [(0, vR t), (1, vI a1), (2, vI a2), (3, vL l3), (5, vI l5), (8, vI l8), (9, vI l9)]) (st' := [vI (kI 4)]) rfl ?_
    refine j_goto hx (off := 5) (by decide +kernel) (tgt := 365) (by decide) ?_
    refine j_lv (lv' := [(0, vR t), (1, vI a1), (2, vI a2), (3, vL l3), (8, vI l8), (9, vI l9)]) ⟨rfl, rfl, rfl, rfl, rfl, rfl, trivial⟩ ?_
    exact wpg_isTold_365 h l3 l8 l9 (kI 4) W
  refine j_runA hx 1 (tb := [(347, .iconst 1)]) (jtb_ok (by decide +kernel)) (pc' := 348) (lv' := [(0, vR t), (1, vI a1), (2, vI a2), (3, vL l3), (5, vI l5), (8, vI l8), (9, vI l9)]) (st' := [vI (kI 1)]) rfl ?_
  refine j_goto hx (off := 17) (by decide +kernel) (tgt := 365) (by decide) ?_
  refine j_lv (lv' := [(0, vR t), (1, vI a1), (2, vI a2), (3, vL l3), (8, vI l8), (9, vI l9)]) ⟨rfl, rfl, rfl, rfl, rfl, rfl, trivial⟩ ?_
  exact wpg_isTold_365 h l3 l8 l9 (kI 1) W
theorem wpg_isTold_240 {x : jCx} {en : (Int32 × jW) → Option (Outcome × jW)} {t : Nat} {a1 : Int32} {a2 : Int32} (h : hpg_isTold x en t a1 a2) (W : jW) : jJ x 11 240 [(0, vR t), (1, vI a1), (2, vI a2)] [] W (fpg_isTold_240 t a1 a2 W) en := by
  have h0 := h
  obtain ⟨hx, hm, hr, he⟩ := h0
  unfold fpg_isTold_240
  refine j_runA hx 1 (tb := [(240, .iconst 0)]) (jtb_ok (by decide +kernel)) (pc' := 241) (lv' := [(0, vR t), (1, vI a1), (2, vI a2)]) (st' := [vI (kI 0)]) rfl ?_
  exact j_iret hx hm (by decide +kernel) jz0n (he _)
theorem wpg_isTold_269 {x : jCx} {en : (Int32 × jW) → Option (Outcome × jW)} {t : Nat} {a1 : Int32} {a2 : Int32} (h : hpg_isTold x en t a1 a2) (W : jW) : jJ x 11 269 [(0, vR t), (1, vI a1), (2, vI a2)] [] W (fpg_isTold_269 t a1 a2 W) en := by
  have h0 := h
  obtain ⟨hx, hm, hr, he⟩ := h0
  unfold fpg_isTold_269
  refine j_runA hx 1 (tb := [(269, .iconst 0)]) (jtb_ok (by decide +kernel)) (pc' := 270) (lv' := [(0, vR t), (1, vI a1), (2, vI a2)]) (st' := [vI (kI 0)]) rfl ?_
  exact j_iret hx hm (by decide +kernel) jz0n (he _)
theorem wpg_isTold_303 {x : jCx} {en : (Int32 × jW) → Option (Outcome × jW)} {t : Nat} {a1 : Int32} {a2 : Int32} (h : hpg_isTold x en t a1 a2) (W : jW) : jJ x 11 303 [(0, vR t), (1, vI a1), (2, vI a2)] [] W (fpg_isTold_303 t a1 a2 W) en := by
  have h0 := h
  obtain ⟨hx, hm, hr, he⟩ := h0
  unfold fpg_isTold_303
  refine j_runA hx 1 (tb := [(303, .iconst 0)]) (jtb_ok (by decide +kernel)) (pc' := 304) (lv' := [(0, vR t), (1, vI a1), (2, vI a2)]) (st' := [vI (kI 0)]) rfl ?_
  exact j_iret hx hm (by decide +kernel) jz0n (he _)
theorem wpg_isTold_337 {x : jCx} {en : (Int32 × jW) → Option (Outcome × jW)} {t : Nat} {a1 : Int32} {a2 : Int32} (h : hpg_isTold x en t a1 a2) (W : jW) : jJ x 11 337 [(0, vR t), (1, vI a1), (2, vI a2)] [] W (fpg_isTold_337 t a1 a2 W) en := by
  have h0 := h
  obtain ⟨hx, hm, hr, he⟩ := h0
  unfold fpg_isTold_337
  refine j_runA hx 1 (tb := [(337, .iconst 0)]) (jtb_ok (by decide +kernel)) (pc' := 338) (lv' := [(0, vR t), (1, vI a1), (2, vI a2)]) (st' := [vI (kI 0)]) rfl ?_
  exact j_iret hx hm (by decide +kernel) jz0n (he _)
theorem wpg_isTold_64 {x : jCx} {en : (Int32 × jW) → Option (Outcome × jW)} {t : Nat} {a1 : Int32} {a2 : Int32} (h : hpg_isTold x en t a1 a2) (l3 : Int64) (l5 : Int32) (l6 : Int64) (W : jW) : jJ x 11 64 [(0, vR t), (1, vI a1), (2, vI a2), (3, vL l3), (5, vI l5), (6, vL l6)] [] W (fpg_isTold_64 t a1 a2 l3 l5 l6 W) en := by
  have h0 := h
  obtain ⟨hx, hm, hr, he⟩ := h0
  unfold fpg_isTold_64
  refine j_runA hx 2 (tb := [(64, .iload 5), (66, .sipush 257)]) (jtb_ok (by decide +kernel)) (pc' := 69) (lv' := [(0, vR t), (1, vI a1), (2, vI a2), (3, vL l3), (5, vI l5), (6, vL l6)]) (st' := [vI (kI 257), vI l5]) rfl ?_
  refine j_icmp_ne hx (off := 44) (tgt := 113) (by decide +kernel) (by decide) (fun _ => ?_) (fun _ => ?_)
  · refine j_runA hx 2 (tb := [(113, .aload_n 0), (114, .lload 6)]) (jtb_ok (by decide +kernel)) (pc' := 116) (lv' := [(0, vR t), (1, vI a1), (2, vI a2), (3, vL l3), (5, vI l5), (6, vL l6)]) (st' := [vL l6, vR t]) rfl ?_
    refine j_gd (fun h9 => ?_)
    refine j_OI (j_callV (av := [vL l6]) (st := []) hx hr (Or.inl q1035) q1036 q1037 rfl md_fpg_wordAt np_fpg_wordAt (cpg_wordAt t l6 W) (by decide) (Nat.le_of_ble_eq_true rfl) h9 (by decide) (by decide +kernel)) (fun q10 _ => ?_)
    refine j_runA hx 2 (tb := [(119, .istore 8), (121, .aload_n 0)]) (jtb_ok (by decide +kernel)) (pc' := 122) (lv' := [(8, vI q10), (0, vR t), (1, vI a1), (2, vI a2), (3, vL l3), (5, vI l5), (6, vL l6)]) (st' := [vR t]) rfl ?_
    refine j_getR hx flX1_42 kl207 h9 (by decide) (by decide +kernel) ?_
    refine j_runA hx 2 (tb := [(125, .iload 8), (127, .iload_n 1)]) (jtb_ok (by decide +kernel)) (pc' := 128) (lv' := [(8, vI q10), (0, vR t), (1, vI a1), (2, vI a2), (3, vL l3), (5, vI l5), (6, vL l6)]) (st' := [vI a1, vI q10, vR (jR W 207 t)]) rfl ?_
    refine j_gd (fun h11 => ?_)
    refine j_iast hx (f := 207) (o := t) kd207 rfl (by decide +kernel) h11 ?_
    refine j_ltw rfl (fun W12 hc13 => ?_)
    have h14 : jC W12 t = 2 := (congrFun hc13 _).trans h9
    refine j_runA hx 1 (tb := [(129, .aload_n 0)]) (jtb_ok (by decide +kernel)) (pc' := 130) (lv' := [(8, vI q10), (0, vR t), (1, vI a1), (2, vI a2), (3, vL l3), (5, vI l5), (6, vL l6)]) (st' := [vR t]) rfl ?_
    refine j_getR hx flX1_32 kl204 h14 (by decide) (by decide +kernel) ?_
    refine j_runA hx 1 (tb := [(133, .iload 8)]) (jtb_ok (by decide +kernel)) (pc' := 135) (lv' := [(8, vI q10), (0, vR t), (1, vI a1), (2, vI a2), (3, vL l3), (5, vI l5), (6, vL l6)]) (st' := [vI q10, vR (jR W12 204 t)]) rfl ?_
    refine j_gd (fun h16 => ?_)
    refine j_iald hx (f := 204) (o := t) kd204 rfl (by decide +kernel) h16 ?_
    refine j_runA hx 1 (tb := [(136, .istore 9)]) (jtb_ok (by decide +kernel)) (pc' := 138) (lv' := [(9, vI (jA W12 204 t (ix q10))), (8, vI q10), (0, vR t), (1, vI a1), (2, vI a2), (3, vL l3), (5, vI l5), (6, vL l6)]) (st' := []) rfl ?_
    refine j_let (v := (jA W12 204 t (ix q10))) (lv := fun v17 => [(9, vI v17), (8, vI q10), (0, vR t), (1, vI a1), (2, vI a2), (3, vL l3), (5, vI l5), (6, vL l6)]) (st := fun _ => []) (fun v17 => ?_)
    refine j_runA hx 1 (tb := [(138, .iload 5)]) (jtb_ok (by decide +kernel)) (pc' := 140) (lv' := [(9, vI v17), (8, vI q10), (0, vR t), (1, vI a1), (2, vI a2), (3, vL l3), (5, vI l5), (6, vL l6)]) (st' := [vI l5]) rfl ?_
    refine j_tab hx (dflt := 199) (lo := 275) (hi := 283) (offs := #[52, 199, 102, 199, 199, 199, 199, 131, 165]) (len := 52) (k := 275) (off := 52) (tgt := 192) (by decide +kernel) (by decide) (by decide) (by decide) rfl (by decide) (fun _ => ?_) (fun h18 => ?_)
    · refine j_runA hx 1 (tb := [(192, .aload_n 0)]) (jtb_ok (by decide +kernel)) (pc' := 193) (lv' := [(9, vI v17), (8, vI q10), (0, vR t), (1, vI a1), (2, vI a2), (3, vL l3), (5, vI l5), (6, vL l6)]) (st' := [vR t]) rfl ?_
      refine j_getR hx flX1_36 kl205 h14 (by decide) (by decide +kernel) ?_
      refine j_runA hx 1 (tb := [(196, .iload 8)]) (jtb_ok (by decide +kernel)) (pc' := 198) (lv' := [(9, vI v17), (8, vI q10), (0, vR t), (1, vI a1), (2, vI a2), (3, vL l3), (5, vI l5), (6, vL l6)]) (st' := [vI q10, vR (jR W12 205 t)]) rfl ?_
      refine j_gd (fun h19 => ?_)
      refine j_iald hx (f := 205) (o := t) kd205 rfl (by decide +kernel) h19 ?_
      refine j_runA hx 1 (tb := [(199, .iconst 5)]) (jtb_ok (by decide +kernel)) (pc' := 200) (lv' := [(9, vI v17), (8, vI q10), (0, vR t), (1, vI a1), (2, vI a2), (3, vL l3), (5, vI l5), (6, vL l6)]) (st' := [vI (kI 5), vI (jA W12 205 t (ix q10))]) rfl ?_
      refine j_icmp_ne hx (off := 40) (tgt := 240) (by decide +kernel) (by decide) (fun _ => ?_) (fun _ => ?_)
      · refine j_lv (lv' := [(0, vR t), (1, vI a1), (2, vI a2)]) ⟨rfl, rfl, rfl, trivial⟩ ?_
        exact wpg_isTold_240 h W12
      refine j_runA hx 2 (tb := [(203, .lload_n 3), (204, .lconst 0)]) (jtb_ok (by decide +kernel)) (pc' := 205) (lv' := [(9, vI v17), (8, vI q10), (0, vR t), (1, vI a1), (2, vI a2), (3, vL l3), (5, vI l5), (6, vL l6)]) (st' := [vL (kJ 0), vL l3]) rfl ?_
      refine j_lcmp_lt hx (off := 34) (tgt := 240) (by decide +kernel) (by decide +kernel) (by decide) (fun _ => ?_) (fun _ => ?_)
      · refine j_lv (lv' := [(0, vR t), (1, vI a1), (2, vI a2)]) ⟨rfl, rfl, rfl, trivial⟩ ?_
        exact wpg_isTold_240 h W12
      refine j_runA hx 1 (tb := [(209, .lload_n 3)]) (jtb_ok (by decide +kernel)) (pc' := 210) (lv' := [(9, vI v17), (8, vI q10), (0, vR t), (1, vI a1), (2, vI a2), (3, vL l3), (5, vI l5), (6, vL l6)]) (st' := [vL l3]) rfl ?_
      refine j_ldc2 hx (v := (kJ 2147483648)) (jkd2 q1065 (by decide +kernel)) (by decide +kernel) ?_
      refine j_lcmp_ge hx (off := 26) (tgt := 240) (by decide +kernel) (by decide +kernel) (by decide) (fun _ => ?_) (fun _ => ?_)
      · refine j_lv (lv' := [(0, vR t), (1, vI a1), (2, vI a2)]) ⟨rfl, rfl, rfl, trivial⟩ ?_
        exact wpg_isTold_240 h W12
      refine j_runA hx 1 (tb := [(217, .lload 6)]) (jtb_ok (by decide +kernel)) (pc' := 219) (lv' := [(9, vI v17), (8, vI q10), (0, vR t), (1, vI a1), (2, vI a2), (3, vL l3), (5, vI l5), (6, vL l6)]) (st' := [vL l6]) rfl ?_
      refine j_TL (j_callS (av := [vL l6]) (st := []) hx hr (Or.inl q1066) q1067 q247 md_fwo_pageOf np_fwo_pageOf (cwo_pageOf l6 W12) (by decide) (Nat.le_of_ble_eq_true rfl) (by decide +kernel)) ?_
      refine j_runA hx 1 (tb := [(222, .iload 9)]) (jtb_ok (by decide +kernel)) (pc' := 224) (lv' := [(9, vI v17), (8, vI q10), (0, vR t), (1, vI a1), (2, vI a2), (3, vL l3), (5, vI l5), (6, vL l6)]) (st' := [vI v17, vL (fwo_pageOf l6)]) rfl ?_
      refine j_TL (j_callS (av := [vI v17]) (st := [vL (fwo_pageOf l6)]) hx hr (Or.inl q1070) q1071 q247 md_fwo_pageBy np_fwo_pageBy (cwo_pageBy v17 W12) (by decide) (Nat.le_of_ble_eq_true rfl) (by decide +kernel)) ?_
      refine j_runA hx 2 (tb := [(227, .ladd), (228, .lload_n 3)]) (jtb_ok (by decide +kernel)) (pc' := 229) (lv' := [(9, vI v17), (8, vI q10), (0, vR t), (1, vI a1), (2, vI a2), (3, vL l3), (5, vI l5), (6, vL l6)]) (st' := [vL l3, vL ((fwo_pageOf l6) + (fwo_pageBy v17))]) rfl ?_
      refine j_TL (j_callS (av := [vL l3]) (st := [vL ((fwo_pageOf l6) + (fwo_pageBy v17))]) hx hr (Or.inl q1066) q1067 q247 md_fwo_pageOf np_fwo_pageOf (cwo_pageOf l3 W12) (by decide) (Nat.le_of_ble_eq_true rfl) (by decide +kernel)) ?_
      refine j_lcmp_ne hx (off := 7) (tgt := 240) (by decide +kernel) (by decide +kernel) (by decide) (fun _ => ?_) (fun _ => ?_)
      · refine j_lv (lv' := [(0, vR t), (1, vI a1), (2, vI a2)]) ⟨rfl, rfl, rfl, trivial⟩ ?_
        exact wpg_isTold_240 h W12
      refine j_runA hx 1 (tb := [(236, .iconst 1)]) (jtb_ok (by decide +kernel)) (pc' := 237) (lv' := [(9, vI v17), (8, vI q10), (0, vR t), (1, vI a1), (2, vI a2), (3, vL l3), (5, vI l5), (6, vL l6)]) (st' := [vI (kI 1)]) rfl ?_
      refine j_goto hx (off := 4) (by decide +kernel) (tgt := 241) (by decide) ?_
      exact j_iret hx hm (by decide +kernel) jz1n (he _)
    refine j_tab hx (dflt := 199) (lo := 275) (hi := 283) (offs := #[52, 199, 102, 199, 199, 199, 199, 131, 165]) (len := 52) (k := 277) (off := 102) (tgt := 242) (by decide +kernel) (by decide) (by decide) (by decide) rfl (by decide) (fun _ => ?_) (fun h20 => ?_)
    · refine j_runA hx 1 (tb := [(242, .iload 9)]) (jtb_ok (by decide +kernel)) (pc' := 244) (lv' := [(9, vI v17), (8, vI q10), (0, vR t), (1, vI a1), (2, vI a2), (3, vL l3), (5, vI l5), (6, vL l6)]) (st' := [vI v17]) rfl ?_
      refine j_TI (j_callS (av := [vI v17]) (st := []) hx hr (Or.inl q1077) q1078 q247 md_fwo_isPlainAdd np_fwo_isPlainAdd (cwo_isPlainAdd v17 W12) (by decide) (Nat.le_of_ble_eq_true rfl) (by decide +kernel)) ?_
      refine j_if_eq hx (off := 22) (tgt := 269) (by decide +kernel) (by decide) (fun _ => ?_) (fun _ => ?_)
      · refine j_lv (lv' := [(0, vR t), (1, vI a1), (2, vI a2)]) ⟨rfl, rfl, rfl, trivial⟩ ?_
        exact wpg_isTold_269 h W12
      refine j_runA hx 1 (tb := [(250, .iload 9)]) (jtb_ok (by decide +kernel)) (pc' := 252) (lv' := [(9, vI v17), (8, vI q10), (0, vR t), (1, vI a1), (2, vI a2), (3, vL l3), (5, vI l5), (6, vL l6)]) (st' := [vI v17]) rfl ?_
      refine j_TI (j_callS (av := [vI v17]) (st := []) hx hr (Or.inl q1081) q1082 q247 md_fwo_twelve np_fwo_twelve (cwo_twelve v17 W12) (by decide) (Nat.le_of_ble_eq_true rfl) (by decide +kernel)) ?_
      refine j_runA hx 2 (tb := [(255, .i2l), (256, .lload_n 3)]) (jtb_ok (by decide +kernel)) (pc' := 257) (lv' := [(9, vI v17), (8, vI q10), (0, vR t), (1, vI a1), (2, vI a2), (3, vL l3), (5, vI l5), (6, vL l6)]) (st' := [vL l3, vL ((fwo_twelve v17).toInt64)]) rfl ?_
      refine j_ldc2 hx (v := (kJ 4095)) (jkd2 q1084 (by decide +kernel)) (by decide +kernel) ?_
      refine j_runA hx 1 (tb := [(260, .land)]) (jtb_ok (by decide +kernel)) (pc' := 261) (lv' := [(9, vI v17), (8, vI q10), (0, vR t), (1, vI a1), (2, vI a2), (3, vL l3), (5, vI l5), (6, vL l6)]) (st' := [vL (l3 &&& (kJ 4095)), vL ((fwo_twelve v17).toInt64)]) rfl ?_
      refine j_lcmp_ne hx (off := 7) (tgt := 269) (by decide +kernel) (by decide +kernel) (by decide) (fun _ => ?_) (fun _ => ?_)
      · refine j_lv (lv' := [(0, vR t), (1, vI a1), (2, vI a2)]) ⟨rfl, rfl, rfl, trivial⟩ ?_
        exact wpg_isTold_269 h W12
      refine j_runA hx 1 (tb := [(265, .iconst 1)]) (jtb_ok (by decide +kernel)) (pc' := 266) (lv' := [(9, vI v17), (8, vI q10), (0, vR t), (1, vI a1), (2, vI a2), (3, vL l3), (5, vI l5), (6, vL l6)]) (st' := [vI (kI 1)]) rfl ?_
      refine j_goto hx (off := 4) (by decide +kernel) (tgt := 270) (by decide) ?_
      exact j_iret hx hm (by decide +kernel) jz1n (he _)
    refine j_tab hx (dflt := 199) (lo := 275) (hi := 283) (offs := #[52, 199, 102, 199, 199, 199, 199, 131, 165]) (len := 52) (k := 282) (off := 131) (tgt := 271) (by decide +kernel) (by decide) (by decide) (by decide) rfl (by decide) (fun _ => ?_) (fun h21 => ?_)
    · refine j_runA hx 1 (tb := [(271, .aload_n 0)]) (jtb_ok (by decide +kernel)) (pc' := 272) (lv' := [(9, vI v17), (8, vI q10), (0, vR t), (1, vI a1), (2, vI a2), (3, vL l3), (5, vI l5), (6, vL l6)]) (st' := [vR t]) rfl ?_
      refine j_getR hx flX1_36 kl205 h14 (by decide) (by decide +kernel) ?_
      refine j_runA hx 1 (tb := [(275, .iload 8)]) (jtb_ok (by decide +kernel)) (pc' := 277) (lv' := [(9, vI v17), (8, vI q10), (0, vR t), (1, vI a1), (2, vI a2), (3, vL l3), (5, vI l5), (6, vL l6)]) (st' := [vI q10, vR (jR W12 205 t)]) rfl ?_
      refine j_gd (fun h22 => ?_)
      refine j_iald hx (f := 205) (o := t) kd205 rfl (by decide +kernel) h22 ?_
      refine j_runA hx 1 (tb := [(278, .bipush 12)]) (jtb_ok (by decide +kernel)) (pc' := 280) (lv' := [(9, vI v17), (8, vI q10), (0, vR t), (1, vI a1), (2, vI a2), (3, vL l3), (5, vI l5), (6, vL l6)]) (st' := [vI (kI 12), vI (jA W12 205 t (ix q10))]) rfl ?_
      refine j_icmp_ne hx (off := 23) (tgt := 303) (by decide +kernel) (by decide) (fun _ => ?_) (fun _ => ?_)
      · refine j_lv (lv' := [(0, vR t), (1, vI a1), (2, vI a2)]) ⟨rfl, rfl, rfl, trivial⟩ ?_
        exact wpg_isTold_303 h W12
      refine j_runA hx 3 (tb := [(283, .lload 6), (285, .iload 9), (287, .bipush 12)]) (jtb_ok (by decide +kernel)) (pc' := 289) (lv' := [(9, vI v17), (8, vI q10), (0, vR t), (1, vI a1), (2, vI a2), (3, vL l3), (5, vI l5), (6, vL l6)]) (st' := [vI (kI 12), vI v17, vL l6]) rfl ?_
      refine j_TI (j_callS (av := [vI v17, vI (kI 12)]) (st := [vL l6]) hx hr (Or.inl q1085) q1086 q247 md_fwo_by np_fwo_by (cwo_by v17 (kI 12) W12) (by decide) (Nat.le_of_ble_eq_true rfl) (by decide +kernel)) ?_
      refine j_runA hx 3 (tb := [(292, .i2l), (293, .ladd), (294, .lload_n 3)]) (jtb_ok (by decide +kernel)) (pc' := 295) (lv' := [(9, vI v17), (8, vI q10), (0, vR t), (1, vI a1), (2, vI a2), (3, vL l3), (5, vI l5), (6, vL l6)]) (st' := [vL l3, vL (l6 + ((fwo_by v17 (kI 12)).toInt64))]) rfl ?_
      refine j_lcmp_ne hx (off := 7) (tgt := 303) (by decide +kernel) (by decide +kernel) (by decide) (fun _ => ?_) (fun _ => ?_)
      · refine j_lv (lv' := [(0, vR t), (1, vI a1), (2, vI a2)]) ⟨rfl, rfl, rfl, trivial⟩ ?_
        exact wpg_isTold_303 h W12
      refine j_runA hx 1 (tb := [(299, .iconst 1)]) (jtb_ok (by decide +kernel)) (pc' := 300) (lv' := [(9, vI v17), (8, vI q10), (0, vR t), (1, vI a1), (2, vI a2), (3, vL l3), (5, vI l5), (6, vL l6)]) (st' := [vI (kI 1)]) rfl ?_
      refine j_goto hx (off := 4) (by decide +kernel) (tgt := 304) (by decide) ?_
      exact j_iret hx hm (by decide +kernel) jz1n (he _)
    refine j_tab hx (dflt := 199) (lo := 275) (hi := 283) (offs := #[52, 199, 102, 199, 199, 199, 199, 131, 165]) (len := 52) (k := 283) (off := 165) (tgt := 305) (by decide +kernel) (by decide) (by decide) (by decide) rfl (by decide) (fun _ => ?_) (fun h23 => ?_)
    · refine j_runA hx 1 (tb := [(305, .aload_n 0)]) (jtb_ok (by decide +kernel)) (pc' := 306) (lv' := [(9, vI v17), (8, vI q10), (0, vR t), (1, vI a1), (2, vI a2), (3, vL l3), (5, vI l5), (6, vL l6)]) (st' := [vR t]) rfl ?_
      refine j_getR hx flX1_36 kl205 h14 (by decide) (by decide +kernel) ?_
      refine j_runA hx 1 (tb := [(309, .iload 8)]) (jtb_ok (by decide +kernel)) (pc' := 311) (lv' := [(9, vI v17), (8, vI q10), (0, vR t), (1, vI a1), (2, vI a2), (3, vL l3), (5, vI l5), (6, vL l6)]) (st' := [vI q10, vR (jR W12 205 t)]) rfl ?_
      refine j_gd (fun h24 => ?_)
      refine j_iald hx (f := 205) (o := t) kd205 rfl (by decide +kernel) h24 ?_
      refine j_runA hx 1 (tb := [(312, .bipush 13)]) (jtb_ok (by decide +kernel)) (pc' := 314) (lv' := [(9, vI v17), (8, vI q10), (0, vR t), (1, vI a1), (2, vI a2), (3, vL l3), (5, vI l5), (6, vL l6)]) (st' := [vI (kI 13), vI (jA W12 205 t (ix q10))]) rfl ?_
      refine j_icmp_ne hx (off := 23) (tgt := 337) (by decide +kernel) (by decide) (fun _ => ?_) (fun _ => ?_)
      · refine j_lv (lv' := [(0, vR t), (1, vI a1), (2, vI a2)]) ⟨rfl, rfl, rfl, trivial⟩ ?_
        exact wpg_isTold_337 h W12
      refine j_runA hx 3 (tb := [(317, .lload 6), (319, .iload 9), (321, .bipush 13)]) (jtb_ok (by decide +kernel)) (pc' := 323) (lv' := [(9, vI v17), (8, vI q10), (0, vR t), (1, vI a1), (2, vI a2), (3, vL l3), (5, vI l5), (6, vL l6)]) (st' := [vI (kI 13), vI v17, vL l6]) rfl ?_
      refine j_TI (j_callS (av := [vI v17, vI (kI 13)]) (st := [vL l6]) hx hr (Or.inl q1085) q1086 q247 md_fwo_by np_fwo_by (cwo_by v17 (kI 13) W12) (by decide) (Nat.le_of_ble_eq_true rfl) (by decide +kernel)) ?_
      refine j_runA hx 3 (tb := [(326, .i2l), (327, .ladd), (328, .lload_n 3)]) (jtb_ok (by decide +kernel)) (pc' := 329) (lv' := [(9, vI v17), (8, vI q10), (0, vR t), (1, vI a1), (2, vI a2), (3, vL l3), (5, vI l5), (6, vL l6)]) (st' := [vL l3, vL (l6 + ((fwo_by v17 (kI 13)).toInt64))]) rfl ?_
      refine j_lcmp_ne hx (off := 7) (tgt := 337) (by decide +kernel) (by decide +kernel) (by decide) (fun _ => ?_) (fun _ => ?_)
      · refine j_lv (lv' := [(0, vR t), (1, vI a1), (2, vI a2)]) ⟨rfl, rfl, rfl, trivial⟩ ?_
        exact wpg_isTold_337 h W12
      refine j_runA hx 1 (tb := [(333, .iconst 1)]) (jtb_ok (by decide +kernel)) (pc' := 334) (lv' := [(9, vI v17), (8, vI q10), (0, vR t), (1, vI a1), (2, vI a2), (3, vL l3), (5, vI l5), (6, vL l6)]) (st' := [vI (kI 1)]) rfl ?_
      refine j_goto hx (off := 4) (by decide +kernel) (tgt := 338) (by decide) ?_
      exact j_iret hx hm (by decide +kernel) jz1n (he _)
    refine j_tabD hx (dflt := 199) (lo := 275) (hi := 283) (offs := #[52, 199, 102, 199, 199, 199, 199, 131, 165]) (len := 52) (tgt := 339) (by decide +kernel) (by decide) (fun i hi => by
      match i, hi with
      | 0, _ => exact Or.inr h18
      | 1, _ => exact Or.inl rfl
      | 2, _ => exact Or.inr h20
      | 3, _ => exact Or.inl rfl
      | 4, _ => exact Or.inl rfl
      | 5, _ => exact Or.inl rfl
      | 6, _ => exact Or.inl rfl
      | 7, _ => exact Or.inr h21
      | 8, _ => exact Or.inr h23
      | n + 9, h => exact absurd h (by omega)) ?_
    refine j_lv (lv' := [(0, vR t), (1, vI a1), (2, vI a2), (3, vL l3), (5, vI l5), (8, vI q10), (9, vI v17)]) ⟨rfl, rfl, rfl, rfl, rfl, rfl, rfl, trivial⟩ ?_
    exact wpg_isTold_339 h l3 l5 q10 v17 W12
  refine j_runA hx 1 (tb := [(72, .aload_n 0)]) (jtb_ok (by decide +kernel)) (pc' := 73) (lv' := [(0, vR t), (1, vI a1), (2, vI a2), (3, vL l3), (5, vI l5), (6, vL l6)]) (st' := [vR t]) rfl ?_
  refine j_gd (fun h25 => ?_)
  refine j_getR hx flX1_28 kl202 h25 (by decide) (by decide +kernel) ?_
  refine j_runA hx 1 (tb := [(76, .aload_n 0)]) (jtb_ok (by decide +kernel)) (pc' := 77) (lv' := [(0, vR t), (1, vI a1), (2, vI a2), (3, vL l3), (5, vI l5), (6, vL l6)]) (st' := [vR t, vR (jR W 202 t)]) rfl ?_
  refine j_getR hx flX1_21 kl201 h25 (by decide) (by decide +kernel) ?_
  refine j_gd (fun h26 => ?_)
  refine j_getR hx flX1_216 kl414 h26 (by decide) (by decide +kernel) ?_
  refine j_runA hx 1 (tb := [(83, .iload_n 2)]) (jtb_ok (by decide +kernel)) (pc' := 84) (lv' := [(0, vR t), (1, vI a1), (2, vI a2), (3, vL l3), (5, vI l5), (6, vL l6)]) (st' := [vI a2, vR (jR W 414 (jR W 201 t)), vR (jR W 202 t)]) rfl ?_
  refine j_gd (fun h27 => ?_)
  refine j_iald hx (f := 414) (o := (jR W 201 t)) kd414 rfl (by decide +kernel) h27 ?_
  refine j_runA hx 2 (tb := [(85, .lload 6), (87, .aload_n 0)]) (jtb_ok (by decide +kernel)) (pc' := 88) (lv' := [(0, vR t), (1, vI a1), (2, vI a2), (3, vL l3), (5, vI l5), (6, vL l6)]) (st' := [vR t, vL l6, vI (jA W 414 (jR W 201 t) (ix a2)), vR (jR W 202 t)]) rfl ?_
  refine j_getR hx flX1_21 kl201 h25 (by decide) (by decide +kernel) ?_
  refine j_getR hx flX1_219 kl413 h26 (by decide) (by decide +kernel) ?_
  refine j_runA hx 1 (tb := [(94, .iload_n 2)]) (jtb_ok (by decide +kernel)) (pc' := 95) (lv' := [(0, vR t), (1, vI a1), (2, vI a2), (3, vL l3), (5, vI l5), (6, vL l6)]) (st' := [vI a2, vR (jR W 413 (jR W 201 t)), vL l6, vI (jA W 414 (jR W 201 t) (ix a2)), vR (jR W 202 t)]) rfl ?_
  refine j_gd (fun h28 => ?_)
  refine j_lald hx (f := 413) (o := (jR W 201 t)) kd413 rfl (by decide +kernel) h28 ?_
  refine j_runA hx 3 (tb := [(96, .lsub), (97, .l2i), (98, .iadd)]) (jtb_ok (by decide +kernel)) (pc' := 99) (lv' := [(0, vR t), (1, vI a1), (2, vI a2), (3, vL l3), (5, vI l5), (6, vL l6)]) (st' := [vI ((jA W 414 (jR W 201 t) (ix a2)) + ((l6 - (jB W 413 (jR W 201 t) (ix a2))).toInt32)), vR (jR W 202 t)]) rfl ?_
  refine j_gd (fun h29 => ?_)
  refine j_OL (j_callU (av := [vI ((jA W 414 (jR W 201 t) (ix a2)) + ((l6 - (jB W 413 (jR W 201 t) (ix a2))).toInt32))]) (st := []) hx hr q1028 q1029 (hde_fsr_pair) (by decide) q762 q1031 rfl md_fsr_pair np_fsr_pair (csr_pair (jR W 202 t) ((jA W 414 (jR W 201 t) (ix a2)) + ((l6 - (jB W 413 (jR W 201 t) (ix a2))).toInt32)) W) (by decide) (Nat.le_of_ble_eq_true rfl) h29 (by decide) (by decide +kernel)) (fun q30 _ => ?_)
  refine j_runA hx 1 (tb := [(102, .lload_n 3)]) (jtb_ok (by decide +kernel)) (pc' := 103) (lv' := [(0, vR t), (1, vI a1), (2, vI a2), (3, vL l3), (5, vI l5), (6, vL l6)]) (st' := [vL l3, vL q30]) rfl ?_
  refine j_lcmp_ne hx (off := 7) (tgt := 111) (by decide +kernel) (by decide +kernel) (by decide) (fun _ => ?_) (fun _ => ?_)
  · refine j_runA hx 1 (tb := [(111, .iconst 0)]) (jtb_ok (by decide +kernel)) (pc' := 112) (lv' := [(0, vR t), (1, vI a1), (2, vI a2), (3, vL l3), (5, vI l5), (6, vL l6)]) (st' := [vI (kI 0)]) rfl ?_
    exact j_iret hx hm (by decide +kernel) jz0n (he _)
  refine j_runA hx 1 (tb := [(107, .iconst 1)]) (jtb_ok (by decide +kernel)) (pc' := 108) (lv' := [(0, vR t), (1, vI a1), (2, vI a2), (3, vL l3), (5, vI l5), (6, vL l6)]) (st' := [vI (kI 1)]) rfl ?_
  refine j_goto hx (off := 4) (by decide +kernel) (tgt := 112) (by decide) ?_
  exact j_iret hx hm (by decide +kernel) jz1n (he _)
theorem wpg_isTold {x : jCx} {en : (Int32 × jW) → Option (Outcome × jW)} {t : Nat} {a1 : Int32} {a2 : Int32} (h : hpg_isTold x en t a1 a2) (W : jW) : jJ x 11 0 [(0, vR t), (1, vI a1), (2, vI a2)] [] W (fpg_isTold t a1 a2 W) en := by
  have h0 := h
  obtain ⟨hx, hm, hr, he⟩ := h0
  unfold fpg_isTold
  refine j_runA hx 1 (tb := [(0, .aload_n 0)]) (jtb_ok (by decide +kernel)) (pc' := 1) (lv' := [(0, vR t), (1, vI a1), (2, vI a2)]) (st' := [vR t]) rfl ?_
  refine j_gd (fun h1 => ?_)
  refine j_getR hx flX1_21 kl201 h1 (by decide) (by decide +kernel) ?_
  refine j_runA hx 1 (tb := [(4, .iload_n 1)]) (jtb_ok (by decide +kernel)) (pc' := 5) (lv' := [(0, vR t), (1, vI a1), (2, vI a2)]) (st' := [vI a1, vR (jR W 201 t)]) rfl ?_
  refine j_gd (fun h2 => ?_)
  refine j_OL (j_callV (av := [vI a1]) (st := []) hx hr (Or.inl q1060) q1061 q1062 rfl md_fsh_target np_fsh_target (csh_target (jR W 201 t) a1 W) (by decide) (Nat.le_of_ble_eq_true rfl) h2 (by decide) (by decide +kernel)) (fun q3 _ => ?_)
  refine j_runA hx 2 (tb := [(8, .lstore_n 3), (9, .aload_n 0)]) (jtb_ok (by decide +kernel)) (pc' := 10) (lv' := [(3, vL q3), (0, vR t), (1, vI a1), (2, vI a2)]) (st' := [vR t]) rfl ?_
  refine j_getR hx flX1_21 kl201 h1 (by decide) (by decide +kernel) ?_
  refine j_runA hx 1 (tb := [(13, .iload_n 1)]) (jtb_ok (by decide +kernel)) (pc' := 14) (lv' := [(3, vL q3), (0, vR t), (1, vI a1), (2, vI a2)]) (st' := [vI a1, vR (jR W 201 t)]) rfl ?_
  refine j_OI (j_callV (av := [vI a1]) (st := []) hx hr (Or.inl q1055) q913 q914 rfl md_fsh_fixType np_fsh_fixType (csh_fixType (jR W 201 t) a1 W) (by decide) (Nat.le_of_ble_eq_true rfl) h2 (by decide) (by decide +kernel)) (fun q4 _ => ?_)
  refine j_runA hx 2 (tb := [(17, .istore 5), (19, .aload_n 0)]) (jtb_ok (by decide +kernel)) (pc' := 20) (lv' := [(5, vI q4), (3, vL q3), (0, vR t), (1, vI a1), (2, vI a2)]) (st' := [vR t]) rfl ?_
  refine j_getR hx flX1_21 kl201 h1 (by decide) (by decide +kernel) ?_
  refine j_runA hx 1 (tb := [(23, .iload_n 1)]) (jtb_ok (by decide +kernel)) (pc' := 24) (lv' := [(5, vI q4), (3, vL q3), (0, vR t), (1, vI a1), (2, vI a2)]) (st' := [vI a1, vR (jR W 201 t)]) rfl ?_
  refine j_OL (j_callV (av := [vI a1]) (st := []) hx hr (Or.inl q1064) q920 q921 rfl md_fsh_fixPlace np_fsh_fixPlace (csh_fixPlace (jR W 201 t) a1 W) (by decide) (Nat.le_of_ble_eq_true rfl) h2 (by decide) (by decide +kernel)) (fun q5 _ => ?_)
  refine j_runA hx 3 (tb := [(27, .lstore 6), (29, .lload_n 3), (30, .aload_n 0)]) (jtb_ok (by decide +kernel)) (pc' := 31) (lv' := [(6, vL q5), (5, vI q4), (3, vL q3), (0, vR t), (1, vI a1), (2, vI a2)]) (st' := [vR t, vL q3]) rfl ?_
  refine j_getR hx flX1_21 kl201 h1 (by decide) (by decide +kernel) ?_
  refine j_OL (j_callV (av := []) (st := [vL q3]) hx hr (Or.inl q1034) q897 q898 rfl md_fsh_end np_fsh_end (csh_end (jR W 201 t) W) (by decide) (Nat.le_of_ble_eq_true rfl) h2 (by decide) (by decide +kernel)) (fun q6 _ => ?_)
  refine j_lcmp_eq hx (off := 24) (tgt := 62) (by decide +kernel) (by decide +kernel) (by decide) (fun _ => ?_) (fun _ => ?_)
  · refine j_lv (lv' := [(0, vR t), (1, vI a1), (2, vI a2)]) ⟨rfl, rfl, rfl, trivial⟩ ?_
    exact wpg_isTold_62 h W
  refine j_runA hx 1 (tb := [(41, .aload_n 0)]) (jtb_ok (by decide +kernel)) (pc' := 42) (lv' := [(6, vL q5), (5, vI q4), (3, vL q3), (0, vR t), (1, vI a1), (2, vI a2)]) (st' := [vR t]) rfl ?_
  refine j_getR hx flX1_21 kl201 h1 (by decide) (by decide +kernel) ?_
  refine j_runA hx 1 (tb := [(45, .lload_n 3)]) (jtb_ok (by decide +kernel)) (pc' := 46) (lv' := [(6, vL q5), (5, vI q4), (3, vL q3), (0, vR t), (1, vI a1), (2, vI a2)]) (st' := [vL q3, vR (jR W 201 t)]) rfl ?_
  refine j_OI (j_callV (av := [vL q3]) (st := []) hx hr (Or.inl q1032) q893 q894 rfl md_fsh_isText np_fsh_isText (csh_isText (jR W 201 t) q3 W) (by decide) (Nat.le_of_ble_eq_true rfl) h2 (by decide) (by decide +kernel)) (fun q7 _ => ?_)
  refine j_if_eq hx (off := 15) (tgt := 64) (by decide +kernel) (by decide) (fun _ => ?_) (fun _ => ?_)
  · refine j_lv (lv' := [(0, vR t), (1, vI a1), (2, vI a2), (3, vL q3), (5, vI q4), (6, vL q5)]) ⟨rfl, rfl, rfl, rfl, rfl, rfl, trivial⟩ ?_
    exact wpg_isTold_64 h q3 q4 q5 W
  refine j_runA hx 1 (tb := [(52, .lload_n 3)]) (jtb_ok (by decide +kernel)) (pc' := 53) (lv' := [(6, vL q5), (5, vI q4), (3, vL q3), (0, vR t), (1, vI a1), (2, vI a2)]) (st' := [vL q3]) rfl ?_
  refine j_ldc2 hx (v := (kJ 4)) (jkd2 q1033 (by decide +kernel)) (by decide +kernel) ?_
  refine j_lrem hx (by decide +kernel) (by decide +kernel) ?_
  refine j_runA hx 1 (tb := [(57, .lconst 0)]) (jtb_ok (by decide +kernel)) (pc' := 58) (lv' := [(6, vL q5), (5, vI q4), (3, vL q3), (0, vR t), (1, vI a1), (2, vI a2)]) (st' := [vL (kJ 0), vL (lrm q3 (kJ 4))]) rfl ?_
  refine j_lcmp_eq hx (off := 5) (tgt := 64) (by decide +kernel) (by decide +kernel) (by decide) (fun _ => ?_) (fun _ => ?_)
  · refine j_lv (lv' := [(0, vR t), (1, vI a1), (2, vI a2), (3, vL q3), (5, vI q4), (6, vL q5)]) ⟨rfl, rfl, rfl, rfl, rfl, rfl, trivial⟩ ?_
    exact wpg_isTold_64 h q3 q4 q5 W
  refine j_lv (lv' := [(0, vR t), (1, vI a1), (2, vI a2)]) ⟨rfl, rfl, rfl, trivial⟩ ?_
  exact wpg_isTold_62 h W
theorem cpg_isTold (t : Nat) (a1 : Int32) (a2 : Int32) (W : jW) : jM yX1_isTold cX1_isTold 11 (Option.some Jvm.ClassFile.FieldType.boolean) [] 8 109 [vR t, vI a1, vI a2] W ((fpg_isTold t a1 a2 W).bind (fun q => some (.returned (some (.int q.1)), q.2))) := 
  jM.of (Nat.le_of_ble_eq_true rfl) (fun x hx hm hr => wpg_isTold ⟨hx, hm, hr, fun _ => rfl⟩ W)
def hpg_lookFixes (x : jCx) (en : (fpg_lookFixes_S ⊕ ((Nat × jW) ⊕ jW)) → Option (Outcome × jW)) (t : Nat) : Prop :=
  jOK x RX1 cX1_lookFixes 4 ∧
  jMt x "lookFixes" (Option.none : Option Jvm.ClassFile.FieldType) [] ∧
  jRm x 9 132 ∧
  (∀ q : jW, en (.inr (.inr q)) = some (.returned none, q)) ∧
  (∀ z : Nat × jW, en (.inr (.inl z)) = some (.threw (z.1 - 1), z.2)) ∧
  (∀ (l1 : Int32) (W : jW), jJ x 4 2 [(0, vR t), (1, vI l1)] [] W (some (.inl (.inl (l1, W)))) en) ∧
  (∀ (l1 : Int32) (l2 : Int32) (W : jW), jJ x 4 31 [(0, vR t), (1, vI l1), (2, vI l2)] [] W (some (.inl (.inr (l1, l2, W)))) en)
theorem wpg_lookFixes_94 {x : jCx} {en : (fpg_lookFixes_S ⊕ ((Nat × jW) ⊕ jW)) → Option (Outcome × jW)} {t : Nat} (h : hpg_lookFixes x en t) (l1 : Int32) (W : jW) : jJ x 4 94 [(0, vR t), (1, vI l1)] [] W (fpg_lookFixes_94 t l1 W) en := by
  have h0 := h
  obtain ⟨hx, hm, hr, he, ht, k2, k31⟩ := h0
  unfold fpg_lookFixes_94
  refine j_runA hx 1 (tb := [(94, .iinc 1 1)]) (jtb_ok (by decide +kernel)) (pc' := 97) (lv' := [(1, vI (l1 + (kI 1))), (0, vR t)]) (st' := []) rfl ?_
  refine j_let (v := (l1 + (kI 1))) (lv := fun v6 => [(1, vI v6), (0, vR t)]) (st := fun _ => []) (fun v6 => ?_)
  refine j_goto hx (off := -95) (by decide +kernel) (tgt := 2) (by decide) ?_
  refine j_lv (lv' := [(0, vR t), (1, vI v6)]) ⟨rfl, rfl, trivial⟩ ?_
  exact k2 v6 W
theorem wpg_lookFixes_88 {x : jCx} {en : (fpg_lookFixes_S ⊕ ((Nat × jW) ⊕ jW)) → Option (Outcome × jW)} {t : Nat} (h : hpg_lookFixes x en t) (l1 : Int32) (l2 : Int32) (W : jW) : jJ x 4 88 [(0, vR t), (1, vI l1), (2, vI l2)] [] W (fpg_lookFixes_88 t l1 l2 W) en := by
  have h0 := h
  obtain ⟨hx, hm, hr, he, ht, k2, k31⟩ := h0
  unfold fpg_lookFixes_88
  refine j_runA hx 1 (tb := [(88, .iinc 2 1)]) (jtb_ok (by decide +kernel)) (pc' := 91) (lv' := [(2, vI (l2 + (kI 1))), (0, vR t), (1, vI l1)]) (st' := []) rfl ?_
  refine j_let (v := (l2 + (kI 1))) (lv := fun v20 => [(2, vI v20), (0, vR t), (1, vI l1)]) (st := fun _ => []) (fun v20 => ?_)
  refine j_goto hx (off := -60) (by decide +kernel) (tgt := 31) (by decide) ?_
  refine j_lv (lv' := [(0, vR t), (1, vI l1), (2, vI v20)]) ⟨rfl, rfl, rfl, trivial⟩ ?_
  exact k31 l1 v20 W
theorem wpg_lookFixes_31 {x : jCx} {en : (fpg_lookFixes_S ⊕ ((Nat × jW) ⊕ jW)) → Option (Outcome × jW)} {t : Nat} (h : hpg_lookFixes x en t) (l1 : Int32) (l2 : Int32) (W : jW) : jJ x 4 31 [(0, vR t), (1, vI l1), (2, vI l2)] [] W (fpg_lookFixes_31 t l1 l2 W) en := by
  have h0 := h
  obtain ⟨hx, hm, hr, he, ht, k2, k31⟩ := h0
  unfold fpg_lookFixes_31
  refine j_runA hx 2 (tb := [(31, .iload_n 2), (32, .aload_n 0)]) (jtb_ok (by decide +kernel)) (pc' := 33) (lv' := [(0, vR t), (1, vI l1), (2, vI l2)]) (st' := [vR t, vI l2]) rfl ?_
  refine j_gd (fun h8 => ?_)
  refine j_getR hx flX1_21 kl201 h8 (by decide) (by decide +kernel) ?_
  refine j_runA hx 1 (tb := [(36, .iload_n 1)]) (jtb_ok (by decide +kernel)) (pc' := 37) (lv' := [(0, vR t), (1, vI l1), (2, vI l2)]) (st' := [vI l1, vR (jR W 201 t), vI l2]) rfl ?_
  refine j_gd (fun h9 => ?_)
  refine j_OI (j_callV (av := [vI l1]) (st := [vI l2]) hx hr (Or.inl q1053) q905 q906 rfl md_fsh_fixCount np_fsh_fixCount (csh_fixCount (jR W 201 t) l1 W) (by decide) (Nat.le_of_ble_eq_true rfl) h9 (by decide) (by decide +kernel)) (fun q10 _ => ?_)
  refine j_icmp_ge hx (off := 54) (tgt := 94) (by decide +kernel) (by decide) (fun _ => ?_) (fun _ => ?_)
  · refine j_lv (lv' := [(0, vR t), (1, vI l1)]) ⟨rfl, rfl, trivial⟩ ?_
    exact wpg_lookFixes_94 h l1 W
  refine j_runA hx 1 (tb := [(43, .aload_n 0)]) (jtb_ok (by decide +kernel)) (pc' := 44) (lv' := [(0, vR t), (1, vI l1), (2, vI l2)]) (st' := [vR t]) rfl ?_
  refine j_getR hx flX1_21 kl201 h8 (by decide) (by decide +kernel) ?_
  refine j_runA hx 2 (tb := [(47, .iload_n 1), (48, .iload_n 2)]) (jtb_ok (by decide +kernel)) (pc' := 49) (lv' := [(0, vR t), (1, vI l1), (2, vI l2)]) (st' := [vI l2, vI l1, vR (jR W 201 t)]) rfl ?_
  refine j_OI (j_callV (av := [vI l1, vI l2]) (st := []) hx hr (Or.inl q1054) q909 q910 rfl md_fsh_fixAt np_fsh_fixAt (csh_fixAt (jR W 201 t) l1 l2 W) (by decide) (Nat.le_of_ble_eq_true rfl) h9 (by decide) (by decide +kernel)) (fun q11 _ => ?_)
  refine j_runA hx 2 (tb := [(52, .istore_n 3), (53, .aload_n 0)]) (jtb_ok (by decide +kernel)) (pc' := 54) (lv' := [(3, vI q11), (0, vR t), (1, vI l1), (2, vI l2)]) (st' := [vR t]) rfl ?_
  refine j_getR hx flX1_21 kl201 h8 (by decide) (by decide +kernel) ?_
  refine j_runA hx 1 (tb := [(57, .iload_n 3)]) (jtb_ok (by decide +kernel)) (pc' := 58) (lv' := [(3, vI q11), (0, vR t), (1, vI l1), (2, vI l2)]) (st' := [vI q11, vR (jR W 201 t)]) rfl ?_
  refine j_OI (j_callV (av := [vI q11]) (st := []) hx hr (Or.inl q1055) q913 q914 rfl md_fsh_fixType np_fsh_fixType (csh_fixType (jR W 201 t) q11 W) (by decide) (Nat.le_of_ble_eq_true rfl) h9 (by decide) (by decide +kernel)) (fun q12 _ => ?_)
  refine j_if_eq hx (off := 27) (tgt := 88) (by decide +kernel) (by decide) (fun _ => ?_) (fun _ => ?_)
  · refine j_lv (lv' := [(0, vR t), (1, vI l1), (2, vI l2)]) ⟨rfl, rfl, rfl, trivial⟩ ?_
    exact wpg_lookFixes_88 h l1 l2 W
  refine j_runA hx 1 (tb := [(64, .aload_n 0)]) (jtb_ok (by decide +kernel)) (pc' := 65) (lv' := [(3, vI q11), (0, vR t), (1, vI l1), (2, vI l2)]) (st' := [vR t]) rfl ?_
  refine j_getR hx flX1_10 kl200 h8 (by decide) (by decide +kernel) ?_
  refine j_runA hx 3 (tb := [(68, .aload_n 0), (69, .iload_n 3), (70, .aload_n 0)]) (jtb_ok (by decide +kernel)) (pc' := 71) (lv' := [(3, vI q11), (0, vR t), (1, vI l1), (2, vI l2)]) (st' := [vR t, vI q11, vR t, vR (jR W 200 t)]) rfl ?_
  refine j_getR hx flX1_21 kl201 h8 (by decide) (by decide +kernel) ?_
  refine j_getR hx flX1_203 kl417 h9 (by decide) (by decide +kernel) ?_
  refine j_runA hx 1 (tb := [(77, .iload_n 1)]) (jtb_ok (by decide +kernel)) (pc' := 78) (lv' := [(3, vI q11), (0, vR t), (1, vI l1), (2, vI l2)]) (st' := [vI l1, vR (jR W 417 (jR W 201 t)), vI q11, vR t, vR (jR W 200 t)]) rfl ?_
  refine j_gd (fun h13 => ?_)
  refine j_iald hx (f := 417) (o := (jR W 201 t)) kd417 rfl (by decide +kernel) h13 ?_
  refine j_WI (j_callV (av := [vI q11, vI (jA W 417 (jR W 201 t) (ix l1))]) (st := [vR (jR W 200 t)]) hx hr (Or.inl q1056) q1058 qs17 rfl md_fpg_isTold np_fpg_isTold (cpg_isTold t q11 (jA W 417 (jR W 201 t) (ix l1)) W) (by decide) (Nat.le_of_ble_eq_true rfl) h8 (by decide) (by decide +kernel)) (fun q14 _ => ?_)
  refine j_runA hx 2 (tb := [(82, .bipush 9), (84, .iload_n 3)]) (jtb_ok (by decide +kernel)) (pc' := 85) (lv' := [(3, vI q11), (0, vR t), (1, vI l1), (2, vI l2)]) (st' := [vI q11, vI (kI 9), vI q14.1, vR (jR W 200 t)]) rfl ?_
  refine j_gd (fun h16 => ?_)
  refine j_EV (j_callV (av := [vI q14.1, vI (kI 9), vI q11]) (st := []) hx hr (Or.inl q1044) q758 q759 rfl md_ftr_must np_ftr_must (ctr_must (jR W 200 t) q14.1 (kI 9) q11 q14.2) (by decide) (Nat.le_of_ble_eq_true rfl) h16 (by decide) (by decide +kernel)) (fun z _ r h9 => j_upE hm hx (ht z) h9) (fun q17 _ => ?_)
  refine j_lv (lv' := [(0, vR t), (1, vI l1), (2, vI l2)]) ⟨rfl, rfl, rfl, trivial⟩ ?_
  exact wpg_lookFixes_88 h l1 l2 q17
theorem wpg_lookFixes_2 {x : jCx} {en : (fpg_lookFixes_S ⊕ ((Nat × jW) ⊕ jW)) → Option (Outcome × jW)} {t : Nat} (h : hpg_lookFixes x en t) (l1 : Int32) (W : jW) : jJ x 4 2 [(0, vR t), (1, vI l1)] [] W (fpg_lookFixes_2 t l1 W) en := by
  have h0 := h
  obtain ⟨hx, hm, hr, he, ht, k2, k31⟩ := h0
  unfold fpg_lookFixes_2
  refine j_runA hx 2 (tb := [(2, .iload_n 1), (3, .aload_n 0)]) (jtb_ok (by decide +kernel)) (pc' := 4) (lv' := [(0, vR t), (1, vI l1)]) (st' := [vR t, vI l1]) rfl ?_
  refine j_gd (fun h2 => ?_)
  refine j_getR hx flX1_21 kl201 h2 (by decide) (by decide +kernel) ?_
  refine j_gd (fun h3 => ?_)
  refine j_getI hx flX1_100 kd403 h3 (by decide) (by decide +kernel) ?_
  refine j_icmp_ge hx (off := 90) (tgt := 100) (by decide +kernel) (by decide) (fun _ => ?_) (fun _ => ?_)
  · exact j_vret hx hm (by decide +kernel) (he _)
  refine j_runA hx 1 (tb := [(13, .aload_n 0)]) (jtb_ok (by decide +kernel)) (pc' := 14) (lv' := [(0, vR t), (1, vI l1)]) (st' := [vR t]) rfl ?_
  refine j_getR hx flX1_21 kl201 h2 (by decide) (by decide +kernel) ?_
  refine j_getR hx flX1_103 kl411 h3 (by decide) (by decide +kernel) ?_
  refine j_runA hx 1 (tb := [(20, .iload_n 1)]) (jtb_ok (by decide +kernel)) (pc' := 21) (lv' := [(0, vR t), (1, vI l1)]) (st' := [vI l1, vR (jR W 411 (jR W 201 t))]) rfl ?_
  refine j_gd (fun h4 => ?_)
  refine j_iald hx (f := 411) (o := (jR W 201 t)) kd411 rfl (by decide +kernel) h4 ?_
  refine j_runA hx 1 (tb := [(22, .iconst 4)]) (jtb_ok (by decide +kernel)) (pc' := 23) (lv' := [(0, vR t), (1, vI l1)]) (st' := [vI (kI 4), vI (jA W 411 (jR W 201 t) (ix l1))]) rfl ?_
  refine j_icmp_eq hx (off := 6) (tgt := 29) (by decide +kernel) (by decide) (fun _ => ?_) (fun _ => ?_)
  · refine j_runA hx 2 (tb := [(29, .iconst 0), (30, .istore_n 2)]) (jtb_ok (by decide +kernel)) (pc' := 31) (lv' := [(2, vI (kI 0)), (0, vR t), (1, vI l1)]) (st' := []) rfl ?_
    refine j_lv (lv' := [(0, vR t), (1, vI l1), (2, vI (kI 0))]) ⟨rfl, rfl, rfl, trivial⟩ ?_
    exact k31 l1 (kI 0) W
  refine j_goto hx (off := 68) (by decide +kernel) (tgt := 94) (by decide) ?_
  exact wpg_lookFixes_94 h l1 W
theorem wpg_lookFixes {x : jCx} {en : (fpg_lookFixes_S ⊕ ((Nat × jW) ⊕ jW)) → Option (Outcome × jW)} {t : Nat} (h : hpg_lookFixes x en t) (W : jW) : jJ x 4 0 [(0, vR t)] [] W (fpg_lookFixes_0 t W) en := by
  have h0 := h
  obtain ⟨hx, hm, hr, he, ht, k2, k31⟩ := h0
  unfold fpg_lookFixes_0
  refine j_runA hx 2 (tb := [(0, .iconst 1), (1, .istore_n 1)]) (jtb_ok (by decide +kernel)) (pc' := 2) (lv' := [(1, vI (kI 1)), (0, vR t)]) (st' := []) rfl ?_
  refine j_lv (lv' := [(0, vR t), (1, vI (kI 1))]) ⟨rfl, rfl, trivial⟩ ?_
  exact k2 (kI 1) W
theorem cpg_lookFixes (t : Nat) (W : jW) : jM yX1_lookFixes cX1_lookFixes 4 (Option.none : Option Jvm.ClassFile.FieldType) [] 9 132 [vR t] W ((fpg_lookFixes t W).bind (fun q => some (Sum.elim (fun z => (.threw (z.1 - 1), z.2)) (fun q => (.returned none, q)) q))) := by
  refine jM.of (Nat.le_of_ble_eq_true rfl) (fun x hx hm hr => ?_)
  refine j_begin (P := (Sum.elim (fun s => (2, [(0, vR t), (1, vI s.1)], s.2)) (fun s => (31, [(0, vR t), (1, vI s.1), (2, vI s.2.1)], s.2.2)))) (fun en he hk => ?_)
  have h : hpg_lookFixes x en t := ⟨hx, hm, hr, fun q => he _, fun z => he _, fun l1 W => hk (.inl (l1, W)), fun l1 l2 W => hk (.inr (l1, l2, W))⟩
  refine ⟨fun s => ?_, wpg_lookFixes h W⟩
  rcases s with s | s
  · exact wpg_lookFixes_2 h s.1 s.2
  · exact wpg_lookFixes_31 h s.1 s.2.1 s.2.2
def hwo_isBranch (x : jCx) (en : (Int32) → Option (Outcome × jW)) (a0 : Int32) (W : jW) : Prop :=
  jOK x RX12 cX12_isBranch 1 ∧
  jMt x "isBranch" (Option.some Jvm.ClassFile.FieldType.boolean) [] ∧
  jRm x 0 0 ∧
  (∀ q : Int32, en q = some (.returned (some (.int q)), W))
theorem wwo_isBranch_18 {x : jCx} {en : (Int32) → Option (Outcome × jW)} {W : jW} {a0 : Int32} (h : hwo_isBranch x en a0 W) : jJ x 1 18 [(0, vI a0)] [] W (some (fwo_isBranch_18 a0)) en := by
  have h0 := h
  obtain ⟨hx, hm, hr, he⟩ := h0
  unfold fwo_isBranch_18
  refine j_runA hx 1 (tb := [(18, .iconst 1)]) (jtb_ok (by decide +kernel)) (pc' := 19) (lv' := [(0, vI a0)]) (st' := [vI (kI 1)]) rfl ?_
  refine j_goto hx (off := 4) (by decide +kernel) (tgt := 23) (by decide) ?_
  exact j_iret hx hm (by decide +kernel) jz1n (he _)
theorem wwo_isBranch {x : jCx} {en : (Int32) → Option (Outcome × jW)} {W : jW} {a0 : Int32} (h : hwo_isBranch x en a0 W) : jJ x 1 0 [(0, vI a0)] [] W (some (fwo_isBranch a0)) en := by
  have h0 := h
  obtain ⟨hx, hm, hr, he⟩ := h0
  unfold fwo_isBranch
  refine j_runA hx 2 (tb := [(0, .iload_n 0), (1, .bipush 14)]) (jtb_ok (by decide +kernel)) (pc' := 3) (lv' := [(0, vI a0)]) (st' := [vI (kI 14), vI a0]) rfl ?_
  refine j_tot (j_icmp_eq hx (off := 15) (tgt := 18) (by decide +kernel) (by decide) (fun _ => ?_) (fun _ => ?_))
  · exact wwo_isBranch_18 h
  refine j_runA hx 2 (tb := [(6, .iload_n 0), (7, .bipush 15)]) (jtb_ok (by decide +kernel)) (pc' := 9) (lv' := [(0, vI a0)]) (st' := [vI (kI 15), vI a0]) rfl ?_
  refine j_tot (j_icmp_eq hx (off := 9) (tgt := 18) (by decide +kernel) (by decide) (fun _ => ?_) (fun _ => ?_))
  · exact wwo_isBranch_18 h
  refine j_runA hx 2 (tb := [(12, .iload_n 0), (13, .bipush 16)]) (jtb_ok (by decide +kernel)) (pc' := 15) (lv' := [(0, vI a0)]) (st' := [vI (kI 16), vI a0]) rfl ?_
  refine j_tot (j_icmp_ne hx (off := 7) (tgt := 22) (by decide +kernel) (by decide) (fun _ => ?_) (fun _ => ?_))
  · refine j_runA hx 1 (tb := [(22, .iconst 0)]) (jtb_ok (by decide +kernel)) (pc' := 23) (lv' := [(0, vI a0)]) (st' := [vI (kI 0)]) rfl ?_
    exact j_iret hx hm (by decide +kernel) jz0n (he _)
  exact wwo_isBranch_18 h
theorem cwo_isBranch (a0 : Int32) (W : jW) : jM yX12_isBranch cX12_isBranch 1 (Option.some Jvm.ClassFile.FieldType.boolean) [] 0 0 [vI a0] W (some (.returned (some (.int (fwo_isBranch a0))), W)) := 
  jM.of (mm := some (fwo_isBranch a0)) (en := fun q => some (.returned (some (.int q)), W)) (Nat.le_of_ble_eq_true rfl) (fun x hx hm hr => wwo_isBranch ⟨hx, hm, hr, fun _ => rfl⟩)
def hwo_goes (x : jCx) (en : (Int32) → Option (Outcome × jW)) (a0 : Int32) (W : jW) : Prop :=
  jOK x RX12 cX12_goes 1 ∧
  jMt x "goes" (Option.some Jvm.ClassFile.FieldType.boolean) [] ∧
  jRm x 1 12 ∧
  (∀ q : Int32, en q = some (.returned (some (.int q)), W))
theorem wwo_goes_19 {x : jCx} {en : (Int32) → Option (Outcome × jW)} {W : jW} {a0 : Int32} (h : hwo_goes x en a0 W) : jJ x 1 19 [(0, vI a0)] [] W (some (fwo_goes_19 a0)) en := by
  have h0 := h
  obtain ⟨hx, hm, hr, he⟩ := h0
  unfold fwo_goes_19
  refine j_runA hx 1 (tb := [(19, .iconst 1)]) (jtb_ok (by decide +kernel)) (pc' := 20) (lv' := [(0, vI a0)]) (st' := [vI (kI 1)]) rfl ?_
  refine j_goto hx (off := 4) (by decide +kernel) (tgt := 24) (by decide) ?_
  exact j_iret hx hm (by decide +kernel) jz1n (he _)
theorem wwo_goes {x : jCx} {en : (Int32) → Option (Outcome × jW)} {W : jW} {a0 : Int32} (h : hwo_goes x en a0 W) : jJ x 1 0 [(0, vI a0)] [] W (some (fwo_goes a0)) en := by
  have h0 := h
  obtain ⟨hx, hm, hr, he⟩ := h0
  unfold fwo_goes
  refine j_runA hx 2 (tb := [(0, .iload_n 0), (1, .bipush 12)]) (jtb_ok (by decide +kernel)) (pc' := 3) (lv' := [(0, vI a0)]) (st' := [vI (kI 12), vI a0]) rfl ?_
  refine j_tot (j_icmp_eq hx (off := 16) (tgt := 19) (by decide +kernel) (by decide) (fun _ => ?_) (fun _ => ?_))
  · exact wwo_goes_19 h
  refine j_runA hx 2 (tb := [(6, .iload_n 0), (7, .bipush 13)]) (jtb_ok (by decide +kernel)) (pc' := 9) (lv' := [(0, vI a0)]) (st' := [vI (kI 13), vI a0]) rfl ?_
  refine j_tot (j_icmp_eq hx (off := 10) (tgt := 19) (by decide +kernel) (by decide) (fun _ => ?_) (fun _ => ?_))
  · exact wwo_goes_19 h
  refine j_runA hx 1 (tb := [(12, .iload_n 0)]) (jtb_ok (by decide +kernel)) (pc' := 13) (lv' := [(0, vI a0)]) (st' := [vI a0]) rfl ?_
  refine j_TI (j_callS (av := [vI a0]) (st := []) hx hr (Or.inl q1097) q1098 q247 md_fwo_isBranch np_fwo_isBranch (cwo_isBranch a0 W) (by decide) (Nat.le_of_ble_eq_true rfl) (by decide +kernel)) ?_
  refine j_tot (j_if_eq hx (off := 7) (tgt := 23) (by decide +kernel) (by decide) (fun _ => ?_) (fun _ => ?_))
  · refine j_runA hx 1 (tb := [(23, .iconst 0)]) (jtb_ok (by decide +kernel)) (pc' := 24) (lv' := [(0, vI a0)]) (st' := [vI (kI 0)]) rfl ?_
    exact j_iret hx hm (by decide +kernel) jz0n (he _)
  exact wwo_goes_19 h
theorem cwo_goes (a0 : Int32) (W : jW) : jM yX12_goes cX12_goes 1 (Option.some Jvm.ClassFile.FieldType.boolean) [] 1 12 [vI a0] W (some (.returned (some (.int (fwo_goes a0))), W)) := 
  jM.of (mm := some (fwo_goes a0)) (en := fun q => some (.returned (some (.int q)), W)) (Nat.le_of_ble_eq_true rfl) (fun x hx hm hr => wwo_goes ⟨hx, hm, hr, fun _ => rfl⟩)
def hpg_goal (x : jCx) (en : (Int32) → Option (Outcome × jW)) (t : Nat) (a1 : Int32) (W : jW) : Prop :=
  jOK x RX1 cX1_goal 4 ∧
  jMt x "goal" (Option.some Jvm.ClassFile.FieldType.int) [] ∧
  jRm x 2 31 ∧
  (∀ q : Int32, en q = some (.returned (some (.int q)), W))
theorem wpg_goal_45 {x : jCx} {en : (Int32) → Option (Outcome × jW)} {W : jW} {t : Nat} {a1 : Int32} (h : hpg_goal x en t a1 W) : jJ x 4 45 [(0, vR t), (1, vI a1)] [] W (fpg_goal_45 t a1 W) en := by
  have h0 := h
  obtain ⟨hx, hm, hr, he⟩ := h0
  unfold fpg_goal_45
  refine j_runA hx 1 (tb := [(45, .iconst (-1))]) (jtb_ok (by decide +kernel)) (pc' := 46) (lv' := [(0, vR t), (1, vI a1)]) (st' := [vI (kI (-1))]) rfl ?_
  exact j_iret hx hm (by decide +kernel) rfl (he _)
theorem wpg_goal {x : jCx} {en : (Int32) → Option (Outcome × jW)} {W : jW} {t : Nat} {a1 : Int32} (h : hpg_goal x en t a1 W) : jJ x 4 0 [(0, vR t), (1, vI a1)] [] W (fpg_goal t a1 W) en := by
  have h0 := h
  obtain ⟨hx, hm, hr, he⟩ := h0
  unfold fpg_goal
  refine j_runA hx 3 (tb := [(0, .iload_n 1), (1, .i2l), (2, .aload_n 0)]) (jtb_ok (by decide +kernel)) (pc' := 3) (lv' := [(0, vR t), (1, vI a1)]) (st' := [vR t, vL a1.toInt64]) rfl ?_
  refine j_gd (fun h1 => ?_)
  refine j_getR hx flX1_32 kl204 h1 (by decide) (by decide +kernel) ?_
  refine j_runA hx 1 (tb := [(6, .iload_n 1)]) (jtb_ok (by decide +kernel)) (pc' := 7) (lv' := [(0, vR t), (1, vI a1)]) (st' := [vI a1, vR (jR W 204 t), vL a1.toInt64]) rfl ?_
  refine j_gd (fun h2 => ?_)
  refine j_iald hx (f := 204) (o := t) kd204 rfl (by decide +kernel) h2 ?_
  refine j_runA hx 1 (tb := [(8, .aload_n 0)]) (jtb_ok (by decide +kernel)) (pc' := 9) (lv' := [(0, vR t), (1, vI a1)]) (st' := [vR t, vI (jA W 204 t (ix a1)), vL a1.toInt64]) rfl ?_
  refine j_getR hx flX1_36 kl205 h1 (by decide) (by decide +kernel) ?_
  refine j_runA hx 1 (tb := [(12, .iload_n 1)]) (jtb_ok (by decide +kernel)) (pc' := 13) (lv' := [(0, vR t), (1, vI a1)]) (st' := [vI a1, vR (jR W 205 t), vI (jA W 204 t (ix a1)), vL a1.toInt64]) rfl ?_
  refine j_gd (fun h3 => ?_)
  refine j_iald hx (f := 205) (o := t) kd205 rfl (by decide +kernel) h3 ?_
  refine j_TI (j_callS (av := [vI (jA W 204 t (ix a1)), vI (jA W 205 t (ix a1))]) (st := [vL a1.toInt64]) hx hr (Or.inl q1085) q1086 q247 md_fwo_by np_fwo_by (cwo_by (jA W 204 t (ix a1)) (jA W 205 t (ix a1)) W) (by decide) (Nat.le_of_ble_eq_true rfl) (by decide +kernel)) ?_
  refine j_runA hx 1 (tb := [(17, .i2l)]) (jtb_ok (by decide +kernel)) (pc' := 18) (lv' := [(0, vR t), (1, vI a1)]) (st' := [vL ((fwo_by (jA W 204 t (ix a1)) (jA W 205 t (ix a1))).toInt64), vL a1.toInt64]) rfl ?_
  refine j_ldc2 hx (v := (kJ 4)) (jkd2 q1033 (by decide +kernel)) (by decide +kernel) ?_
  refine j_ldiv hx (by decide +kernel) (by decide +kernel) ?_
  refine j_runA hx 2 (tb := [(22, .ladd), (23, .lstore_n 2)]) (jtb_ok (by decide +kernel)) (pc' := 24) (lv' := [(2, vL (a1.toInt64 + (((fwo_by (jA W 204 t (ix a1)) (jA W 205 t (ix a1))).toInt64) / (kJ 4)))), (0, vR t), (1, vI a1)]) (st' := []) rfl ?_
  refine j_let (v := (a1.toInt64 + (((fwo_by (jA W 204 t (ix a1)) (jA W 205 t (ix a1))).toInt64) / (kJ 4)))) (lv := fun v4 => [(2, vL v4), (0, vR t), (1, vI a1)]) (st := fun _ => []) (fun v4 => ?_)
  refine j_runA hx 2 (tb := [(24, .lload_n 2), (25, .lconst 0)]) (jtb_ok (by decide +kernel)) (pc' := 26) (lv' := [(2, vL v4), (0, vR t), (1, vI a1)]) (st' := [vL (kJ 0), vL v4]) rfl ?_
  refine j_lcmp_lt hx (off := 18) (tgt := 45) (by decide +kernel) (by decide +kernel) (by decide) (fun _ => ?_) (fun _ => ?_)
  · refine j_lv (lv' := [(0, vR t), (1, vI a1)]) ⟨rfl, rfl, trivial⟩ ?_
    exact wpg_goal_45 h
  refine j_runA hx 2 (tb := [(30, .lload_n 2), (31, .aload_n 0)]) (jtb_ok (by decide +kernel)) (pc' := 32) (lv' := [(2, vL v4), (0, vR t), (1, vI a1)]) (st' := [vR t, vL v4]) rfl ?_
  refine j_getI hx flX1_124 kd203 h1 (by decide) (by decide +kernel) ?_
  refine j_runA hx 1 (tb := [(35, .i2l)]) (jtb_ok (by decide +kernel)) (pc' := 36) (lv' := [(2, vL v4), (0, vR t), (1, vI a1)]) (st' := [vL ((jI W 203 t).toInt64), vL v4]) rfl ?_
  refine j_lcmp_ge hx (off := 8) (tgt := 45) (by decide +kernel) (by decide +kernel) (by decide) (fun _ => ?_) (fun _ => ?_)
  · refine j_lv (lv' := [(0, vR t), (1, vI a1)]) ⟨rfl, rfl, trivial⟩ ?_
    exact wpg_goal_45 h
  refine j_runA hx 2 (tb := [(40, .lload_n 2), (41, .l2i)]) (jtb_ok (by decide +kernel)) (pc' := 42) (lv' := [(2, vL v4), (0, vR t), (1, vI a1)]) (st' := [vI v4.toInt32]) rfl ?_
  refine j_goto hx (off := 4) (by decide +kernel) (tgt := 46) (by decide) ?_
  exact j_iret hx hm (by decide +kernel) rfl (he _)
theorem cpg_goal (t : Nat) (a1 : Int32) (W : jW) : jM yX1_goal cX1_goal 4 (Option.some Jvm.ClassFile.FieldType.int) [] 2 31 [vR t, vI a1] W ((fpg_goal t a1 W).bind (fun q => some (.returned (some (.int q)), W))) := 
  jM.of (Nat.le_of_ble_eq_true rfl) (fun x hx hm hr => wpg_goal ⟨hx, hm, hr, fun _ => rfl⟩)
def hpg_isGood (x : jCx) (en : (Int32) → Option (Outcome × jW)) (t : Nat) (a1 : Int32) (W : jW) : Prop :=
  jOK x RX1 cX1_isGood 4 ∧
  jMt x "isGood" (Option.some Jvm.ClassFile.FieldType.boolean) [] ∧
  jRm x 3 46 ∧
  (∀ q : Int32, en q = some (.returned (some (.int q)), W))
theorem wpg_isGood_79 {x : jCx} {en : (Int32) → Option (Outcome × jW)} {W : jW} {t : Nat} {a1 : Int32} (h : hpg_isGood x en t a1 W) : jJ x 4 79 [(0, vR t), (1, vI a1)] [] W (fpg_isGood_79 t a1 W) en := by
  have h0 := h
  obtain ⟨hx, hm, hr, he⟩ := h0
  unfold fpg_isGood_79
  refine j_runA hx 1 (tb := [(79, .iconst 1)]) (jtb_ok (by decide +kernel)) (pc' := 80) (lv' := [(0, vR t), (1, vI a1)]) (st' := [vI (kI 1)]) rfl ?_
  refine j_goto hx (off := 4) (by decide +kernel) (tgt := 84) (by decide) ?_
  exact j_iret hx hm (by decide +kernel) jz1n (he _)
theorem wpg_isGood_83 {x : jCx} {en : (Int32) → Option (Outcome × jW)} {W : jW} {t : Nat} {a1 : Int32} (h : hpg_isGood x en t a1 W) : jJ x 4 83 [(0, vR t), (1, vI a1)] [] W (fpg_isGood_83 t a1 W) en := by
  have h0 := h
  obtain ⟨hx, hm, hr, he⟩ := h0
  unfold fpg_isGood_83
  refine j_runA hx 1 (tb := [(83, .iconst 0)]) (jtb_ok (by decide +kernel)) (pc' := 84) (lv' := [(0, vR t), (1, vI a1)]) (st' := [vI (kI 0)]) rfl ?_
  exact j_iret hx hm (by decide +kernel) jz0n (he _)
theorem wpg_isGood_35 {x : jCx} {en : (Int32) → Option (Outcome × jW)} {W : jW} {t : Nat} {a1 : Int32} (h : hpg_isGood x en t a1 W) (l2 : Int32) (s0 : Int32) : jJ x 4 35 [(0, vR t), (1, vI a1), (2, vI l2)] [vI s0] W (fpg_isGood_35 t a1 l2 s0 W) en := by
  have h0 := h
  obtain ⟨hx, hm, hr, he⟩ := h0
  unfold fpg_isGood_35
  refine j_runA hx 2 (tb := [(35, .istore_n 3), (36, .aload_n 0)]) (jtb_ok (by decide +kernel)) (pc' := 37) (lv' := [(3, vI s0), (0, vR t), (1, vI a1), (2, vI l2)]) (st' := [vR t]) rfl ?_
  refine j_gd (fun h7 => ?_)
  refine j_getR hx flX1_36 kl205 h7 (by decide) (by decide +kernel) ?_
  refine j_runA hx 1 (tb := [(40, .iload_n 1)]) (jtb_ok (by decide +kernel)) (pc' := 41) (lv' := [(3, vI s0), (0, vR t), (1, vI a1), (2, vI l2)]) (st' := [vI a1, vR (jR W 205 t)]) rfl ?_
  refine j_gd (fun h8 => ?_)
  refine j_iald hx (f := 205) (o := t) kd205 rfl (by decide +kernel) h8 ?_
  refine j_runA hx 1 (tb := [(42, .bipush 13)]) (jtb_ok (by decide +kernel)) (pc' := 44) (lv' := [(3, vI s0), (0, vR t), (1, vI a1), (2, vI l2)]) (st' := [vI (kI 13), vI (jA W 205 t (ix a1))]) rfl ?_
  refine j_icmp_ne hx (off := 5) (tgt := 49) (by decide +kernel) (by decide) (fun _ => ?_) (fun _ => ?_)
  · refine j_runA hx 1 (tb := [(49, .aload_n 0)]) (jtb_ok (by decide +kernel)) (pc' := 50) (lv' := [(3, vI s0), (0, vR t), (1, vI a1), (2, vI l2)]) (st' := [vR t]) rfl ?_
    refine j_getR hx flX1_62 kl212 h7 (by decide) (by decide +kernel) ?_
    refine j_runA hx 1 (tb := [(53, .iload_n 2)]) (jtb_ok (by decide +kernel)) (pc' := 54) (lv' := [(3, vI s0), (0, vR t), (1, vI a1), (2, vI l2)]) (st' := [vI l2, vR (jR W 212 t)]) rfl ?_
    refine j_gd (fun h9 => ?_)
    refine j_iald hx (f := 212) (o := t) kd212 rfl (by decide +kernel) h9 ?_
    refine j_runA hx 1 (tb := [(55, .aload_n 0)]) (jtb_ok (by decide +kernel)) (pc' := 56) (lv' := [(3, vI s0), (0, vR t), (1, vI a1), (2, vI l2)]) (st' := [vR t, vI (jA W 212 t (ix l2))]) rfl ?_
    refine j_getR hx flX1_62 kl212 h7 (by decide) (by decide +kernel) ?_
    refine j_runA hx 1 (tb := [(59, .iload_n 1)]) (jtb_ok (by decide +kernel)) (pc' := 60) (lv' := [(3, vI s0), (0, vR t), (1, vI a1), (2, vI l2)]) (st' := [vI a1, vR (jR W 212 t), vI (jA W 212 t (ix l2))]) rfl ?_
    refine j_gd (fun h10 => ?_)
    refine j_iald hx (f := 212) (o := t) kd212 rfl (by decide +kernel) h10 ?_
    refine j_icmp_eq hx (off := 18) (tgt := 79) (by decide +kernel) (by decide) (fun _ => ?_) (fun _ => ?_)
    · refine j_lv (lv' := [(0, vR t), (1, vI a1)]) ⟨rfl, rfl, trivial⟩ ?_
      exact wpg_isGood_79 h
    refine j_runA hx 1 (tb := [(64, .aload_n 0)]) (jtb_ok (by decide +kernel)) (pc' := 65) (lv' := [(3, vI s0), (0, vR t), (1, vI a1), (2, vI l2)]) (st' := [vR t]) rfl ?_
    refine j_getR hx flX1_36 kl205 h7 (by decide) (by decide +kernel) ?_
    refine j_runA hx 1 (tb := [(68, .iload_n 1)]) (jtb_ok (by decide +kernel)) (pc' := 69) (lv' := [(3, vI s0), (0, vR t), (1, vI a1), (2, vI l2)]) (st' := [vI a1, vR (jR W 205 t)]) rfl ?_
    refine j_gd (fun h11 => ?_)
    refine j_iald hx (f := 205) (o := t) kd205 rfl (by decide +kernel) h11 ?_
    refine j_runA hx 1 (tb := [(70, .bipush 12)]) (jtb_ok (by decide +kernel)) (pc' := 72) (lv' := [(3, vI s0), (0, vR t), (1, vI a1), (2, vI l2)]) (st' := [vI (kI 12), vI (jA W 205 t (ix a1))]) rfl ?_
    refine j_icmp_ne hx (off := 11) (tgt := 83) (by decide +kernel) (by decide) (fun _ => ?_) (fun _ => ?_)
    · refine j_lv (lv' := [(0, vR t), (1, vI a1)]) ⟨rfl, rfl, trivial⟩ ?_
      exact wpg_isGood_83 h
    refine j_runA hx 1 (tb := [(75, .iload_n 3)]) (jtb_ok (by decide +kernel)) (pc' := 76) (lv' := [(3, vI s0), (0, vR t), (1, vI a1), (2, vI l2)]) (st' := [vI s0]) rfl ?_
    refine j_if_eq hx (off := 7) (tgt := 83) (by decide +kernel) (by decide) (fun _ => ?_) (fun _ => ?_)
    · refine j_lv (lv' := [(0, vR t), (1, vI a1)]) ⟨rfl, rfl, trivial⟩ ?_
      exact wpg_isGood_83 h
    refine j_lv (lv' := [(0, vR t), (1, vI a1)]) ⟨rfl, rfl, trivial⟩ ?_
    exact wpg_isGood_79 h
  refine j_runA hx 1 (tb := [(47, .iload_n 3)]) (jtb_ok (by decide +kernel)) (pc' := 48) (lv' := [(3, vI s0), (0, vR t), (1, vI a1), (2, vI l2)]) (st' := [vI s0]) rfl ?_
  refine j_gd (fun h12 => ?_)
  exact j_iret hx hm (by decide +kernel) (jzn h12) (he _)
theorem wpg_isGood {x : jCx} {en : (Int32) → Option (Outcome × jW)} {W : jW} {t : Nat} {a1 : Int32} (h : hpg_isGood x en t a1 W) : jJ x 4 0 [(0, vR t), (1, vI a1)] [] W (fpg_isGood t a1 W) en := by
  have h0 := h
  obtain ⟨hx, hm, hr, he⟩ := h0
  unfold fpg_isGood
  refine j_runA hx 2 (tb := [(0, .aload_n 0), (1, .iload_n 1)]) (jtb_ok (by decide +kernel)) (pc' := 2) (lv' := [(0, vR t), (1, vI a1)]) (st' := [vI a1, vR t]) rfl ?_
  refine j_gd (fun h1 => ?_)
  refine j_OI (j_callV (av := [vI a1]) (st := []) hx hr (Or.inl q1104) q1105 q1106 rfl md_fpg_goal np_fpg_goal (cpg_goal t a1 W) (by decide) (Nat.le_of_ble_eq_true rfl) h1 (by decide) (by decide +kernel)) (fun q2 _ => ?_)
  refine j_runA hx 2 (tb := [(5, .istore_n 2), (6, .iload_n 2)]) (jtb_ok (by decide +kernel)) (pc' := 7) (lv' := [(2, vI q2), (0, vR t), (1, vI a1)]) (st' := [vI q2]) rfl ?_
  refine j_if_ge hx (off := 5) (tgt := 12) (by decide +kernel) (by decide) (fun _ => ?_) (fun _ => ?_)
  · refine j_runA hx 1 (tb := [(12, .aload_n 0)]) (jtb_ok (by decide +kernel)) (pc' := 13) (lv' := [(2, vI q2), (0, vR t), (1, vI a1)]) (st' := [vR t]) rfl ?_
    refine j_getR hx flX1_52 kl209 h1 (by decide) (by decide +kernel) ?_
    refine j_gd (fun h3 => ?_)
    refine j_getR hx flX1_166 kl600 h3 (by decide) (by decide +kernel) ?_
    refine j_runA hx 1 (tb := [(19, .aload_n 0)]) (jtb_ok (by decide +kernel)) (pc' := 20) (lv' := [(2, vI q2), (0, vR t), (1, vI a1)]) (st' := [vR t, vR (jR W 600 (jR W 209 t))]) rfl ?_
    refine j_getR hx flX1_62 kl212 h1 (by decide) (by decide +kernel) ?_
    refine j_runA hx 1 (tb := [(23, .iload_n 2)]) (jtb_ok (by decide +kernel)) (pc' := 24) (lv' := [(2, vI q2), (0, vR t), (1, vI a1)]) (st' := [vI q2, vR (jR W 212 t), vR (jR W 600 (jR W 209 t))]) rfl ?_
    refine j_gd (fun h4 => ?_)
    refine j_iald hx (f := 212) (o := t) kd212 rfl (by decide +kernel) h4 ?_
    refine j_gd (fun h5 => ?_)
    refine j_iald hx (f := 600) (o := (jR W 209 t)) kd600 rfl (by decide +kernel) h5 ?_
    refine j_runA hx 1 (tb := [(26, .iload_n 2)]) (jtb_ok (by decide +kernel)) (pc' := 27) (lv' := [(2, vI q2), (0, vR t), (1, vI a1)]) (st' := [vI q2, vI (jA W 600 (jR W 209 t) (ix (jA W 212 t (ix q2))))]) rfl ?_
    refine j_icmp_ne hx (off := 7) (tgt := 34) (by decide +kernel) (by decide) (fun _ => ?_) (fun _ => ?_)
    · refine j_runA hx 1 (tb := [(34, .iconst 0)]) (jtb_ok (by decide +kernel)) (pc' := 35) (lv' := [(2, vI q2), (0, vR t), (1, vI a1)]) (st' := [vI (kI 0)]) rfl ?_
      refine j_lv (lv' := [(0, vR t), (1, vI a1), (2, vI q2)]) ⟨rfl, rfl, rfl, trivial⟩ ?_
      exact wpg_isGood_35 h q2 (kI 0)
    refine j_runA hx 1 (tb := [(30, .iconst 1)]) (jtb_ok (by decide +kernel)) (pc' := 31) (lv' := [(2, vI q2), (0, vR t), (1, vI a1)]) (st' := [vI (kI 1)]) rfl ?_
    refine j_goto hx (off := 4) (by decide +kernel) (tgt := 35) (by decide) ?_
    refine j_lv (lv' := [(0, vR t), (1, vI a1), (2, vI q2)]) ⟨rfl, rfl, rfl, trivial⟩ ?_
    exact wpg_isGood_35 h q2 (kI 1)
  refine j_runA hx 1 (tb := [(10, .iconst 0)]) (jtb_ok (by decide +kernel)) (pc' := 11) (lv' := [(2, vI q2), (0, vR t), (1, vI a1)]) (st' := [vI (kI 0)]) rfl ?_
  exact j_iret hx hm (by decide +kernel) jz0n (he _)
theorem cpg_isGood (t : Nat) (a1 : Int32) (W : jW) : jM yX1_isGood cX1_isGood 4 (Option.some Jvm.ClassFile.FieldType.boolean) [] 3 46 [vR t, vI a1] W ((fpg_isGood t a1 W).bind (fun q => some (.returned (some (.int q)), W))) := 
  jM.of (Nat.le_of_ble_eq_true rfl) (fun x hx hm hr => wpg_isGood ⟨hx, hm, hr, fun _ => rfl⟩)
def hpg_lastOf (x : jCx) (en : (Int32) → Option (Outcome × jW)) (t : Nat) (a1 : Int32) (W : jW) : Prop :=
  jOK x RX1 cX1_lastOf 2 ∧
  jMt x "lastOf" (Option.some Jvm.ClassFile.FieldType.int) [] ∧
  jRm x 1 13 ∧
  (∀ q : Int32, en q = some (.returned (some (.int q)), W))
theorem wpg_lastOf {x : jCx} {en : (Int32) → Option (Outcome × jW)} {W : jW} {t : Nat} {a1 : Int32} (h : hpg_lastOf x en t a1 W) : jJ x 2 0 [(0, vR t), (1, vI a1)] [] W (fpg_lastOf t a1 W) en := by
  have h0 := h
  obtain ⟨hx, hm, hr, he⟩ := h0
  unfold fpg_lastOf
  refine j_runA hx 2 (tb := [(0, .aload_n 0), (1, .iload_n 1)]) (jtb_ok (by decide +kernel)) (pc' := 2) (lv' := [(0, vR t), (1, vI a1)]) (st' := [vI a1, vR t]) rfl ?_
  refine j_gd (fun h1 => ?_)
  refine j_OI (j_callV (av := [vI a1]) (st := []) hx hr (Or.inl q1045) q1046 q1047 rfl md_fpg_behind np_fpg_behind (cpg_behind t a1 W) (by decide) (Nat.le_of_ble_eq_true rfl) h1 (by decide) (by decide +kernel)) (fun q2 _ => ?_)
  refine j_runA hx 2 (tb := [(5, .iconst 1), (6, .isub)]) (jtb_ok (by decide +kernel)) (pc' := 7) (lv' := [(0, vR t), (1, vI a1)]) (st' := [vI (q2 - (kI 1))]) rfl ?_
  exact j_iret hx hm (by decide +kernel) rfl (he _)
theorem cpg_lastOf (t : Nat) (a1 : Int32) (W : jW) : jM yX1_lastOf cX1_lastOf 2 (Option.some Jvm.ClassFile.FieldType.int) [] 1 13 [vR t, vI a1] W ((fpg_lastOf t a1 W).bind (fun q => some (.returned (some (.int q)), W))) := 
  jM.of (Nat.le_of_ble_eq_true rfl) (fun x hx hm hr => wpg_lastOf ⟨hx, hm, hr, fun _ => rfl⟩)
def hwo_ends (x : jCx) (en : (Int32) → Option (Outcome × jW)) (a0 : Int32) (W : jW) : Prop :=
  jOK x RX12 cX12_ends 1 ∧
  jMt x "ends" (Option.some Jvm.ClassFile.FieldType.boolean) [] ∧
  jRm x 0 0 ∧
  (∀ q : Int32, en q = some (.returned (some (.int q)), W))
theorem wwo_ends_16 {x : jCx} {en : (Int32) → Option (Outcome × jW)} {W : jW} {a0 : Int32} (h : hwo_ends x en a0 W) : jJ x 1 16 [(0, vI a0)] [] W (some (fwo_ends_16 a0)) en := by
  have h0 := h
  obtain ⟨hx, hm, hr, he⟩ := h0
  unfold fwo_ends_16
  refine j_runA hx 1 (tb := [(16, .iconst 0)]) (jtb_ok (by decide +kernel)) (pc' := 17) (lv' := [(0, vI a0)]) (st' := [vI (kI 0)]) rfl ?_
  exact j_iret hx hm (by decide +kernel) jz0n (he _)
theorem wwo_ends {x : jCx} {en : (Int32) → Option (Outcome × jW)} {W : jW} {a0 : Int32} (h : hwo_ends x en a0 W) : jJ x 1 0 [(0, vI a0)] [] W (some (fwo_ends a0)) en := by
  have h0 := h
  obtain ⟨hx, hm, hr, he⟩ := h0
  unfold fwo_ends
  refine j_runA hx 2 (tb := [(0, .iload_n 0), (1, .bipush 12)]) (jtb_ok (by decide +kernel)) (pc' := 3) (lv' := [(0, vI a0)]) (st' := [vI (kI 12), vI a0]) rfl ?_
  refine j_tot (j_icmp_lt hx (off := 13) (tgt := 16) (by decide +kernel) (by decide) (fun _ => ?_) (fun _ => ?_))
  · exact wwo_ends_16 h
  refine j_runA hx 2 (tb := [(6, .iload_n 0), (7, .bipush 19)]) (jtb_ok (by decide +kernel)) (pc' := 9) (lv' := [(0, vI a0)]) (st' := [vI (kI 19), vI a0]) rfl ?_
  refine j_tot (j_icmp_gt hx (off := 7) (tgt := 16) (by decide +kernel) (by decide) (fun _ => ?_) (fun _ => ?_))
  · exact wwo_ends_16 h
  refine j_runA hx 1 (tb := [(12, .iconst 1)]) (jtb_ok (by decide +kernel)) (pc' := 13) (lv' := [(0, vI a0)]) (st' := [vI (kI 1)]) rfl ?_
  refine j_goto hx (off := 4) (by decide +kernel) (tgt := 17) (by decide) ?_
  exact j_iret hx hm (by decide +kernel) jz1n (he _)
theorem cwo_ends (a0 : Int32) (W : jW) : jM yX12_ends cX12_ends 1 (Option.some Jvm.ClassFile.FieldType.boolean) [] 0 0 [vI a0] W (some (.returned (some (.int (fwo_ends a0))), W)) := 
  jM.of (mm := some (fwo_ends a0)) (en := fun q => some (.returned (some (.int q)), W)) (Nat.le_of_ble_eq_true rfl) (fun x hx hm hr => wwo_ends ⟨hx, hm, hr, fun _ => rfl⟩)
def hpg_targetWord (x : jCx) (en : (Int32) → Option (Outcome × jW)) (t : Nat) (a1 : Int32) (W : jW) : Prop :=
  jOK x RX1 cX1_targetWord 2 ∧
  jMt x "targetWord" (Option.some Jvm.ClassFile.FieldType.int) [] ∧
  jRm x 8 110 ∧
  (∀ q : Int32, en q = some (.returned (some (.int q)), W))
theorem wpg_targetWord_37 {x : jCx} {en : (Int32) → Option (Outcome × jW)} {W : jW} {t : Nat} {a1 : Int32} (h : hpg_targetWord x en t a1 W) : jJ x 2 37 [(0, vR t), (1, vI a1)] [] W (fpg_targetWord_37 t a1 W) en := by
  have h0 := h
  obtain ⟨hx, hm, hr, he⟩ := h0
  unfold fpg_targetWord_37
  refine j_runA hx 1 (tb := [(37, .iconst (-1))]) (jtb_ok (by decide +kernel)) (pc' := 38) (lv' := [(0, vR t), (1, vI a1)]) (st' := [vI (kI (-1))]) rfl ?_
  exact j_iret hx hm (by decide +kernel) rfl (he _)
theorem wpg_targetWord {x : jCx} {en : (Int32) → Option (Outcome × jW)} {W : jW} {t : Nat} {a1 : Int32} (h : hpg_targetWord x en t a1 W) : jJ x 2 0 [(0, vR t), (1, vI a1)] [] W (fpg_targetWord t a1 W) en := by
  have h0 := h
  obtain ⟨hx, hm, hr, he⟩ := h0
  unfold fpg_targetWord
  refine j_runA hx 1 (tb := [(0, .iload_n 1)]) (jtb_ok (by decide +kernel)) (pc' := 1) (lv' := [(0, vR t), (1, vI a1)]) (st' := [vI a1]) rfl ?_
  refine j_if_le hx (off := 36) (tgt := 37) (by decide +kernel) (by decide) (fun _ => ?_) (fun _ => ?_)
  · exact wpg_targetWord_37 h
  refine j_runA hx 1 (tb := [(4, .aload_n 0)]) (jtb_ok (by decide +kernel)) (pc' := 5) (lv' := [(0, vR t), (1, vI a1)]) (st' := [vR t]) rfl ?_
  refine j_gd (fun h1 => ?_)
  refine j_getR hx flX1_21 kl201 h1 (by decide) (by decide +kernel) ?_
  refine j_runA hx 1 (tb := [(8, .aload_n 0)]) (jtb_ok (by decide +kernel)) (pc' := 9) (lv' := [(0, vR t), (1, vI a1)]) (st' := [vR t, vR (jR W 201 t)]) rfl ?_
  refine j_getR hx flX1_21 kl201 h1 (by decide) (by decide +kernel) ?_
  refine j_runA hx 1 (tb := [(12, .iload_n 1)]) (jtb_ok (by decide +kernel)) (pc' := 13) (lv' := [(0, vR t), (1, vI a1)]) (st' := [vI a1, vR (jR W 201 t), vR (jR W 201 t)]) rfl ?_
  refine j_gd (fun h2 => ?_)
  refine j_OL (j_callV (av := [vI a1]) (st := [vR (jR W 201 t)]) hx hr (Or.inl q1060) q1061 q1062 rfl md_fsh_target np_fsh_target (csh_target (jR W 201 t) a1 W) (by decide) (Nat.le_of_ble_eq_true rfl) h2 (by decide) (by decide +kernel)) (fun q3 _ => ?_)
  refine j_OI (j_callV (av := [vL q3]) (st := []) hx hr (Or.inl q1032) q893 q894 rfl md_fsh_isText np_fsh_isText (csh_isText (jR W 201 t) q3 W) (by decide) (Nat.le_of_ble_eq_true rfl) h2 (by decide) (by decide +kernel)) (fun q4 _ => ?_)
  refine j_if_eq hx (off := 18) (tgt := 37) (by decide +kernel) (by decide) (fun _ => ?_) (fun _ => ?_)
  · exact wpg_targetWord_37 h
  refine j_runA hx 2 (tb := [(22, .aload_n 0), (23, .aload_n 0)]) (jtb_ok (by decide +kernel)) (pc' := 24) (lv' := [(0, vR t), (1, vI a1)]) (st' := [vR t, vR t]) rfl ?_
  refine j_getR hx flX1_21 kl201 h1 (by decide) (by decide +kernel) ?_
  refine j_runA hx 1 (tb := [(27, .iload_n 1)]) (jtb_ok (by decide +kernel)) (pc' := 28) (lv' := [(0, vR t), (1, vI a1)]) (st' := [vI a1, vR (jR W 201 t), vR t]) rfl ?_
  refine j_OL (j_callV (av := [vI a1]) (st := [vR t]) hx hr (Or.inl q1060) q1061 q1062 rfl md_fsh_target np_fsh_target (csh_target (jR W 201 t) a1 W) (by decide) (Nat.le_of_ble_eq_true rfl) h2 (by decide) (by decide +kernel)) (fun q5 _ => ?_)
  refine j_OI (j_callV (av := [vL q5]) (st := []) hx hr (Or.inl q1035) q1036 q1037 rfl md_fpg_wordAt np_fpg_wordAt (cpg_wordAt t q5 W) (by decide) (Nat.le_of_ble_eq_true rfl) h1 (by decide) (by decide +kernel)) (fun q6 _ => ?_)
  refine j_goto hx (off := 4) (by decide +kernel) (tgt := 38) (by decide) ?_
  exact j_iret hx hm (by decide +kernel) rfl (he _)
theorem cpg_targetWord (t : Nat) (a1 : Int32) (W : jW) : jM yX1_targetWord cX1_targetWord 2 (Option.some Jvm.ClassFile.FieldType.int) [] 8 110 [vR t, vI a1] W ((fpg_targetWord t a1 W).bind (fun q => some (.returned (some (.int q)), W))) := 
  jM.of (Nat.le_of_ble_eq_true rfl) (fun x hx hm hr => wpg_targetWord ⟨hx, hm, hr, fun _ => rfl⟩)
def hpg_leaders (x : jCx) (en : (fpg_leaders_S ⊕ (jW)) → Option (Outcome × jW)) (t : Nat) : Prop :=
  jOK x RX1 cX1_leaders 5 ∧
  jMt x "leaders" (Option.none : Option Jvm.ClassFile.FieldType) [] ∧
  jRm x 9 123 ∧
  (∀ q : jW, en (.inr q) = some (.returned none, q)) ∧
  (∀ (l1 : Int32) (W : jW), jJ x 5 19 [(0, vR t), (1, vI l1)] [] W (some (.inl (.inl (l1, W)))) en) ∧
  (∀ (l1 : Int32) (W : jW), jJ x 5 53 [(0, vR t), (1, vI l1)] [] W (some (.inl (.inr (.inl (l1, W))))) en) ∧
  (∀ (l1 : Int32) (W : jW), jJ x 5 134 [(0, vR t), (1, vI l1)] [] W (some (.inl (.inr (.inr (.inl (l1, W)))))) en) ∧
  (∀ (l1 : Int32) (l2 : Int32) (W : jW), jJ x 5 163 [(0, vR t), (1, vI l1), (2, vI l2)] [] W (some (.inl (.inr (.inr (.inr (l1, l2, W)))))) en)
theorem wpg_leaders_126 {x : jCx} {en : (fpg_leaders_S ⊕ (jW)) → Option (Outcome × jW)} {t : Nat} (h : hpg_leaders x en t) (l1 : Int32) (W : jW) : jJ x 5 126 [(0, vR t), (1, vI l1)] [] W (fpg_leaders_126 t l1 W) en := by
  have h0 := h
  obtain ⟨hx, hm, hr, he, k19, k53, k134, k163⟩ := h0
  unfold fpg_leaders_126
  refine j_runA hx 1 (tb := [(126, .iinc 1 1)]) (jtb_ok (by decide +kernel)) (pc' := 129) (lv' := [(1, vI (l1 + (kI 1))), (0, vR t)]) (st' := []) rfl ?_
  refine j_let (v := (l1 + (kI 1))) (lv := fun v34 => [(1, vI v34), (0, vR t)]) (st := fun _ => []) (fun v34 => ?_)
  refine j_goto hx (off := -76) (by decide +kernel) (tgt := 53) (by decide) ?_
  refine j_lv (lv' := [(0, vR t), (1, vI v34)]) ⟨rfl, rfl, trivial⟩ ?_
  exact k53 v34 W
theorem wpg_leaders_95 {x : jCx} {en : (fpg_leaders_S ⊕ (jW)) → Option (Outcome × jW)} {t : Nat} (h : hpg_leaders x en t) (l1 : Int32) (W : jW) : jJ x 5 95 [(0, vR t), (1, vI l1)] [] W (fpg_leaders_95 t l1 W) en := by
  have h0 := h
  obtain ⟨hx, hm, hr, he, k19, k53, k134, k163⟩ := h0
  unfold fpg_leaders_95
  refine j_runA hx 1 (tb := [(95, .aload_n 0)]) (jtb_ok (by decide +kernel)) (pc' := 96) (lv' := [(0, vR t), (1, vI l1)]) (st' := [vR t]) rfl ?_
  refine j_gd (fun h26 => ?_)
  refine j_getR hx flX1_36 kl205 h26 (by decide) (by decide +kernel) ?_
  refine j_runA hx 1 (tb := [(99, .iload_n 1)]) (jtb_ok (by decide +kernel)) (pc' := 100) (lv' := [(0, vR t), (1, vI l1)]) (st' := [vI l1, vR (jR W 205 t)]) rfl ?_
  refine j_gd (fun h27 => ?_)
  refine j_iald hx (f := 205) (o := t) kd205 rfl (by decide +kernel) h27 ?_
  refine j_TI (j_callS (av := [vI (jA W 205 t (ix l1))]) (st := []) hx hr (Or.inl q1117) q1118 q247 md_fwo_ends np_fwo_ends (cwo_ends (jA W 205 t (ix l1)) W) (by decide) (Nat.le_of_ble_eq_true rfl) (by decide +kernel)) ?_
  refine j_if_eq hx (off := 22) (tgt := 126) (by decide +kernel) (by decide) (fun _ => ?_) (fun _ => ?_)
  · exact wpg_leaders_126 h l1 W
  refine j_runA hx 4 (tb := [(107, .iload_n 1), (108, .iconst 1), (109, .iadd), (110, .aload_n 0)]) (jtb_ok (by decide +kernel)) (pc' := 111) (lv' := [(0, vR t), (1, vI l1)]) (st' := [vR t, vI (l1 + (kI 1))]) rfl ?_
  refine j_getI hx flX1_124 kd203 h26 (by decide) (by decide +kernel) ?_
  refine j_icmp_ge hx (off := 12) (tgt := 126) (by decide +kernel) (by decide) (fun _ => ?_) (fun _ => ?_)
  · exact wpg_leaders_126 h l1 W
  refine j_runA hx 1 (tb := [(117, .aload_n 0)]) (jtb_ok (by decide +kernel)) (pc' := 118) (lv' := [(0, vR t), (1, vI l1)]) (st' := [vR t]) rfl ?_
  refine j_getR hx flX1_45 kl208 h26 (by decide) (by decide +kernel) ?_
  refine j_runA hx 4 (tb := [(121, .iload_n 1), (122, .iconst 1), (123, .iadd), (124, .iconst 1)]) (jtb_ok (by decide +kernel)) (pc' := 125) (lv' := [(0, vR t), (1, vI l1)]) (st' := [vI (kI 1), vI (l1 + (kI 1)), vR (jR W 208 t)]) rfl ?_
  refine j_gd (fun h28 => ?_)
  refine j_zast hx (f := 208) (o := t) kd208 rfl (by decide +kernel) h28 ?_
  refine j_ltw rfl (fun W29 hc30 => ?_)
  have h31 : jC W29 t = 2 := (congrFun hc30 _).trans h26
  exact wpg_leaders_126 h l1 W29
theorem wpg_leaders_84 {x : jCx} {en : (fpg_leaders_S ⊕ (jW)) → Option (Outcome × jW)} {t : Nat} (h : hpg_leaders x en t) (l1 : Int32) (W : jW) : jJ x 5 84 [(0, vR t), (1, vI l1)] [] W (fpg_leaders_84 t l1 W) en := by
  have h0 := h
  obtain ⟨hx, hm, hr, he, k19, k53, k134, k163⟩ := h0
  unfold fpg_leaders_84
  refine j_runA hx 1 (tb := [(84, .aload_n 0)]) (jtb_ok (by decide +kernel)) (pc' := 85) (lv' := [(0, vR t), (1, vI l1)]) (st' := [vR t]) rfl ?_
  refine j_gd (fun h36 => ?_)
  refine j_getR hx flX1_45 kl208 h36 (by decide) (by decide +kernel) ?_
  refine j_runA hx 2 (tb := [(88, .aload_n 0), (89, .iload_n 1)]) (jtb_ok (by decide +kernel)) (pc' := 90) (lv' := [(0, vR t), (1, vI l1)]) (st' := [vI l1, vR t, vR (jR W 208 t)]) rfl ?_
  refine j_OI (j_callV (av := [vI l1]) (st := [vR (jR W 208 t)]) hx hr (Or.inl q1104) q1105 q1106 rfl md_fpg_goal np_fpg_goal (cpg_goal t l1 W) (by decide) (Nat.le_of_ble_eq_true rfl) h36 (by decide) (by decide +kernel)) (fun q37 _ => ?_)
  refine j_runA hx 1 (tb := [(93, .iconst 1)]) (jtb_ok (by decide +kernel)) (pc' := 94) (lv' := [(0, vR t), (1, vI l1)]) (st' := [vI (kI 1), vI q37, vR (jR W 208 t)]) rfl ?_
  refine j_gd (fun h38 => ?_)
  refine j_zast hx (f := 208) (o := t) kd208 rfl (by decide +kernel) h38 ?_
  refine j_ltw rfl (fun W39 hc40 => ?_)
  have h41 : jC W39 t = 2 := (congrFun hc40 _).trans h36
  exact wpg_leaders_95 h l1 W39
theorem wpg_leaders_226 {x : jCx} {en : (fpg_leaders_S ⊕ (jW)) → Option (Outcome × jW)} {t : Nat} (h : hpg_leaders x en t) (l1 : Int32) (W : jW) : jJ x 5 226 [(0, vR t), (1, vI l1)] [] W (fpg_leaders_226 t l1 W) en := by
  have h0 := h
  obtain ⟨hx, hm, hr, he, k19, k53, k134, k163⟩ := h0
  unfold fpg_leaders_226
  refine j_runA hx 1 (tb := [(226, .iinc 1 1)]) (jtb_ok (by decide +kernel)) (pc' := 229) (lv' := [(1, vI (l1 + (kI 1))), (0, vR t)]) (st' := []) rfl ?_
  refine j_let (v := (l1 + (kI 1))) (lv := fun v48 => [(1, vI v48), (0, vR t)]) (st := fun _ => []) (fun v48 => ?_)
  refine j_goto hx (off := -95) (by decide +kernel) (tgt := 134) (by decide) ?_
  refine j_lv (lv' := [(0, vR t), (1, vI v48)]) ⟨rfl, rfl, trivial⟩ ?_
  exact k134 v48 W
theorem wpg_leaders_220 {x : jCx} {en : (fpg_leaders_S ⊕ (jW)) → Option (Outcome × jW)} {t : Nat} (h : hpg_leaders x en t) (l1 : Int32) (l2 : Int32) (W : jW) : jJ x 5 220 [(0, vR t), (1, vI l1), (2, vI l2)] [] W (fpg_leaders_220 t l1 l2 W) en := by
  have h0 := h
  obtain ⟨hx, hm, hr, he, k19, k53, k134, k163⟩ := h0
  unfold fpg_leaders_220
  refine j_runA hx 1 (tb := [(220, .iinc 2 1)]) (jtb_ok (by decide +kernel)) (pc' := 223) (lv' := [(2, vI (l2 + (kI 1))), (0, vR t), (1, vI l1)]) (st' := []) rfl ?_
  refine j_let (v := (l2 + (kI 1))) (lv := fun v64 => [(2, vI v64), (0, vR t), (1, vI l1)]) (st := fun _ => []) (fun v64 => ?_)
  refine j_goto hx (off := -60) (by decide +kernel) (tgt := 163) (by decide) ?_
  refine j_lv (lv' := [(0, vR t), (1, vI l1), (2, vI v64)]) ⟨rfl, rfl, rfl, trivial⟩ ?_
  exact k163 l1 v64 W
theorem wpg_leaders_205 {x : jCx} {en : (fpg_leaders_S ⊕ (jW)) → Option (Outcome × jW)} {t : Nat} (h : hpg_leaders x en t) (l1 : Int32) (l2 : Int32) (s0 : Int32) (W : jW) : jJ x 5 205 [(0, vR t), (1, vI l1), (2, vI l2)] [vI s0] W (fpg_leaders_205 t l1 l2 s0 W) en := by
  have h0 := h
  obtain ⟨hx, hm, hr, he, k19, k53, k134, k163⟩ := h0
  unfold fpg_leaders_205
  refine j_runA hx 2 (tb := [(205, .istore 4), (207, .iload 4)]) (jtb_ok (by decide +kernel)) (pc' := 209) (lv' := [(4, vI s0), (0, vR t), (1, vI l1), (2, vI l2)]) (st' := [vI s0]) rfl ?_
  refine j_if_lt hx (off := 11) (tgt := 220) (by decide +kernel) (by decide) (fun _ => ?_) (fun _ => ?_)
  · refine j_lv (lv' := [(0, vR t), (1, vI l1), (2, vI l2)]) ⟨rfl, rfl, rfl, trivial⟩ ?_
    exact wpg_leaders_220 h l1 l2 W
  refine j_runA hx 1 (tb := [(212, .aload_n 0)]) (jtb_ok (by decide +kernel)) (pc' := 213) (lv' := [(4, vI s0), (0, vR t), (1, vI l1), (2, vI l2)]) (st' := [vR t]) rfl ?_
  refine j_gd (fun h57 => ?_)
  refine j_getR hx flX1_45 kl208 h57 (by decide) (by decide +kernel) ?_
  refine j_runA hx 2 (tb := [(216, .iload 4), (218, .iconst 1)]) (jtb_ok (by decide +kernel)) (pc' := 219) (lv' := [(4, vI s0), (0, vR t), (1, vI l1), (2, vI l2)]) (st' := [vI (kI 1), vI s0, vR (jR W 208 t)]) rfl ?_
  refine j_gd (fun h58 => ?_)
  refine j_zast hx (f := 208) (o := t) kd208 rfl (by decide +kernel) h58 ?_
  refine j_ltw rfl (fun W59 hc60 => ?_)
  have h61 : jC W59 t = 2 := (congrFun hc60 _).trans h57
  refine j_lv (lv' := [(0, vR t), (1, vI l1), (2, vI l2)]) ⟨rfl, rfl, rfl, trivial⟩ ?_
  exact wpg_leaders_220 h l1 l2 W59
theorem wpg_leaders_163 {x : jCx} {en : (fpg_leaders_S ⊕ (jW)) → Option (Outcome × jW)} {t : Nat} (h : hpg_leaders x en t) (l1 : Int32) (l2 : Int32) (W : jW) : jJ x 5 163 [(0, vR t), (1, vI l1), (2, vI l2)] [] W (fpg_leaders_163 t l1 l2 W) en := by
  have h0 := h
  obtain ⟨hx, hm, hr, he, k19, k53, k134, k163⟩ := h0
  unfold fpg_leaders_163
  refine j_runA hx 2 (tb := [(163, .iload_n 2), (164, .aload_n 0)]) (jtb_ok (by decide +kernel)) (pc' := 165) (lv' := [(0, vR t), (1, vI l1), (2, vI l2)]) (st' := [vR t, vI l2]) rfl ?_
  refine j_gd (fun h50 => ?_)
  refine j_getR hx flX1_21 kl201 h50 (by decide) (by decide +kernel) ?_
  refine j_runA hx 1 (tb := [(168, .iload_n 1)]) (jtb_ok (by decide +kernel)) (pc' := 169) (lv' := [(0, vR t), (1, vI l1), (2, vI l2)]) (st' := [vI l1, vR (jR W 201 t), vI l2]) rfl ?_
  refine j_gd (fun h51 => ?_)
  refine j_OI (j_callV (av := [vI l1]) (st := [vI l2]) hx hr (Or.inl q1053) q905 q906 rfl md_fsh_fixCount np_fsh_fixCount (csh_fixCount (jR W 201 t) l1 W) (by decide) (Nat.le_of_ble_eq_true rfl) h51 (by decide) (by decide +kernel)) (fun q52 _ => ?_)
  refine j_icmp_ge hx (off := 54) (tgt := 226) (by decide +kernel) (by decide) (fun _ => ?_) (fun _ => ?_)
  · refine j_lv (lv' := [(0, vR t), (1, vI l1)]) ⟨rfl, rfl, trivial⟩ ?_
    exact wpg_leaders_226 h l1 W
  refine j_runA hx 1 (tb := [(175, .aload_n 0)]) (jtb_ok (by decide +kernel)) (pc' := 176) (lv' := [(0, vR t), (1, vI l1), (2, vI l2)]) (st' := [vR t]) rfl ?_
  refine j_getR hx flX1_21 kl201 h50 (by decide) (by decide +kernel) ?_
  refine j_runA hx 2 (tb := [(179, .iload_n 1), (180, .iload_n 2)]) (jtb_ok (by decide +kernel)) (pc' := 181) (lv' := [(0, vR t), (1, vI l1), (2, vI l2)]) (st' := [vI l2, vI l1, vR (jR W 201 t)]) rfl ?_
  refine j_OI (j_callV (av := [vI l1, vI l2]) (st := []) hx hr (Or.inl q1054) q909 q910 rfl md_fsh_fixAt np_fsh_fixAt (csh_fixAt (jR W 201 t) l1 l2 W) (by decide) (Nat.le_of_ble_eq_true rfl) h51 (by decide) (by decide +kernel)) (fun q53 _ => ?_)
  refine j_runA hx 2 (tb := [(184, .istore_n 3), (185, .aload_n 0)]) (jtb_ok (by decide +kernel)) (pc' := 186) (lv' := [(3, vI q53), (0, vR t), (1, vI l1), (2, vI l2)]) (st' := [vR t]) rfl ?_
  refine j_getR hx flX1_21 kl201 h50 (by decide) (by decide +kernel) ?_
  refine j_runA hx 1 (tb := [(189, .iload_n 3)]) (jtb_ok (by decide +kernel)) (pc' := 190) (lv' := [(3, vI q53), (0, vR t), (1, vI l1), (2, vI l2)]) (st' := [vI q53, vR (jR W 201 t)]) rfl ?_
  refine j_OI (j_callV (av := [vI q53]) (st := []) hx hr (Or.inl q1055) q913 q914 rfl md_fsh_fixType np_fsh_fixType (csh_fixType (jR W 201 t) q53 W) (by decide) (Nat.le_of_ble_eq_true rfl) h51 (by decide) (by decide +kernel)) (fun q54 _ => ?_)
  refine j_if_ne hx (off := 7) (tgt := 200) (by decide +kernel) (by decide) (fun _ => ?_) (fun _ => ?_)
  · refine j_runA hx 2 (tb := [(200, .aload_n 0), (201, .iload_n 3)]) (jtb_ok (by decide +kernel)) (pc' := 202) (lv' := [(3, vI q53), (0, vR t), (1, vI l1), (2, vI l2)]) (st' := [vI q53, vR t]) rfl ?_
    refine j_OI (j_callV (av := [vI q53]) (st := []) hx hr (Or.inl q1120) q1121 q1122 rfl md_fpg_targetWord np_fpg_targetWord (cpg_targetWord t q53 W) (by decide) (Nat.le_of_ble_eq_true rfl) h50 (by decide) (by decide +kernel)) (fun q55 _ => ?_)
    refine j_lv (lv' := [(0, vR t), (1, vI l1), (2, vI l2)]) ⟨rfl, rfl, rfl, trivial⟩ ?_
    exact wpg_leaders_205 h l1 l2 q55 W
  refine j_runA hx 1 (tb := [(196, .iconst (-1))]) (jtb_ok (by decide +kernel)) (pc' := 197) (lv' := [(3, vI q53), (0, vR t), (1, vI l1), (2, vI l2)]) (st' := [vI (kI (-1))]) rfl ?_
  refine j_goto hx (off := 8) (by decide +kernel) (tgt := 205) (by decide) ?_
  refine j_lv (lv' := [(0, vR t), (1, vI l1), (2, vI l2)]) ⟨rfl, rfl, rfl, trivial⟩ ?_
  exact wpg_leaders_205 h l1 l2 (kI (-1)) W
theorem wpg_leaders_134 {x : jCx} {en : (fpg_leaders_S ⊕ (jW)) → Option (Outcome × jW)} {t : Nat} (h : hpg_leaders x en t) (l1 : Int32) (W : jW) : jJ x 5 134 [(0, vR t), (1, vI l1)] [] W (fpg_leaders_134 t l1 W) en := by
  have h0 := h
  obtain ⟨hx, hm, hr, he, k19, k53, k134, k163⟩ := h0
  unfold fpg_leaders_134
  refine j_runA hx 2 (tb := [(134, .iload_n 1), (135, .aload_n 0)]) (jtb_ok (by decide +kernel)) (pc' := 136) (lv' := [(0, vR t), (1, vI l1)]) (st' := [vR t, vI l1]) rfl ?_
  refine j_gd (fun h44 => ?_)
  refine j_getR hx flX1_21 kl201 h44 (by decide) (by decide +kernel) ?_
  refine j_gd (fun h45 => ?_)
  refine j_getI hx flX1_100 kd403 h45 (by decide) (by decide +kernel) ?_
  refine j_icmp_ge hx (off := 90) (tgt := 232) (by decide +kernel) (by decide) (fun _ => ?_) (fun _ => ?_)
  · exact j_vret hx hm (by decide +kernel) (he _)
  refine j_runA hx 1 (tb := [(145, .aload_n 0)]) (jtb_ok (by decide +kernel)) (pc' := 146) (lv' := [(0, vR t), (1, vI l1)]) (st' := [vR t]) rfl ?_
  refine j_getR hx flX1_21 kl201 h44 (by decide) (by decide +kernel) ?_
  refine j_getR hx flX1_103 kl411 h45 (by decide) (by decide +kernel) ?_
  refine j_runA hx 1 (tb := [(152, .iload_n 1)]) (jtb_ok (by decide +kernel)) (pc' := 153) (lv' := [(0, vR t), (1, vI l1)]) (st' := [vI l1, vR (jR W 411 (jR W 201 t))]) rfl ?_
  refine j_gd (fun h46 => ?_)
  refine j_iald hx (f := 411) (o := (jR W 201 t)) kd411 rfl (by decide +kernel) h46 ?_
  refine j_runA hx 1 (tb := [(154, .iconst 4)]) (jtb_ok (by decide +kernel)) (pc' := 155) (lv' := [(0, vR t), (1, vI l1)]) (st' := [vI (kI 4), vI (jA W 411 (jR W 201 t) (ix l1))]) rfl ?_
  refine j_icmp_eq hx (off := 6) (tgt := 161) (by decide +kernel) (by decide) (fun _ => ?_) (fun _ => ?_)
  · refine j_runA hx 2 (tb := [(161, .iconst 0), (162, .istore_n 2)]) (jtb_ok (by decide +kernel)) (pc' := 163) (lv' := [(2, vI (kI 0)), (0, vR t), (1, vI l1)]) (st' := []) rfl ?_
    refine j_lv (lv' := [(0, vR t), (1, vI l1), (2, vI (kI 0))]) ⟨rfl, rfl, rfl, trivial⟩ ?_
    exact k163 l1 (kI 0) W
  refine j_goto hx (off := 68) (by decide +kernel) (tgt := 226) (by decide) ?_
  exact wpg_leaders_226 h l1 W
theorem wpg_leaders_53 {x : jCx} {en : (fpg_leaders_S ⊕ (jW)) → Option (Outcome × jW)} {t : Nat} (h : hpg_leaders x en t) (l1 : Int32) (W : jW) : jJ x 5 53 [(0, vR t), (1, vI l1)] [] W (fpg_leaders_53 t l1 W) en := by
  have h0 := h
  obtain ⟨hx, hm, hr, he, k19, k53, k134, k163⟩ := h0
  unfold fpg_leaders_53
  refine j_runA hx 2 (tb := [(53, .iload_n 1), (54, .aload_n 0)]) (jtb_ok (by decide +kernel)) (pc' := 55) (lv' := [(0, vR t), (1, vI l1)]) (st' := [vR t, vI l1]) rfl ?_
  refine j_gd (fun h22 => ?_)
  refine j_getI hx flX1_124 kd203 h22 (by decide) (by decide +kernel) ?_
  refine j_icmp_ge hx (off := 74) (tgt := 132) (by decide +kernel) (by decide) (fun _ => ?_) (fun _ => ?_)
  · refine j_runA hx 2 (tb := [(132, .iconst 1), (133, .istore_n 1)]) (jtb_ok (by decide +kernel)) (pc' := 134) (lv' := [(1, vI (kI 1)), (0, vR t)]) (st' := []) rfl ?_
    refine j_lv (lv' := [(0, vR t), (1, vI (kI 1))]) ⟨rfl, rfl, trivial⟩ ?_
    exact k134 (kI 1) W
  refine j_runA hx 1 (tb := [(61, .aload_n 0)]) (jtb_ok (by decide +kernel)) (pc' := 62) (lv' := [(0, vR t), (1, vI l1)]) (st' := [vR t]) rfl ?_
  refine j_getR hx flX1_36 kl205 h22 (by decide) (by decide +kernel) ?_
  refine j_runA hx 1 (tb := [(65, .iload_n 1)]) (jtb_ok (by decide +kernel)) (pc' := 66) (lv' := [(0, vR t), (1, vI l1)]) (st' := [vI l1, vR (jR W 205 t)]) rfl ?_
  refine j_gd (fun h23 => ?_)
  refine j_iald hx (f := 205) (o := t) kd205 rfl (by decide +kernel) h23 ?_
  refine j_runA hx 1 (tb := [(67, .bipush 12)]) (jtb_ok (by decide +kernel)) (pc' := 69) (lv' := [(0, vR t), (1, vI l1)]) (st' := [vI (kI 12), vI (jA W 205 t (ix l1))]) rfl ?_
  refine j_icmp_eq hx (off := 15) (tgt := 84) (by decide +kernel) (by decide) (fun _ => ?_) (fun _ => ?_)
  · exact wpg_leaders_84 h l1 W
  refine j_runA hx 1 (tb := [(72, .aload_n 0)]) (jtb_ok (by decide +kernel)) (pc' := 73) (lv' := [(0, vR t), (1, vI l1)]) (st' := [vR t]) rfl ?_
  refine j_getR hx flX1_36 kl205 h22 (by decide) (by decide +kernel) ?_
  refine j_runA hx 1 (tb := [(76, .iload_n 1)]) (jtb_ok (by decide +kernel)) (pc' := 77) (lv' := [(0, vR t), (1, vI l1)]) (st' := [vI l1, vR (jR W 205 t)]) rfl ?_
  refine j_gd (fun h24 => ?_)
  refine j_iald hx (f := 205) (o := t) kd205 rfl (by decide +kernel) h24 ?_
  refine j_TI (j_callS (av := [vI (jA W 205 t (ix l1))]) (st := []) hx hr (Or.inl q1116) q1098 q247 md_fwo_isBranch np_fwo_isBranch (cwo_isBranch (jA W 205 t (ix l1)) W) (by decide) (Nat.le_of_ble_eq_true rfl) (by decide +kernel)) ?_
  refine j_if_eq hx (off := 14) (tgt := 95) (by decide +kernel) (by decide) (fun _ => ?_) (fun _ => ?_)
  · exact wpg_leaders_95 h l1 W
  exact wpg_leaders_84 h l1 W
theorem wpg_leaders_19 {x : jCx} {en : (fpg_leaders_S ⊕ (jW)) → Option (Outcome × jW)} {t : Nat} (h : hpg_leaders x en t) (l1 : Int32) (W : jW) : jJ x 5 19 [(0, vR t), (1, vI l1)] [] W (fpg_leaders_19 t l1 W) en := by
  have h0 := h
  obtain ⟨hx, hm, hr, he, k19, k53, k134, k163⟩ := h0
  unfold fpg_leaders_19
  refine j_runA hx 2 (tb := [(19, .iload_n 1), (20, .aload_n 0)]) (jtb_ok (by decide +kernel)) (pc' := 21) (lv' := [(0, vR t), (1, vI l1)]) (st' := [vR t, vI l1]) rfl ?_
  refine j_gd (fun h11 => ?_)
  refine j_getR hx flX1_52 kl209 h11 (by decide) (by decide +kernel) ?_
  refine j_gd (fun h12 => ?_)
  refine j_getI hx flX1_90 kd601 h12 (by decide) (by decide +kernel) ?_
  refine j_icmp_ge hx (off := 24) (tgt := 51) (by decide +kernel) (by decide) (fun _ => ?_) (fun _ => ?_)
  · refine j_runA hx 2 (tb := [(51, .iconst 0), (52, .istore_n 1)]) (jtb_ok (by decide +kernel)) (pc' := 53) (lv' := [(1, vI (kI 0)), (0, vR t)]) (st' := []) rfl ?_
    refine j_lv (lv' := [(0, vR t), (1, vI (kI 0))]) ⟨rfl, rfl, trivial⟩ ?_
    exact k53 (kI 0) W
  refine j_runA hx 1 (tb := [(30, .aload_n 0)]) (jtb_ok (by decide +kernel)) (pc' := 31) (lv' := [(0, vR t), (1, vI l1)]) (st' := [vR t]) rfl ?_
  refine j_getR hx flX1_45 kl208 h11 (by decide) (by decide +kernel) ?_
  refine j_runA hx 1 (tb := [(34, .aload_n 0)]) (jtb_ok (by decide +kernel)) (pc' := 35) (lv' := [(0, vR t), (1, vI l1)]) (st' := [vR t, vR (jR W 208 t)]) rfl ?_
  refine j_getR hx flX1_52 kl209 h11 (by decide) (by decide +kernel) ?_
  refine j_getR hx flX1_166 kl600 h12 (by decide) (by decide +kernel) ?_
  refine j_runA hx 1 (tb := [(41, .iload_n 1)]) (jtb_ok (by decide +kernel)) (pc' := 42) (lv' := [(0, vR t), (1, vI l1)]) (st' := [vI l1, vR (jR W 600 (jR W 209 t)), vR (jR W 208 t)]) rfl ?_
  refine j_gd (fun h13 => ?_)
  refine j_iald hx (f := 600) (o := (jR W 209 t)) kd600 rfl (by decide +kernel) h13 ?_
  refine j_runA hx 1 (tb := [(43, .iconst 1)]) (jtb_ok (by decide +kernel)) (pc' := 44) (lv' := [(0, vR t), (1, vI l1)]) (st' := [vI (kI 1), vI (jA W 600 (jR W 209 t) (ix l1)), vR (jR W 208 t)]) rfl ?_
  refine j_gd (fun h14 => ?_)
  refine j_zast hx (f := 208) (o := t) kd208 rfl (by decide +kernel) h14 ?_
  refine j_ltw rfl (fun W15 hc16 => ?_)
  have h17 : jC W15 t = 2 := (congrFun hc16 _).trans h11
  have h18 : jC W15 (jR W 209 t) = 6 := (congrFun hc16 _).trans h12
  refine j_runA hx 1 (tb := [(45, .iinc 1 1)]) (jtb_ok (by decide +kernel)) (pc' := 48) (lv' := [(1, vI (l1 + (kI 1))), (0, vR t)]) (st' := []) rfl ?_
  refine j_let (v := (l1 + (kI 1))) (lv := fun v20 => [(1, vI v20), (0, vR t)]) (st := fun _ => []) (fun v20 => ?_)
  refine j_goto hx (off := -29) (by decide +kernel) (tgt := 19) (by decide) ?_
  refine j_lv (lv' := [(0, vR t), (1, vI v20)]) ⟨rfl, rfl, trivial⟩ ?_
  exact k19 v20 W15
theorem wpg_leaders {x : jCx} {en : (fpg_leaders_S ⊕ (jW)) → Option (Outcome × jW)} {t : Nat} (h : hpg_leaders x en t) (W : jW) : jJ x 5 0 [(0, vR t)] [] W (fpg_leaders_0 t W) en := by
  have h0 := h
  obtain ⟨hx, hm, hr, he, k19, k53, k134, k163⟩ := h0
  unfold fpg_leaders_0
  refine j_runA hx 1 (tb := [(0, .aload_n 0)]) (jtb_ok (by decide +kernel)) (pc' := 1) (lv' := [(0, vR t)]) (st' := [vR t]) rfl ?_
  refine j_gd (fun h1 => ?_)
  refine j_getR hx flX1_45 kl208 h1 (by decide) (by decide +kernel) ?_
  refine j_runA hx 2 (tb := [(4, .aload_n 0), (5, .aload_n 0)]) (jtb_ok (by decide +kernel)) (pc' := 6) (lv' := [(0, vR t)]) (st' := [vR t, vR t, vR (jR W 208 t)]) rfl ?_
  refine j_getR hx flX1_21 kl201 h1 (by decide) (by decide +kernel) ?_
  refine j_gd (fun h2 => ?_)
  refine j_getL hx flX1_248 kd404 h2 (by decide) (by decide +kernel) ?_
  refine j_OI (j_callV (av := [vL (jL W 404 (jR W 201 t))]) (st := [vR (jR W 208 t)]) hx hr (Or.inl q1035) q1036 q1037 rfl md_fpg_wordAt np_fpg_wordAt (cpg_wordAt t (jL W 404 (jR W 201 t)) W) (by decide) (Nat.le_of_ble_eq_true rfl) h1 (by decide) (by decide +kernel)) (fun q3 _ => ?_)
  refine j_runA hx 1 (tb := [(15, .iconst 1)]) (jtb_ok (by decide +kernel)) (pc' := 16) (lv' := [(0, vR t)]) (st' := [vI (kI 1), vI q3, vR (jR W 208 t)]) rfl ?_
  refine j_gd (fun h4 => ?_)
  refine j_zast hx (f := 208) (o := t) kd208 rfl (by decide +kernel) h4 ?_
  refine j_ltw rfl (fun W5 hc6 => ?_)
  have h7 : jC W5 t = 2 := (congrFun hc6 _).trans h1
  have h8 : jC W5 (jR W 201 t) = 4 := (congrFun hc6 _).trans h2
  refine j_runA hx 2 (tb := [(17, .iconst 0), (18, .istore_n 1)]) (jtb_ok (by decide +kernel)) (pc' := 19) (lv' := [(1, vI (kI 0)), (0, vR t)]) (st' := []) rfl ?_
  refine j_lv (lv' := [(0, vR t), (1, vI (kI 0))]) ⟨rfl, rfl, trivial⟩ ?_
  exact k19 (kI 0) W5
theorem cpg_leaders (t : Nat) (W : jW) : jM yX1_leaders cX1_leaders 5 (Option.none : Option Jvm.ClassFile.FieldType) [] 9 123 [vR t] W ((fpg_leaders t W).bind (fun q => some (.returned none, q))) := by
  refine jM.of (Nat.le_of_ble_eq_true rfl) (fun x hx hm hr => ?_)
  refine j_begin (P := (Sum.elim (fun s => (19, [(0, vR t), (1, vI s.1)], s.2)) (Sum.elim (fun s => (53, [(0, vR t), (1, vI s.1)], s.2)) (Sum.elim (fun s => (134, [(0, vR t), (1, vI s.1)], s.2)) (fun s => (163, [(0, vR t), (1, vI s.1), (2, vI s.2.1)], s.2.2)))))) (fun en he hk => ?_)
  have h : hpg_leaders x en t := ⟨hx, hm, hr, fun q => he _, fun l1 W => hk (.inl (l1, W)), fun l1 W => hk (.inr (.inl (l1, W))), fun l1 W => hk (.inr (.inr (.inl (l1, W)))), fun l1 l2 W => hk (.inr (.inr (.inr (l1, l2, W))))⟩
  refine ⟨fun s => ?_, wpg_leaders h W⟩
  rcases s with s | s | s | s
  · exact wpg_leaders_19 h s.1 s.2
  · exact wpg_leaders_53 h s.1 s.2
  · exact wpg_leaders_134 h s.1 s.2
  · exact wpg_leaders_163 h s.1 s.2.1 s.2.2
def hpg_wordsOf (x : jCx) (en : (Int32) → Option (Outcome × jW)) (t : Nat) (a1 : Int32) (W : jW) : Prop :=
  jOK x RX1 cX1_wordsOf 2 ∧
  jMt x "wordsOf" (Option.some Jvm.ClassFile.FieldType.int) [] ∧
  jRm x 0 0 ∧
  (∀ q : Int32, en q = some (.returned (some (.int q)), W))
theorem wpg_wordsOf_28 {x : jCx} {en : (Int32) → Option (Outcome × jW)} {W : jW} {t : Nat} {a1 : Int32} (h : hpg_wordsOf x en t a1 W) (s0 : Int32) : jJ x 2 28 [(0, vR t), (1, vI a1)] [vI s0] W (fpg_wordsOf_28 t a1 s0 W) en := by
  have h0 := h
  obtain ⟨hx, hm, hr, he⟩ := h0
  unfold fpg_wordsOf_28
  refine j_runA hx 1 (tb := [(28, .aload_n 0)]) (jtb_ok (by decide +kernel)) (pc' := 29) (lv' := [(0, vR t), (1, vI a1)]) (st' := [vR t, vI s0]) rfl ?_
  refine j_gd (fun h5 => ?_)
  refine j_getR hx flX1_65 kl213 h5 (by decide) (by decide +kernel) ?_
  refine j_gd (fun h6 => ?_)
  refine j_getR hx flX1_166 kl600 h6 (by decide) (by decide +kernel) ?_
  refine j_runA hx 1 (tb := [(35, .iload_n 1)]) (jtb_ok (by decide +kernel)) (pc' := 36) (lv' := [(0, vR t), (1, vI a1)]) (st' := [vI a1, vR (jR W 600 (jR W 213 t)), vI s0]) rfl ?_
  refine j_gd (fun h7 => ?_)
  refine j_iald hx (f := 600) (o := (jR W 213 t)) kd600 rfl (by decide +kernel) h7 ?_
  refine j_runA hx 1 (tb := [(37, .isub)]) (jtb_ok (by decide +kernel)) (pc' := 38) (lv' := [(0, vR t), (1, vI a1)]) (st' := [vI (s0 - (jA W 600 (jR W 213 t) (ix a1)))]) rfl ?_
  exact j_iret hx hm (by decide +kernel) rfl (he _)
theorem wpg_wordsOf {x : jCx} {en : (Int32) → Option (Outcome × jW)} {W : jW} {t : Nat} {a1 : Int32} (h : hpg_wordsOf x en t a1 W) : jJ x 2 0 [(0, vR t), (1, vI a1)] [] W (fpg_wordsOf t a1 W) en := by
  have h0 := h
  obtain ⟨hx, hm, hr, he⟩ := h0
  unfold fpg_wordsOf
  refine j_runA hx 4 (tb := [(0, .iload_n 1), (1, .iconst 1), (2, .iadd), (3, .aload_n 0)]) (jtb_ok (by decide +kernel)) (pc' := 4) (lv' := [(0, vR t), (1, vI a1)]) (st' := [vR t, vI (a1 + (kI 1))]) rfl ?_
  refine j_gd (fun h1 => ?_)
  refine j_getI hx flX1_261 kd217 h1 (by decide) (by decide +kernel) ?_
  refine j_icmp_ge hx (off := 17) (tgt := 24) (by decide +kernel) (by decide) (fun _ => ?_) (fun _ => ?_)
  · refine j_runA hx 1 (tb := [(24, .aload_n 0)]) (jtb_ok (by decide +kernel)) (pc' := 25) (lv' := [(0, vR t), (1, vI a1)]) (st' := [vR t]) rfl ?_
    refine j_getI hx flX1_124 kd203 h1 (by decide) (by decide +kernel) ?_
    exact wpg_wordsOf_28 h (jI W 203 t)
  refine j_runA hx 1 (tb := [(10, .aload_n 0)]) (jtb_ok (by decide +kernel)) (pc' := 11) (lv' := [(0, vR t), (1, vI a1)]) (st' := [vR t]) rfl ?_
  refine j_getR hx flX1_65 kl213 h1 (by decide) (by decide +kernel) ?_
  refine j_gd (fun h2 => ?_)
  refine j_getR hx flX1_166 kl600 h2 (by decide) (by decide +kernel) ?_
  refine j_runA hx 3 (tb := [(17, .iload_n 1), (18, .iconst 1), (19, .iadd)]) (jtb_ok (by decide +kernel)) (pc' := 20) (lv' := [(0, vR t), (1, vI a1)]) (st' := [vI (a1 + (kI 1)), vR (jR W 600 (jR W 213 t))]) rfl ?_
  refine j_gd (fun h3 => ?_)
  refine j_iald hx (f := 600) (o := (jR W 213 t)) kd600 rfl (by decide +kernel) h3 ?_
  refine j_goto hx (off := 7) (by decide +kernel) (tgt := 28) (by decide) ?_
  exact wpg_wordsOf_28 h (jA W 600 (jR W 213 t) (ix (a1 + (kI 1))))
theorem cpg_wordsOf (t : Nat) (a1 : Int32) (W : jW) : jM yX1_wordsOf cX1_wordsOf 2 (Option.some Jvm.ClassFile.FieldType.int) [] 0 0 [vR t, vI a1] W ((fpg_wordsOf t a1 W).bind (fun q => some (.returned (some (.int q)), W))) := 
  jM.of (Nat.le_of_ble_eq_true rfl) (fun x hx hm hr => wpg_wordsOf ⟨hx, hm, hr, fun _ => rfl⟩)
def hpg_lastWord (x : jCx) (en : (Int32) → Option (Outcome × jW)) (t : Nat) (a1 : Int32) (W : jW) : Prop :=
  jOK x RX1 cX1_lastWord 2 ∧
  jMt x "lastWord" (Option.some Jvm.ClassFile.FieldType.int) [] ∧
  jRm x 1 14 ∧
  (∀ q : Int32, en q = some (.returned (some (.int q)), W))
theorem wpg_lastWord {x : jCx} {en : (Int32) → Option (Outcome × jW)} {W : jW} {t : Nat} {a1 : Int32} (h : hpg_lastWord x en t a1 W) : jJ x 2 0 [(0, vR t), (1, vI a1)] [] W (fpg_lastWord t a1 W) en := by
  have h0 := h
  obtain ⟨hx, hm, hr, he⟩ := h0
  unfold fpg_lastWord
  refine j_runA hx 1 (tb := [(0, .aload_n 0)]) (jtb_ok (by decide +kernel)) (pc' := 1) (lv' := [(0, vR t), (1, vI a1)]) (st' := [vR t]) rfl ?_
  refine j_gd (fun h1 => ?_)
  refine j_getR hx flX1_65 kl213 h1 (by decide) (by decide +kernel) ?_
  refine j_gd (fun h2 => ?_)
  refine j_getR hx flX1_166 kl600 h2 (by decide) (by decide +kernel) ?_
  refine j_runA hx 1 (tb := [(7, .iload_n 1)]) (jtb_ok (by decide +kernel)) (pc' := 8) (lv' := [(0, vR t), (1, vI a1)]) (st' := [vI a1, vR (jR W 600 (jR W 213 t))]) rfl ?_
  refine j_gd (fun h3 => ?_)
  refine j_iald hx (f := 600) (o := (jR W 213 t)) kd600 rfl (by decide +kernel) h3 ?_
  refine j_runA hx 2 (tb := [(9, .aload_n 0), (10, .iload_n 1)]) (jtb_ok (by decide +kernel)) (pc' := 11) (lv' := [(0, vR t), (1, vI a1)]) (st' := [vI a1, vR t, vI (jA W 600 (jR W 213 t) (ix a1))]) rfl ?_
  refine j_OI (j_callV (av := [vI a1]) (st := [vI (jA W 600 (jR W 213 t) (ix a1))]) hx hr (Or.inl q1132) q1133 q1134 rfl md_fpg_wordsOf np_fpg_wordsOf (cpg_wordsOf t a1 W) (by decide) (Nat.le_of_ble_eq_true rfl) h1 (by decide) (by decide +kernel)) (fun q4 _ => ?_)
  refine j_runA hx 3 (tb := [(14, .iadd), (15, .iconst 1), (16, .isub)]) (jtb_ok (by decide +kernel)) (pc' := 17) (lv' := [(0, vR t), (1, vI a1)]) (st' := [vI (((jA W 600 (jR W 213 t) (ix a1)) + q4) - (kI 1))]) rfl ?_
  exact j_iret hx hm (by decide +kernel) rfl (he _)
theorem cpg_lastWord (t : Nat) (a1 : Int32) (W : jW) : jM yX1_lastWord cX1_lastWord 2 (Option.some Jvm.ClassFile.FieldType.int) [] 1 14 [vR t, vI a1] W ((fpg_lastWord t a1 W).bind (fun q => some (.returned (some (.int q)), W))) := 
  jM.of (Nat.le_of_ble_eq_true rfl) (fun x hx hm hr => wpg_lastWord ⟨hx, hm, hr, fun _ => rfl⟩)
