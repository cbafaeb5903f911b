/-! ===== walks: fcl_told fcl_isRegister fcl_register fcl_kind fcl_newOf fcl_newer fcl_visit fme_at fcl_memory fcl_longAt fcl_keeps fcl_newest fcl_trace fcl_text fwn_init fmo_next fwn_shape fwn_length ===== -/
set_option maxRecDepth 100000
def hcl_told (x : jCx) (en : (Int32) → Option (Outcome × jW)) (t : Nat) (a1 : Int32) (a2 : Int32) (W : jW) : Prop :=
  jOK x RX0 cX0_told 4 ∧
  jMt x "told" (Option.some Jvm.ClassFile.FieldType.int) [] ∧
  jRm x 1 13 ∧
  (∀ q : Int32, en q = some (.returned (some (.int q)), W))
theorem wcl_told_17 {x : jCx} {en : (Int32) → Option (Outcome × jW)} {W : jW} {t : Nat} {a1 : Int32} {a2 : Int32} (h : hcl_told x en t a1 a2 W) : jJ x 4 17 [(0, vR t), (1, vI a1), (2, vI a2)] [] W (fcl_told_17 t a1 a2 W) en := by
  have h0 := h
  obtain ⟨hx, hm, hr, he⟩ := h0
  unfold fcl_told_17
  refine j_runA hx 1 (tb := [(17, .bipush (-14))]) (jtb_ok (by decide +kernel)) (pc' := 19) (lv' := [(0, vR t), (1, vI a1), (2, vI a2)]) (st' := [vI (kI (-14))]) rfl ?_
  exact j_iret hx hm (by decide +kernel) rfl (he _)
theorem wcl_told_125 {x : jCx} {en : (Int32) → Option (Outcome × jW)} {W : jW} {t : Nat} {a1 : Int32} {a2 : Int32} (h : hcl_told x en t a1 a2 W) (s0 : Int32) (s1 : Int32) : jJ x 4 125 [(0, vR t), (1, vI a1), (2, vI a2)] [vI s0, vI s1] W (fcl_told_125 t a1 a2 s0 s1 W) en := by
  have h0 := h
  obtain ⟨hx, hm, hr, he⟩ := h0
  unfold fcl_told_125
  refine j_runA hx 1 (tb := [(125, .iadd)]) (jtb_ok (by decide +kernel)) (pc' := 126) (lv' := [(0, vR t), (1, vI a1), (2, vI a2)]) (st' := [vI (s1 + s0)]) rfl ?_
  exact j_iret hx hm (by decide +kernel) rfl (he _)
theorem wcl_told_112 {x : jCx} {en : (Int32) → Option (Outcome × jW)} {W : jW} {t : Nat} {a1 : Int32} {a2 : Int32} (h : hcl_told x en t a1 a2 W) (l3 : Nat) (s0 : Int32) (s1 : Int32) : jJ x 4 112 [(0, vR t), (1, vI a1), (2, vI a2), (3, vR l3)] [vI s0, vI s1] W (fcl_told_112 t a1 a2 l3 s0 s1 W) en := by
  have h0 := h
  obtain ⟨hx, hm, hr, he⟩ := h0
  unfold fcl_told_112
  refine j_runA hx 2 (tb := [(112, .iadd), (113, .aload_n 3)]) (jtb_ok (by decide +kernel)) (pc' := 114) (lv' := [(0, vR t), (1, vI a1), (2, vI a2), (3, vR l3)]) (st' := [vR l3, vI (s1 + s0)]) rfl ?_
  refine j_gd (fun h21 => ?_)
  refine j_getI hx flX0_373 kd1013 h21 (by decide) (by decide +kernel) ?_
  refine j_if_eq hx (off := 7) (tgt := 124) (by decide +kernel) (by decide) (fun _ => ?_) (fun _ => ?_)
  · refine j_runA hx 1 (tb := [(124, .iconst 0)]) (jtb_ok (by decide +kernel)) (pc' := 125) (lv' := [(0, vR t), (1, vI a1), (2, vI a2), (3, vR l3)]) (st' := [vI (kI 0), vI (s1 + s0)]) rfl ?_
    refine j_lv (lv' := [(0, vR t), (1, vI a1), (2, vI a2)]) ⟨rfl, rfl, rfl, trivial⟩ ?_
    exact wcl_told_125 h (kI 0) (s1 + s0)
  refine j_runA hx 1 (tb := [(120, .iconst 1)]) (jtb_ok (by decide +kernel)) (pc' := 121) (lv' := [(0, vR t), (1, vI a1), (2, vI a2), (3, vR l3)]) (st' := [vI (kI 1), vI (s1 + s0)]) rfl ?_
  refine j_goto hx (off := 4) (by decide +kernel) (tgt := 125) (by decide) ?_
  refine j_lv (lv' := [(0, vR t), (1, vI a1), (2, vI a2)]) ⟨rfl, rfl, rfl, trivial⟩ ?_
  exact wcl_told_125 h (kI 1) (s1 + s0)
theorem wcl_told_99 {x : jCx} {en : (Int32) → Option (Outcome × jW)} {W : jW} {t : Nat} {a1 : Int32} {a2 : Int32} (h : hcl_told x en t a1 a2 W) (l3 : Nat) (s0 : Int32) (s1 : Int32) : jJ x 4 99 [(0, vR t), (1, vI a1), (2, vI a2), (3, vR l3)] [vI s0, vI s1] W (fcl_told_99 t a1 a2 l3 s0 s1 W) en := by
  have h0 := h
  obtain ⟨hx, hm, hr, he⟩ := h0
  unfold fcl_told_99
  refine j_runA hx 2 (tb := [(99, .iadd), (100, .aload_n 3)]) (jtb_ok (by decide +kernel)) (pc' := 101) (lv' := [(0, vR t), (1, vI a1), (2, vI a2), (3, vR l3)]) (st' := [vR l3, vI (s1 + s0)]) rfl ?_
  refine j_gd (fun h19 => ?_)
  refine j_getI hx flX0_370 kd1012 h19 (by decide) (by decide +kernel) ?_
  refine j_if_eq hx (off := 7) (tgt := 111) (by decide +kernel) (by decide) (fun _ => ?_) (fun _ => ?_)
  · refine j_runA hx 1 (tb := [(111, .iconst 0)]) (jtb_ok (by decide +kernel)) (pc' := 112) (lv' := [(0, vR t), (1, vI a1), (2, vI a2), (3, vR l3)]) (st' := [vI (kI 0), vI (s1 + s0)]) rfl ?_
    exact wcl_told_112 h l3 (kI 0) (s1 + s0)
  refine j_runA hx 1 (tb := [(107, .iconst 2)]) (jtb_ok (by decide +kernel)) (pc' := 108) (lv' := [(0, vR t), (1, vI a1), (2, vI a2), (3, vR l3)]) (st' := [vI (kI 2), vI (s1 + s0)]) rfl ?_
  refine j_goto hx (off := 4) (by decide +kernel) (tgt := 112) (by decide) ?_
  exact wcl_told_112 h l3 (kI 2) (s1 + s0)
theorem wcl_told_87 {x : jCx} {en : (Int32) → Option (Outcome × jW)} {W : jW} {t : Nat} {a1 : Int32} {a2 : Int32} (h : hcl_told x en t a1 a2 W) (l3 : Nat) (s0 : Int32) : jJ x 4 87 [(0, vR t), (1, vI a1), (2, vI a2), (3, vR l3)] [vI s0] W (fcl_told_87 t a1 a2 l3 s0 W) en := by
  have h0 := h
  obtain ⟨hx, hm, hr, he⟩ := h0
  unfold fcl_told_87
  refine j_runA hx 1 (tb := [(87, .aload_n 3)]) (jtb_ok (by decide +kernel)) (pc' := 88) (lv' := [(0, vR t), (1, vI a1), (2, vI a2), (3, vR l3)]) (st' := [vR l3, vI s0]) rfl ?_
  refine j_gd (fun h17 => ?_)
  refine j_getI hx flX0_367 kd1011 h17 (by decide) (by decide +kernel) ?_
  refine j_if_eq hx (off := 7) (tgt := 98) (by decide +kernel) (by decide) (fun _ => ?_) (fun _ => ?_)
  · refine j_runA hx 1 (tb := [(98, .iconst 0)]) (jtb_ok (by decide +kernel)) (pc' := 99) (lv' := [(0, vR t), (1, vI a1), (2, vI a2), (3, vR l3)]) (st' := [vI (kI 0), vI s0]) rfl ?_
    exact wcl_told_99 h l3 (kI 0) s0
  refine j_runA hx 1 (tb := [(94, .iconst 4)]) (jtb_ok (by decide +kernel)) (pc' := 95) (lv' := [(0, vR t), (1, vI a1), (2, vI a2), (3, vR l3)]) (st' := [vI (kI 4), vI s0]) rfl ?_
  refine j_goto hx (off := 4) (by decide +kernel) (tgt := 99) (by decide) ?_
  exact wcl_told_99 h l3 (kI 4) s0
theorem wcl_told {x : jCx} {en : (Int32) → Option (Outcome × jW)} {W : jW} {t : Nat} {a1 : Int32} {a2 : Int32} (h : hcl_told x en t a1 a2 W) : jJ x 4 0 [(0, vR t), (1, vI a1), (2, vI a2)] [] W (fcl_told t a1 a2 W) en := by
  have h0 := h
  obtain ⟨hx, hm, hr, he⟩ := h0
  unfold fcl_told
  refine j_runA hx 2 (tb := [(0, .aload_n 0), (1, .iload_n 1)]) (jtb_ok (by decide +kernel)) (pc' := 2) (lv' := [(0, vR t), (1, vI a1), (2, vI a2)]) (st' := [vI a1, vR t]) rfl ?_
  refine j_gd (fun h1 => ?_)
  refine j_OI (j_callV (av := [vI a1]) (st := []) hx hr (Or.inl q2266) q2268 qs118 rfl md_fcl_isRun np_fcl_isRun (ccl_isRun t a1 W) (by decide) (Nat.le_of_ble_eq_true rfl) h1 (by decide) (by decide +kernel)) (fun q2 _ => ?_)
  refine j_if_eq hx (off := 12) (tgt := 17) (by decide +kernel) (by decide) (fun _ => ?_) (fun _ => ?_)
  · exact wcl_told_17 h
  refine j_runA hx 1 (tb := [(8, .iload_n 2)]) (jtb_ok (by decide +kernel)) (pc' := 9) (lv' := [(0, vR t), (1, vI a1), (2, vI a2)]) (st' := [vI a2]) rfl ?_
  refine j_if_lt hx (off := 8) (tgt := 17) (by decide +kernel) (by decide) (fun _ => ?_) (fun _ => ?_)
  · exact wcl_told_17 h
  refine j_runA hx 2 (tb := [(12, .iload_n 2), (13, .iconst 5)]) (jtb_ok (by decide +kernel)) (pc' := 14) (lv' := [(0, vR t), (1, vI a1), (2, vI a2)]) (st' := [vI (kI 5), vI a2]) rfl ?_
  refine j_icmp_le hx (off := 6) (tgt := 20) (by decide +kernel) (by decide) (fun _ => ?_) (fun _ => ?_)
  · refine j_runA hx 1 (tb := [(20, .aload_n 0)]) (jtb_ok (by decide +kernel)) (pc' := 21) (lv' := [(0, vR t), (1, vI a1), (2, vI a2)]) (st' := [vR t]) rfl ?_
    refine j_getR hx flX0_51 kl114 h1 (by decide) (by decide +kernel) ?_
    refine j_runA hx 1 (tb := [(24, .iload_n 1)]) (jtb_ok (by decide +kernel)) (pc' := 25) (lv' := [(0, vR t), (1, vI a1), (2, vI a2)]) (st' := [vI a1, vR (jR W 114 t)]) rfl ?_
    refine j_gd (fun h3 => ?_)
    refine j_aald hx (f := 114) (o := t) kd114 rfl (by decide +kernel) h3 ?_
    refine j_runA hx 1 (tb := [(26, .astore_n 3)]) (jtb_ok (by decide +kernel)) (pc' := 27) (lv' := [(3, vR (jE W 114 t (ix a1))), (0, vR t), (1, vI a1), (2, vI a2)]) (st' := []) rfl ?_
    refine j_let (v := (jE W 114 t (ix a1))) (lv := fun v4 => [(3, vR v4), (0, vR t), (1, vI a1), (2, vI a2)]) (st := fun _ => []) (fun v4 => ?_)
    refine j_runA hx 1 (tb := [(27, .iload_n 2)]) (jtb_ok (by decide +kernel)) (pc' := 28) (lv' := [(3, vR v4), (0, vR t), (1, vI a1), (2, vI a2)]) (st' := [vI a2]) rfl ?_
    refine j_tab hx (dflt := 109) (lo := 0) (hi := 4) (offs := #[36, 41, 46, 99, 104]) (len := 36) (k := 0) (off := 36) (tgt := 64) (by decide +kernel) (by decide) (by decide) (by decide) rfl (by decide) (fun _ => ?_) (fun h5 => ?_)
    · refine j_runA hx 1 (tb := [(64, .aload_n 3)]) (jtb_ok (by decide +kernel)) (pc' := 65) (lv' := [(3, vR v4), (0, vR t), (1, vI a1), (2, vI a2)]) (st' := [vR v4]) rfl ?_
      refine j_gd (fun h6 => ?_)
      refine j_getI hx flX0_358 kd1015 h6 (by decide) (by decide +kernel) ?_
      exact j_iret hx hm (by decide +kernel) rfl (he _)
    refine j_tab hx (dflt := 109) (lo := 0) (hi := 4) (offs := #[36, 41, 46, 99, 104]) (len := 36) (k := 1) (off := 41) (tgt := 69) (by decide +kernel) (by decide) (by decide) (by decide) rfl (by decide) (fun _ => ?_) (fun h7 => ?_)
    · refine j_runA hx 1 (tb := [(69, .aload_n 3)]) (jtb_ok (by decide +kernel)) (pc' := 70) (lv' := [(3, vR v4), (0, vR t), (1, vI a1), (2, vI a2)]) (st' := [vR v4]) rfl ?_
      refine j_gd (fun h8 => ?_)
      refine j_getI hx flX0_361 kd1016 h8 (by decide) (by decide +kernel) ?_
      exact j_iret hx hm (by decide +kernel) rfl (he _)
    refine j_tab hx (dflt := 109) (lo := 0) (hi := 4) (offs := #[36, 41, 46, 99, 104]) (len := 36) (k := 2) (off := 46) (tgt := 74) (by decide +kernel) (by decide) (by decide) (by decide) rfl (by decide) (fun _ => ?_) (fun h9 => ?_)
    · refine j_runA hx 1 (tb := [(74, .aload_n 3)]) (jtb_ok (by decide +kernel)) (pc' := 75) (lv' := [(3, vR v4), (0, vR t), (1, vI a1), (2, vI a2)]) (st' := [vR v4]) rfl ?_
      refine j_gd (fun h10 => ?_)
      refine j_getI hx flX0_364 kd1010 h10 (by decide) (by decide +kernel) ?_
      refine j_if_eq hx (off := 8) (tgt := 86) (by decide +kernel) (by decide) (fun _ => ?_) (fun _ => ?_)
      · refine j_runA hx 1 (tb := [(86, .iconst 0)]) (jtb_ok (by decide +kernel)) (pc' := 87) (lv' := [(3, vR v4), (0, vR t), (1, vI a1), (2, vI a2)]) (st' := [vI (kI 0)]) rfl ?_
        refine j_lv (lv' := [(0, vR t), (1, vI a1), (2, vI a2), (3, vR v4)]) ⟨rfl, rfl, rfl, rfl, trivial⟩ ?_
        exact wcl_told_87 h v4 (kI 0)
      refine j_runA hx 1 (tb := [(81, .bipush 8)]) (jtb_ok (by decide +kernel)) (pc' := 83) (lv' := [(3, vR v4), (0, vR t), (1, vI a1), (2, vI a2)]) (st' := [vI (kI 8)]) rfl ?_
      refine j_goto hx (off := 4) (by decide +kernel) (tgt := 87) (by decide) ?_
      refine j_lv (lv' := [(0, vR t), (1, vI a1), (2, vI a2), (3, vR v4)]) ⟨rfl, rfl, rfl, rfl, trivial⟩ ?_
      exact wcl_told_87 h v4 (kI 8)
    refine j_tab hx (dflt := 109) (lo := 0) (hi := 4) (offs := #[36, 41, 46, 99, 104]) (len := 36) (k := 3) (off := 99) (tgt := 127) (by decide +kernel) (by decide) (by decide) (by decide) rfl (by decide) (fun _ => ?_) (fun h11 => ?_)
    · refine j_runA hx 1 (tb := [(127, .aload_n 3)]) (jtb_ok (by decide +kernel)) (pc' := 128) (lv' := [(3, vR v4), (0, vR t), (1, vI a1), (2, vI a2)]) (st' := [vR v4]) rfl ?_
      refine j_gd (fun h12 => ?_)
      refine j_getI hx flX0_376 kd1017 h12 (by decide) (by decide +kernel) ?_
      exact j_iret hx hm (by decide +kernel) rfl (he _)
    refine j_tab hx (dflt := 109) (lo := 0) (hi := 4) (offs := #[36, 41, 46, 99, 104]) (len := 36) (k := 4) (off := 104) (tgt := 132) (by decide +kernel) (by decide) (by decide) (by decide) rfl (by decide) (fun _ => ?_) (fun h13 => ?_)
    · refine j_runA hx 1 (tb := [(132, .aload_n 3)]) (jtb_ok (by decide +kernel)) (pc' := 133) (lv' := [(3, vR v4), (0, vR t), (1, vI a1), (2, vI a2)]) (st' := [vR v4]) rfl ?_
      refine j_gd (fun h14 => ?_)
      refine j_getI hx flX0_378 kd1018 h14 (by decide) (by decide +kernel) ?_
      exact j_iret hx hm (by decide +kernel) rfl (he _)
    refine j_tabD hx (dflt := 109) (lo := 0) (hi := 4) (offs := #[36, 41, 46, 99, 104]) (len := 36) (tgt := 137) (by decide +kernel) (by decide) (fun i hi => by
      match i, hi with
      | 0, _ => exact Or.inr h5
      | 1, _ => exact Or.inr h7
      | 2, _ => exact Or.inr h9
      | 3, _ => exact Or.inr h11
      | 4, _ => exact Or.inr h13
      | n + 5, h => exact absurd h (by omega)) ?_
    refine j_runA hx 1 (tb := [(137, .aload_n 3)]) (jtb_ok (by decide +kernel)) (pc' := 138) (lv' := [(3, vR v4), (0, vR t), (1, vI a1), (2, vI a2)]) (st' := [vR v4]) rfl ?_
    refine j_gd (fun h15 => ?_)
    refine j_getI hx flX0_381 kd1019 h15 (by decide) (by decide +kernel) ?_
    exact j_iret hx hm (by decide +kernel) rfl (he _)
  exact wcl_told_17 h
theorem ccl_told (t : Nat) (a1 : Int32) (a2 : Int32) (W : jW) : jM yX0_told cX0_told 4 (Option.some Jvm.ClassFile.FieldType.int) [] 1 13 [vR t, vI a1, vI a2] W ((fcl_told t a1 a2 W).bind (fun q => some (.returned (some (.int q)), W))) := 
  jM.of (Nat.le_of_ble_eq_true rfl) (fun x hx hm hr => wcl_told ⟨hx, hm, hr, fun _ => rfl⟩)
def hcl_isRegister (x : jCx) (en : (Int32) → Option (Outcome × jW)) (t : Nat) (a1 : Int32) (a2 : Int32) (W : jW) : Prop :=
  jOK x RX0 cX0_isRegister 3 ∧
  jMt x "isRegister" (Option.some Jvm.ClassFile.FieldType.boolean) [] ∧
  jRm x 1 13 ∧
  (∀ q : Int32, en q = some (.returned (some (.int q)), W))
theorem wcl_isRegister_22 {x : jCx} {en : (Int32) → Option (Outcome × jW)} {W : jW} {t : Nat} {a1 : Int32} {a2 : Int32} (h : hcl_isRegister x en t a1 a2 W) : jJ x 3 22 [(0, vR t), (1, vI a1), (2, vI a2)] [] W (fcl_isRegister_22 t a1 a2 W) en := by
  have h0 := h
  obtain ⟨hx, hm, hr, he⟩ := h0
  unfold fcl_isRegister_22
  refine j_runA hx 1 (tb := [(22, .iconst 0)]) (jtb_ok (by decide +kernel)) (pc' := 23) (lv' := [(0, vR t), (1, vI a1), (2, vI a2)]) (st' := [vI (kI 0)]) rfl ?_
  exact j_iret hx hm (by decide +kernel) jz0n (he _)
theorem wcl_isRegister {x : jCx} {en : (Int32) → Option (Outcome × jW)} {W : jW} {t : Nat} {a1 : Int32} {a2 : Int32} (h : hcl_isRegister x en t a1 a2 W) : jJ x 3 0 [(0, vR t), (1, vI a1), (2, vI a2)] [] W (fcl_isRegister t a1 a2 W) en := by
  have h0 := h
  obtain ⟨hx, hm, hr, he⟩ := h0
  unfold fcl_isRegister
  refine j_runA hx 2 (tb := [(0, .aload_n 0), (1, .iload_n 1)]) (jtb_ok (by decide +kernel)) (pc' := 2) (lv' := [(0, vR t), (1, vI a1), (2, vI a2)]) (st' := [vI a1, vR t]) rfl ?_
  refine j_gd (fun h1 => ?_)
  refine j_OI (j_callV (av := [vI a1]) (st := []) hx hr (Or.inl q2266) q2268 qs118 rfl md_fcl_isRun np_fcl_isRun (ccl_isRun t a1 W) (by decide) (Nat.le_of_ble_eq_true rfl) h1 (by decide) (by decide +kernel)) (fun q2 _ => ?_)
  refine j_if_eq hx (off := 17) (tgt := 22) (by decide +kernel) (by decide) (fun _ => ?_) (fun _ => ?_)
  · exact wcl_isRegister_22 h
  refine j_runA hx 1 (tb := [(8, .iload_n 2)]) (jtb_ok (by decide +kernel)) (pc' := 9) (lv' := [(0, vR t), (1, vI a1), (2, vI a2)]) (st' := [vI a2]) rfl ?_
  refine j_if_lt hx (off := 13) (tgt := 22) (by decide +kernel) (by decide) (fun _ => ?_) (fun _ => ?_)
  · exact wcl_isRegister_22 h
  refine j_runA hx 2 (tb := [(12, .iload_n 2), (13, .bipush 31)]) (jtb_ok (by decide +kernel)) (pc' := 15) (lv' := [(0, vR t), (1, vI a1), (2, vI a2)]) (st' := [vI (kI 31), vI a2]) rfl ?_
  refine j_icmp_gt hx (off := 7) (tgt := 22) (by decide +kernel) (by decide) (fun _ => ?_) (fun _ => ?_)
  · exact wcl_isRegister_22 h
  refine j_runA hx 1 (tb := [(18, .iconst 1)]) (jtb_ok (by decide +kernel)) (pc' := 19) (lv' := [(0, vR t), (1, vI a1), (2, vI a2)]) (st' := [vI (kI 1)]) rfl ?_
  refine j_goto hx (off := 4) (by decide +kernel) (tgt := 23) (by decide) ?_
  exact j_iret hx hm (by decide +kernel) jz1n (he _)
theorem ccl_isRegister (t : Nat) (a1 : Int32) (a2 : Int32) (W : jW) : jM yX0_isRegister cX0_isRegister 3 (Option.some Jvm.ClassFile.FieldType.boolean) [] 1 13 [vR t, vI a1, vI a2] W ((fcl_isRegister t a1 a2 W).bind (fun q => some (.returned (some (.int q)), W))) := 
  jM.of (Nat.le_of_ble_eq_true rfl) (fun x hx hm hr => wcl_isRegister ⟨hx, hm, hr, fun _ => rfl⟩)
def hcl_register (x : jCx) (en : (Int64) → Option (Outcome × jW)) (t : Nat) (a1 : Int32) (a2 : Int32) (W : jW) : Prop :=
  jOK x RX0 cX0_register 3 ∧
  jMt x "register" (Option.some Jvm.ClassFile.FieldType.long) [] ∧
  jRm x 2 27 ∧
  (∀ q : Int64, en q = some (.returned (some (.long q)), W))
theorem wcl_register_24 {x : jCx} {en : (Int64) → Option (Outcome × jW)} {W : jW} {t : Nat} {a1 : Int32} {a2 : Int32} (h : hcl_register x en t a1 a2 W) : jJ x 3 24 [(0, vR t), (1, vI a1), (2, vI a2)] [] W (fcl_register_24 t a1 a2 W) en := by
  have h0 := h
  obtain ⟨hx, hm, hr, he⟩ := h0
  unfold fcl_register_24
  refine j_runA hx 1 (tb := [(24, .lconst 0)]) (jtb_ok (by decide +kernel)) (pc' := 25) (lv' := [(0, vR t), (1, vI a1), (2, vI a2)]) (st' := [vL (kJ 0)]) rfl ?_
  refine j_goto hx (off := 14) (by decide +kernel) (tgt := 39) (by decide) ?_
  exact j_lret hx hm (by decide +kernel) (he _)
theorem wcl_register {x : jCx} {en : (Int64) → Option (Outcome × jW)} {W : jW} {t : Nat} {a1 : Int32} {a2 : Int32} (h : hcl_register x en t a1 a2 W) : jJ x 3 0 [(0, vR t), (1, vI a1), (2, vI a2)] [] W (fcl_register t a1 a2 W) en := by
  have h0 := h
  obtain ⟨hx, hm, hr, he⟩ := h0
  unfold fcl_register
  refine j_runA hx 3 (tb := [(0, .aload_n 0), (1, .iload_n 1), (2, .iload_n 2)]) (jtb_ok (by decide +kernel)) (pc' := 3) (lv' := [(0, vR t), (1, vI a1), (2, vI a2)]) (st' := [vI a2, vI a1, vR t]) rfl ?_
  refine j_gd (fun h1 => ?_)
  refine j_OI (j_callV (av := [vI a1, vI a2]) (st := []) hx hr (Or.inl q2274) q2276 qs119 rfl md_fcl_isRegister np_fcl_isRegister (ccl_isRegister t a1 a2 W) (by decide) (Nat.le_of_ble_eq_true rfl) h1 (by decide) (by decide +kernel)) (fun q2 _ => ?_)
  refine j_if_eq hx (off := 18) (tgt := 24) (by decide +kernel) (by decide) (fun _ => ?_) (fun _ => ?_)
  · exact wcl_register_24 h
  refine j_runA hx 1 (tb := [(9, .aload_n 0)]) (jtb_ok (by decide +kernel)) (pc' := 10) (lv' := [(0, vR t), (1, vI a1), (2, vI a2)]) (st' := [vR t]) rfl ?_
  refine j_getR hx flX0_51 kl114 h1 (by decide) (by decide +kernel) ?_
  refine j_runA hx 1 (tb := [(13, .iload_n 1)]) (jtb_ok (by decide +kernel)) (pc' := 14) (lv' := [(0, vR t), (1, vI a1), (2, vI a2)]) (st' := [vI a1, vR (jR W 114 t)]) rfl ?_
  refine j_gd (fun h3 => ?_)
  refine j_aald hx (f := 114) (o := t) kd114 rfl (by decide +kernel) h3 ?_
  refine j_gd (fun h4 => ?_)
  refine j_getR hx flX0_387 kl1008 h4 (by decide) (by decide +kernel) ?_
  refine j_runA hx 1 (tb := [(18, .iload_n 2)]) (jtb_ok (by decide +kernel)) (pc' := 19) (lv' := [(0, vR t), (1, vI a1), (2, vI a2)]) (st' := [vI a2, vR (jR W 1008 (jE W 114 t (ix a1)))]) rfl ?_
  refine j_gd (fun h5 => ?_)
  refine j_iald hx (f := 1008) (o := (jE W 114 t (ix a1))) kd1008 rfl (by decide +kernel) h5 ?_
  refine j_runA hx 1 (tb := [(20, .iconst 3)]) (jtb_ok (by decide +kernel)) (pc' := 21) (lv' := [(0, vR t), (1, vI a1), (2, vI a2)]) (st' := [vI (kI 3), vI (jA W 1008 (jE W 114 t (ix a1)) (ix a2))]) rfl ?_
  refine j_icmp_ne hx (off := 7) (tgt := 28) (by decide +kernel) (by decide) (fun _ => ?_) (fun _ => ?_)
  · refine j_runA hx 1 (tb := [(28, .aload_n 0)]) (jtb_ok (by decide +kernel)) (pc' := 29) (lv' := [(0, vR t), (1, vI a1), (2, vI a2)]) (st' := [vR t]) rfl ?_
    refine j_getR hx flX0_51 kl114 h1 (by decide) (by decide +kernel) ?_
    refine j_runA hx 1 (tb := [(32, .iload_n 1)]) (jtb_ok (by decide +kernel)) (pc' := 33) (lv' := [(0, vR t), (1, vI a1), (2, vI a2)]) (st' := [vI a1, vR (jR W 114 t)]) rfl ?_
    refine j_gd (fun h6 => ?_)
    refine j_aald hx (f := 114) (o := t) kd114 rfl (by decide +kernel) h6 ?_
    refine j_getR hx flX0_390 kl1007 h4 (by decide) (by decide +kernel) ?_
    refine j_runA hx 1 (tb := [(37, .iload_n 2)]) (jtb_ok (by decide +kernel)) (pc' := 38) (lv' := [(0, vR t), (1, vI a1), (2, vI a2)]) (st' := [vI a2, vR (jR W 1007 (jE W 114 t (ix a1)))]) rfl ?_
    refine j_gd (fun h7 => ?_)
    refine j_lald hx (f := 1007) (o := (jE W 114 t (ix a1))) kd1007 rfl (by decide +kernel) h7 ?_
    exact j_lret hx hm (by decide +kernel) (he _)
  exact wcl_register_24 h
theorem ccl_register (t : Nat) (a1 : Int32) (a2 : Int32) (W : jW) : jM yX0_register cX0_register 3 (Option.some Jvm.ClassFile.FieldType.long) [] 2 27 [vR t, vI a1, vI a2] W ((fcl_register t a1 a2 W).bind (fun q => some (.returned (some (.long q)), W))) := 
  jM.of (Nat.le_of_ble_eq_true rfl) (fun x hx hm hr => wcl_register ⟨hx, hm, hr, fun _ => rfl⟩)
def hcl_kind (x : jCx) (en : (Int32) → Option (Outcome × jW)) (t : Nat) (a1 : Int32) (W : jW) : Prop :=
  jOK x RX0 cX0_kind 2 ∧
  jMt x "kind" (Option.some Jvm.ClassFile.FieldType.int) [] ∧
  jRm x 2 27 ∧
  (∀ q : Int32, en q = some (.returned (some (.int q)), W))
theorem wcl_kind {x : jCx} {en : (Int32) → Option (Outcome × jW)} {W : jW} {t : Nat} {a1 : Int32} (h : hcl_kind x en t a1 W) : jJ x 2 0 [(0, vR t), (1, vI a1)] [] W (fcl_kind t a1 W) en := by
  have h0 := h
  obtain ⟨hx, hm, hr, he⟩ := h0
  unfold fcl_kind
  refine j_runA hx 3 (tb := [(0, .aload_n 0), (1, .iconst 1), (2, .iload_n 1)]) (jtb_ok (by decide +kernel)) (pc' := 3) (lv' := [(0, vR t), (1, vI a1)]) (st' := [vI a1, vI (kI 1), vR t]) rfl ?_
  refine j_gd (fun h1 => ?_)
  refine j_OI (j_callV (av := [vI (kI 1), vI a1]) (st := []) hx hr (Or.inl q2274) q2276 qs119 rfl md_fcl_isRegister np_fcl_isRegister (ccl_isRegister t (kI 1) a1 W) (by decide) (Nat.le_of_ble_eq_true rfl) h1 (by decide) (by decide +kernel)) (fun q2 _ => ?_)
  refine j_if_eq hx (off := 17) (tgt := 23) (by decide +kernel) (by decide) (fun _ => ?_) (fun _ => ?_)
  · refine j_runA hx 1 (tb := [(23, .iconst (-1))]) (jtb_ok (by decide +kernel)) (pc' := 24) (lv' := [(0, vR t), (1, vI a1)]) (st' := [vI (kI (-1))]) rfl ?_
    exact j_iret hx hm (by decide +kernel) rfl (he _)
  refine j_runA hx 1 (tb := [(9, .aload_n 0)]) (jtb_ok (by decide +kernel)) (pc' := 10) (lv' := [(0, vR t), (1, vI a1)]) (st' := [vR t]) rfl ?_
  refine j_getR hx flX0_51 kl114 h1 (by decide) (by decide +kernel) ?_
  refine j_runA hx 1 (tb := [(13, .iconst 1)]) (jtb_ok (by decide +kernel)) (pc' := 14) (lv' := [(0, vR t), (1, vI a1)]) (st' := [vI (kI 1), vR (jR W 114 t)]) rfl ?_
  refine j_gd (fun h3 => ?_)
  refine j_aald hx (f := 114) (o := t) kd114 rfl (by decide +kernel) h3 ?_
  refine j_gd (fun h4 => ?_)
  refine j_getR hx flX0_387 kl1008 h4 (by decide) (by decide +kernel) ?_
  refine j_runA hx 1 (tb := [(18, .iload_n 1)]) (jtb_ok (by decide +kernel)) (pc' := 19) (lv' := [(0, vR t), (1, vI a1)]) (st' := [vI a1, vR (jR W 1008 (jE W 114 t (ix (kI 1))))]) rfl ?_
  refine j_gd (fun h5 => ?_)
  refine j_iald hx (f := 1008) (o := (jE W 114 t (ix (kI 1)))) kd1008 rfl (by decide +kernel) h5 ?_
  refine j_goto hx (off := 4) (by decide +kernel) (tgt := 24) (by decide) ?_
  exact j_iret hx hm (by decide +kernel) rfl (he _)
theorem ccl_kind (t : Nat) (a1 : Int32) (W : jW) : jM yX0_kind cX0_kind 2 (Option.some Jvm.ClassFile.FieldType.int) [] 2 27 [vR t, vI a1] W ((fcl_kind t a1 W).bind (fun q => some (.returned (some (.int q)), W))) := 
  jM.of (Nat.le_of_ble_eq_true rfl) (fun x hx hm hr => wcl_kind ⟨hx, hm, hr, fun _ => rfl⟩)
def hcl_newOf (x : jCx) (en : (Int64) → Option (Outcome × jW)) (t : Nat) (a1 : Int32) (a2 : Int32) (W : jW) : Prop :=
  jOK x RX0 cX0_newOf 3 ∧
  jMt x "newOf" (Option.some Jvm.ClassFile.FieldType.long) [] ∧
  jRm x 4 52 ∧
  (∀ q : Int64, en q = some (.returned (some (.long q)), W))
theorem wcl_newOf {x : jCx} {en : (Int64) → Option (Outcome × jW)} {W : jW} {t : Nat} {a1 : Int32} {a2 : Int32} (h : hcl_newOf x en t a1 a2 W) : jJ x 3 0 [(0, vR t), (1, vI a1), (2, vI a2)] [] W (fcl_newOf t a1 a2 W) en := by
  have h0 := h
  obtain ⟨hx, hm, hr, he⟩ := h0
  unfold fcl_newOf
  refine j_runA hx 2 (tb := [(0, .iload_n 1), (1, .iconst 3)]) (jtb_ok (by decide +kernel)) (pc' := 2) (lv' := [(0, vR t), (1, vI a1), (2, vI a2)]) (st' := [vI (kI 3), vI a1]) rfl ?_
  refine j_icmp_ne hx (off := 5) (tgt := 7) (by decide +kernel) (by decide) (fun _ => ?_) (fun _ => ?_)
  · refine j_runA hx 2 (tb := [(7, .iload_n 1), (8, .iconst 1)]) (jtb_ok (by decide +kernel)) (pc' := 9) (lv' := [(0, vR t), (1, vI a1), (2, vI a2)]) (st' := [vI (kI 1), vI a1]) rfl ?_
    refine j_icmp_ne hx (off := 41) (tgt := 50) (by decide +kernel) (by decide) (fun _ => ?_) (fun _ => ?_)
    · refine j_runA hx 1 (tb := [(50, .aload_n 0)]) (jtb_ok (by decide +kernel)) (pc' := 51) (lv' := [(0, vR t), (1, vI a1), (2, vI a2)]) (st' := [vR t]) rfl ?_
      refine j_gd (fun h1 => ?_)
      refine j_getI hx flX0_132 kd107 h1 (by decide) (by decide +kernel) ?_
      refine j_if_eq hx (off := 14) (tgt := 68) (by decide +kernel) (by decide) (fun _ => ?_) (fun _ => ?_)
      · refine j_runA hx 1 (tb := [(68, .aload_n 0)]) (jtb_ok (by decide +kernel)) (pc' := 69) (lv' := [(0, vR t), (1, vI a1), (2, vI a2)]) (st' := [vR t]) rfl ?_
        refine j_getR hx flX0_29 kl104 h1 (by decide) (by decide +kernel) ?_
        refine j_runA hx 1 (tb := [(72, .aload_n 0)]) (jtb_ok (by decide +kernel)) (pc' := 73) (lv' := [(0, vR t), (1, vI a1), (2, vI a2)]) (st' := [vR t, vR (jR W 104 t)]) rfl ?_
        refine j_getR hx flX0_29 kl104 h1 (by decide) (by decide +kernel) ?_
        refine j_runA hx 1 (tb := [(76, .iload_n 2)]) (jtb_ok (by decide +kernel)) (pc' := 77) (lv' := [(0, vR t), (1, vI a1), (2, vI a2)]) (st' := [vI a2, vR (jR W 104 t), vR (jR W 104 t)]) rfl ?_
        refine j_gd (fun h2 => ?_)
        refine j_OI (j_callV (av := [vI a2]) (st := [vR (jR W 104 t)]) hx hr (Or.inl q1651) q1129 q1130 rfl md_fpg_lastWord np_fpg_lastWord (cpg_lastWord (jR W 104 t) a2 W) (by decide) (Nat.le_of_ble_eq_true rfl) h2 (by decide) (by decide +kernel)) (fun q3 _ => ?_)
        refine j_runA hx 2 (tb := [(80, .iconst 1), (81, .iadd)]) (jtb_ok (by decide +kernel)) (pc' := 82) (lv' := [(0, vR t), (1, vI a1), (2, vI a2)]) (st' := [vI (q3 + (kI 1)), vR (jR W 104 t)]) rfl ?_
        refine j_OL (j_callV (av := [vI (q3 + (kI 1))]) (st := []) hx hr (Or.inl q1608) q1609 q1610 rfl md_fpg_addressOf np_fpg_addressOf (cpg_addressOf (jR W 104 t) (q3 + (kI 1)) W) (by decide) (Nat.le_of_ble_eq_true rfl) h2 (by decide) (by decide +kernel)) (fun q4 _ => ?_)
        exact j_lret hx hm (by decide +kernel) (he _)
      refine j_runA hx 1 (tb := [(57, .aload_n 0)]) (jtb_ok (by decide +kernel)) (pc' := 58) (lv' := [(0, vR t), (1, vI a1), (2, vI a2)]) (st' := [vR t]) rfl ?_
      refine j_getR hx flX0_175 kl112 h1 (by decide) (by decide +kernel) ?_
      refine j_runA hx 1 (tb := [(61, .iload_n 2)]) (jtb_ok (by decide +kernel)) (pc' := 62) (lv' := [(0, vR t), (1, vI a1), (2, vI a2)]) (st' := [vI a2, vR (jR W 112 t)]) rfl ?_
      refine j_gd (fun h5 => ?_)
      refine j_OL (j_callV (av := [vI a2]) (st := []) hx hr (Or.inl q2291) q2259 q2260 rfl md_fwr_behindEnd np_fwr_behindEnd (cwr_behindEnd (jR W 112 t) a2 W) (by decide) (Nat.le_of_ble_eq_true rfl) h5 (by decide) (by decide +kernel)) (fun q6 _ => ?_)
      refine j_goto hx (off := 20) (by decide +kernel) (tgt := 85) (by decide) ?_
      exact j_lret hx hm (by decide +kernel) (he _)
    refine j_runA hx 1 (tb := [(12, .aload_n 0)]) (jtb_ok (by decide +kernel)) (pc' := 13) (lv' := [(0, vR t), (1, vI a1), (2, vI a2)]) (st' := [vR t]) rfl ?_
    refine j_gd (fun h7 => ?_)
    refine j_getI hx flX0_132 kd107 h7 (by decide) (by decide +kernel) ?_
    refine j_if_eq hx (off := 14) (tgt := 30) (by decide +kernel) (by decide) (fun _ => ?_) (fun _ => ?_)
    · refine j_runA hx 1 (tb := [(30, .aload_n 0)]) (jtb_ok (by decide +kernel)) (pc' := 31) (lv' := [(0, vR t), (1, vI a1), (2, vI a2)]) (st' := [vR t]) rfl ?_
      refine j_getR hx flX0_29 kl104 h7 (by decide) (by decide +kernel) ?_
      refine j_runA hx 1 (tb := [(34, .aload_n 0)]) (jtb_ok (by decide +kernel)) (pc' := 35) (lv' := [(0, vR t), (1, vI a1), (2, vI a2)]) (st' := [vR t, vR (jR W 104 t)]) rfl ?_
      refine j_getR hx flX0_29 kl104 h7 (by decide) (by decide +kernel) ?_
      refine j_gd (fun h8 => ?_)
      refine j_getR hx flX0_238 kl213 h8 (by decide) (by decide +kernel) ?_
      refine j_gd (fun h9 => ?_)
      refine j_getR hx flX0_214 kl600 h9 (by decide) (by decide +kernel) ?_
      refine j_runA hx 1 (tb := [(44, .iload_n 2)]) (jtb_ok (by decide +kernel)) (pc' := 45) (lv' := [(0, vR t), (1, vI a1), (2, vI a2)]) (st' := [vI a2, vR (jR W 600 (jR W 213 (jR W 104 t))), vR (jR W 104 t)]) rfl ?_
      refine j_gd (fun h10 => ?_)
      refine j_iald hx (f := 600) (o := (jR W 213 (jR W 104 t))) kd600 rfl (by decide +kernel) h10 ?_
      refine j_OL (j_callV (av := [vI (jA W 600 (jR W 213 (jR W 104 t)) (ix a2))]) (st := []) hx hr (Or.inl q1608) q1609 q1610 rfl md_fpg_addressOf np_fpg_addressOf (cpg_addressOf (jR W 104 t) (jA W 600 (jR W 213 (jR W 104 t)) (ix a2)) W) (by decide) (Nat.le_of_ble_eq_true rfl) h8 (by decide) (by decide +kernel)) (fun q11 _ => ?_)
      exact j_lret hx hm (by decide +kernel) (he _)
    refine j_runA hx 1 (tb := [(19, .aload_n 0)]) (jtb_ok (by decide +kernel)) (pc' := 20) (lv' := [(0, vR t), (1, vI a1), (2, vI a2)]) (st' := [vR t]) rfl ?_
    refine j_getR hx flX0_175 kl112 h7 (by decide) (by decide +kernel) ?_
    refine j_runA hx 1 (tb := [(23, .iload_n 2)]) (jtb_ok (by decide +kernel)) (pc' := 24) (lv' := [(0, vR t), (1, vI a1), (2, vI a2)]) (st' := [vI a2, vR (jR W 112 t)]) rfl ?_
    refine j_gd (fun h12 => ?_)
    refine j_OL (j_callV (av := [vI a2]) (st := []) hx hr (Or.inl q2290) q1843 q1844 rfl md_fwr_addressOf np_fwr_addressOf (cwr_addressOf (jR W 112 t) a2 W) (by decide) (Nat.le_of_ble_eq_true rfl) h12 (by decide) (by decide +kernel)) (fun q13 _ => ?_)
    refine j_goto hx (off := 22) (by decide +kernel) (tgt := 49) (by decide) ?_
    exact j_lret hx hm (by decide +kernel) (he _)
  refine j_runA hx 1 (tb := [(5, .lconst 0)]) (jtb_ok (by decide +kernel)) (pc' := 6) (lv' := [(0, vR t), (1, vI a1), (2, vI a2)]) (st' := [vL (kJ 0)]) rfl ?_
  exact j_lret hx hm (by decide +kernel) (he _)
theorem ccl_newOf (t : Nat) (a1 : Int32) (a2 : Int32) (W : jW) : jM yX0_newOf cX0_newOf 3 (Option.some Jvm.ClassFile.FieldType.long) [] 4 52 [vR t, vI a1, vI a2] W ((fcl_newOf t a1 a2 W).bind (fun q => some (.returned (some (.long q)), W))) := 
  jM.of (Nat.le_of_ble_eq_true rfl) (fun x hx hm hr => wcl_newOf ⟨hx, hm, hr, fun _ => rfl⟩)
def hcl_newer (x : jCx) (en : (Int64) → Option (Outcome × jW)) (t : Nat) (a1 : Int32) (W : jW) : Prop :=
  jOK x RX0 cX0_newer 3 ∧
  jMt x "newer" (Option.some Jvm.ClassFile.FieldType.long) [] ∧
  jRm x 5 66 ∧
  (∀ q : Int64, en q = some (.returned (some (.long q)), W))
theorem wcl_newer {x : jCx} {en : (Int64) → Option (Outcome × jW)} {W : jW} {t : Nat} {a1 : Int32} (h : hcl_newer x en t a1 W) : jJ x 3 0 [(0, vR t), (1, vI a1)] [] W (fcl_newer t a1 W) en := by
  have h0 := h
  obtain ⟨hx, hm, hr, he⟩ := h0
  unfold fcl_newer
  refine j_runA hx 3 (tb := [(0, .aload_n 0), (1, .iconst 1), (2, .iload_n 1)]) (jtb_ok (by decide +kernel)) (pc' := 3) (lv' := [(0, vR t), (1, vI a1)]) (st' := [vI a1, vI (kI 1), vR t]) rfl ?_
  refine j_gd (fun h1 => ?_)
  refine j_OI (j_callV (av := [vI (kI 1), vI a1]) (st := []) hx hr (Or.inl q2274) q2276 qs119 rfl md_fcl_isRegister np_fcl_isRegister (ccl_isRegister t (kI 1) a1 W) (by decide) (Nat.le_of_ble_eq_true rfl) h1 (by decide) (by decide +kernel)) (fun q2 _ => ?_)
  refine j_if_ne hx (off := 5) (tgt := 11) (by decide +kernel) (by decide) (fun _ => ?_) (fun _ => ?_)
  · refine j_runA hx 1 (tb := [(11, .aload_n 0)]) (jtb_ok (by decide +kernel)) (pc' := 12) (lv' := [(0, vR t), (1, vI a1)]) (st' := [vR t]) rfl ?_
    refine j_getR hx flX0_51 kl114 h1 (by decide) (by decide +kernel) ?_
    refine j_runA hx 1 (tb := [(15, .iconst 1)]) (jtb_ok (by decide +kernel)) (pc' := 16) (lv' := [(0, vR t), (1, vI a1)]) (st' := [vI (kI 1), vR (jR W 114 t)]) rfl ?_
    refine j_gd (fun h3 => ?_)
    refine j_aald hx (f := 114) (o := t) kd114 rfl (by decide +kernel) h3 ?_
    refine j_gd (fun h4 => ?_)
    refine j_getR hx flX0_387 kl1008 h4 (by decide) (by decide +kernel) ?_
    refine j_runA hx 1 (tb := [(20, .iload_n 1)]) (jtb_ok (by decide +kernel)) (pc' := 21) (lv' := [(0, vR t), (1, vI a1)]) (st' := [vI a1, vR (jR W 1008 (jE W 114 t (ix (kI 1))))]) rfl ?_
    refine j_gd (fun h5 => ?_)
    refine j_iald hx (f := 1008) (o := (jE W 114 t (ix (kI 1)))) kd1008 rfl (by decide +kernel) h5 ?_
    refine j_runA hx 1 (tb := [(22, .istore_n 2)]) (jtb_ok (by decide +kernel)) (pc' := 23) (lv' := [(2, vI (jA W 1008 (jE W 114 t (ix (kI 1))) (ix a1))), (0, vR t), (1, vI a1)]) (st' := []) rfl ?_
    refine j_let (v := (jA W 1008 (jE W 114 t (ix (kI 1))) (ix a1))) (lv := fun v6 => [(2, vI v6), (0, vR t), (1, vI a1)]) (st := fun _ => []) (fun v6 => ?_)
    refine j_runA hx 1 (tb := [(23, .iload_n 2)]) (jtb_ok (by decide +kernel)) (pc' := 24) (lv' := [(2, vI v6), (0, vR t), (1, vI a1)]) (st' := [vI v6]) rfl ?_
    refine j_if_ne hx (off := 17) (tgt := 41) (by decide +kernel) (by decide) (fun _ => ?_) (fun _ => ?_)
    · refine j_runA hx 3 (tb := [(41, .aload_n 0), (42, .iload_n 2), (43, .aload_n 0)]) (jtb_ok (by decide +kernel)) (pc' := 44) (lv' := [(2, vI v6), (0, vR t), (1, vI a1)]) (st' := [vR t, vI v6, vR t]) rfl ?_
      refine j_getR hx flX0_51 kl114 h1 (by decide) (by decide +kernel) ?_
      refine j_runA hx 1 (tb := [(47, .iconst 1)]) (jtb_ok (by decide +kernel)) (pc' := 48) (lv' := [(2, vI v6), (0, vR t), (1, vI a1)]) (st' := [vI (kI 1), vR (jR W 114 t), vI v6, vR t]) rfl ?_
      refine j_gd (fun h7 => ?_)
      refine j_aald hx (f := 114) (o := t) kd114 rfl (by decide +kernel) h7 ?_
      refine j_getR hx flX0_397 kl1009 h4 (by decide) (by decide +kernel) ?_
      refine j_runA hx 1 (tb := [(52, .iload_n 1)]) (jtb_ok (by decide +kernel)) (pc' := 53) (lv' := [(2, vI v6), (0, vR t), (1, vI a1)]) (st' := [vI a1, vR (jR W 1009 (jE W 114 t (ix (kI 1)))), vI v6, vR t]) rfl ?_
      refine j_gd (fun h8 => ?_)
      refine j_iald hx (f := 1009) (o := (jE W 114 t (ix (kI 1)))) kd1009 rfl (by decide +kernel) h8 ?_
      refine j_OL (j_callV (av := [vI v6, vI (jA W 1009 (jE W 114 t (ix (kI 1))) (ix a1))]) (st := []) hx hr (Or.inl q2286) q2288 qs120 rfl md_fcl_newOf np_fcl_newOf (ccl_newOf t v6 (jA W 1009 (jE W 114 t (ix (kI 1))) (ix a1)) W) (by decide) (Nat.le_of_ble_eq_true rfl) h1 (by decide) (by decide +kernel)) (fun q9 _ => ?_)
      exact j_lret hx hm (by decide +kernel) (he _)
    refine j_runA hx 1 (tb := [(27, .aload_n 0)]) (jtb_ok (by decide +kernel)) (pc' := 28) (lv' := [(2, vI v6), (0, vR t), (1, vI a1)]) (st' := [vR t]) rfl ?_
    refine j_getR hx flX0_51 kl114 h1 (by decide) (by decide +kernel) ?_
    refine j_runA hx 1 (tb := [(31, .iconst 1)]) (jtb_ok (by decide +kernel)) (pc' := 32) (lv' := [(2, vI v6), (0, vR t), (1, vI a1)]) (st' := [vI (kI 1), vR (jR W 114 t)]) rfl ?_
    refine j_gd (fun h10 => ?_)
    refine j_aald hx (f := 114) (o := t) kd114 rfl (by decide +kernel) h10 ?_
    refine j_getR hx flX0_390 kl1007 h4 (by decide) (by decide +kernel) ?_
    refine j_runA hx 1 (tb := [(36, .iload_n 1)]) (jtb_ok (by decide +kernel)) (pc' := 37) (lv' := [(2, vI v6), (0, vR t), (1, vI a1)]) (st' := [vI a1, vR (jR W 1007 (jE W 114 t (ix (kI 1))))]) rfl ?_
    refine j_gd (fun h11 => ?_)
    refine j_lald hx (f := 1007) (o := (jE W 114 t (ix (kI 1)))) kd1007 rfl (by decide +kernel) h11 ?_
    refine j_goto hx (off := 19) (by decide +kernel) (tgt := 57) (by decide) ?_
    exact j_lret hx hm (by decide +kernel) (he _)
  refine j_runA hx 1 (tb := [(9, .lconst 0)]) (jtb_ok (by decide +kernel)) (pc' := 10) (lv' := [(0, vR t), (1, vI a1)]) (st' := [vL (kJ 0)]) rfl ?_
  exact j_lret hx hm (by decide +kernel) (he _)
theorem ccl_newer (t : Nat) (a1 : Int32) (W : jW) : jM yX0_newer cX0_newer 3 (Option.some Jvm.ClassFile.FieldType.long) [] 5 66 [vR t, vI a1] W ((fcl_newer t a1 W).bind (fun q => some (.returned (some (.long q)), W))) := 
  jM.of (Nat.le_of_ble_eq_true rfl) (fun x hx hm hr => wcl_newer ⟨hx, hm, hr, fun _ => rfl⟩)
def hcl_visit (x : jCx) (en : (Int32) → Option (Outcome × jW)) (t : Nat) (a1 : Int32) (a2 : Int32) (W : jW) : Prop :=
  jOK x RX0 cX0_visit 3 ∧
  jMt x "visit" (Option.some Jvm.ClassFile.FieldType.int) [] ∧
  jRm x 1 13 ∧
  (∀ q : Int32, en q = some (.returned (some (.int q)), W))
theorem wcl_visit_39 {x : jCx} {en : (Int32) → Option (Outcome × jW)} {W : jW} {t : Nat} {a1 : Int32} {a2 : Int32} (h : hcl_visit x en t a1 a2 W) : jJ x 3 39 [(0, vR t), (1, vI a1), (2, vI a2)] [] W (fcl_visit_39 t a1 a2 W) en := by
  have h0 := h
  obtain ⟨hx, hm, hr, he⟩ := h0
  unfold fcl_visit_39
  refine j_runA hx 1 (tb := [(39, .iconst (-1))]) (jtb_ok (by decide +kernel)) (pc' := 40) (lv' := [(0, vR t), (1, vI a1), (2, vI a2)]) (st' := [vI (kI (-1))]) rfl ?_
  exact j_iret hx hm (by decide +kernel) rfl (he _)
theorem wcl_visit {x : jCx} {en : (Int32) → Option (Outcome × jW)} {W : jW} {t : Nat} {a1 : Int32} {a2 : Int32} (h : hcl_visit x en t a1 a2 W) : jJ x 3 0 [(0, vR t), (1, vI a1), (2, vI a2)] [] W (fcl_visit t a1 a2 W) en := by
  have h0 := h
  obtain ⟨hx, hm, hr, he⟩ := h0
  unfold fcl_visit
  refine j_runA hx 2 (tb := [(0, .aload_n 0), (1, .iload_n 1)]) (jtb_ok (by decide +kernel)) (pc' := 2) (lv' := [(0, vR t), (1, vI a1), (2, vI a2)]) (st' := [vI a1, vR t]) rfl ?_
  refine j_gd (fun h1 => ?_)
  refine j_OI (j_callV (av := [vI a1]) (st := []) hx hr (Or.inl q2266) q2268 qs118 rfl md_fcl_isRun np_fcl_isRun (ccl_isRun t a1 W) (by decide) (Nat.le_of_ble_eq_true rfl) h1 (by decide) (by decide +kernel)) (fun q2 _ => ?_)
  refine j_if_eq hx (off := 34) (tgt := 39) (by decide +kernel) (by decide) (fun _ => ?_) (fun _ => ?_)
  · exact wcl_visit_39 h
  refine j_runA hx 1 (tb := [(8, .iload_n 2)]) (jtb_ok (by decide +kernel)) (pc' := 9) (lv' := [(0, vR t), (1, vI a1), (2, vI a2)]) (st' := [vI a2]) rfl ?_
  refine j_if_lt hx (off := 30) (tgt := 39) (by decide +kernel) (by decide) (fun _ => ?_) (fun _ => ?_)
  · exact wcl_visit_39 h
  refine j_runA hx 2 (tb := [(12, .iload_n 2), (13, .aload_n 0)]) (jtb_ok (by decide +kernel)) (pc' := 14) (lv' := [(0, vR t), (1, vI a1), (2, vI a2)]) (st' := [vR t, vI a2]) rfl ?_
  refine j_getR hx flX0_51 kl114 h1 (by decide) (by decide +kernel) ?_
  refine j_runA hx 1 (tb := [(17, .iload_n 1)]) (jtb_ok (by decide +kernel)) (pc' := 18) (lv' := [(0, vR t), (1, vI a1), (2, vI a2)]) (st' := [vI a1, vR (jR W 114 t), vI a2]) rfl ?_
  refine j_gd (fun h3 => ?_)
  refine j_aald hx (f := 114) (o := t) kd114 rfl (by decide +kernel) h3 ?_
  refine j_gd (fun h4 => ?_)
  refine j_getI hx flX0_358 kd1015 h4 (by decide) (by decide +kernel) ?_
  refine j_icmp_ge hx (off := 17) (tgt := 39) (by decide +kernel) (by decide) (fun _ => ?_) (fun _ => ?_)
  · exact wcl_visit_39 h
  refine j_runA hx 1 (tb := [(25, .aload_n 0)]) (jtb_ok (by decide +kernel)) (pc' := 26) (lv' := [(0, vR t), (1, vI a1), (2, vI a2)]) (st' := [vR t]) rfl ?_
  refine j_getR hx flX0_51 kl114 h1 (by decide) (by decide +kernel) ?_
  refine j_runA hx 1 (tb := [(29, .iload_n 1)]) (jtb_ok (by decide +kernel)) (pc' := 30) (lv' := [(0, vR t), (1, vI a1), (2, vI a2)]) (st' := [vI a1, vR (jR W 114 t)]) rfl ?_
  refine j_gd (fun h5 => ?_)
  refine j_aald hx (f := 114) (o := t) kd114 rfl (by decide +kernel) h5 ?_
  refine j_getR hx flX0_403 kl1020 h4 (by decide) (by decide +kernel) ?_
  refine j_runA hx 1 (tb := [(34, .iload_n 2)]) (jtb_ok (by decide +kernel)) (pc' := 35) (lv' := [(0, vR t), (1, vI a1), (2, vI a2)]) (st' := [vI a2, vR (jR W 1020 (jE W 114 t (ix a1)))]) rfl ?_
  refine j_gd (fun h6 => ?_)
  refine j_iald hx (f := 1020) (o := (jE W 114 t (ix a1))) kd1020 rfl (by decide +kernel) h6 ?_
  refine j_goto hx (off := 4) (by decide +kernel) (tgt := 40) (by decide) ?_
  exact j_iret hx hm (by decide +kernel) rfl (he _)
theorem ccl_visit (t : Nat) (a1 : Int32) (a2 : Int32) (W : jW) : jM yX0_visit cX0_visit 3 (Option.some Jvm.ClassFile.FieldType.int) [] 1 13 [vR t, vI a1, vI a2] W ((fcl_visit t a1 a2 W).bind (fun q => some (.returned (some (.int q)), W))) := 
  jM.of (Nat.le_of_ble_eq_true rfl) (fun x hx hm hr => wcl_visit ⟨hx, hm, hr, fun _ => rfl⟩)
def hme_at (x : jCx) (en : (Int32) → Option (Outcome × jW)) (t : Nat) (a1 : Int64) (W : jW) : Prop :=
  jOK x RX17 cX17_at 4 ∧
  jMt x "at" (Option.some Jvm.ClassFile.FieldType.int) [] ∧
  jRm x 4 58 ∧
  (∀ q : Int32, en q = some (.returned (some (.int q)), W))
theorem wme_at {x : jCx} {en : (Int32) → Option (Outcome × jW)} {W : jW} {t : Nat} {a1 : Int64} (h : hme_at x en t a1 W) : jJ x 4 0 [(0, vR t), (1, vL a1)] [] W (fme_at t a1 W) en := by
  have h0 := h
  obtain ⟨hx, hm, hr, he⟩ := h0
  unfold fme_at
  refine j_runA hx 3 (tb := [(0, .aload_n 0), (1, .lload_n 1), (2, .iconst 1)]) (jtb_ok (by decide +kernel)) (pc' := 3) (lv' := [(0, vR t), (1, vL a1)]) (st' := [vI (kI 1), vL a1, vR t]) rfl ?_
  refine j_gd (fun h1 => ?_)
  refine j_OI (j_callV (av := [vL a1, vI (kI 1)]) (st := []) hx hr (Or.inl q2304) q2013 q2014 rfl md_fme_regionOf np_fme_regionOf (cme_regionOf t a1 (kI 1) W) (by decide) (Nat.le_of_ble_eq_true rfl) h1 (by decide) (by decide +kernel)) (fun q2 _ => ?_)
  refine j_runA hx 2 (tb := [(6, .istore_n 3), (7, .iload_n 3)]) (jtb_ok (by decide +kernel)) (pc' := 8) (lv' := [(3, vI q2), (0, vR t), (1, vL a1)]) (st' := [vI q2]) rfl ?_
  refine j_if_ge hx (off := 7) (tgt := 15) (by decide +kernel) (by decide) (fun _ => ?_) (fun _ => ?_)
  · refine j_runA hx 1 (tb := [(15, .aload_n 0)]) (jtb_ok (by decide +kernel)) (pc' := 16) (lv' := [(3, vI q2), (0, vR t), (1, vL a1)]) (st' := [vR t]) rfl ?_
    refine j_getR hx flX17_12 kl1202 h1 (by decide) (by decide +kernel) ?_
    refine j_runA hx 3 (tb := [(19, .aload_n 0), (20, .iload_n 3), (21, .lload_n 1)]) (jtb_ok (by decide +kernel)) (pc' := 22) (lv' := [(3, vI q2), (0, vR t), (1, vL a1)]) (st' := [vL a1, vI q2, vR t, vR (jR W 1202 t)]) rfl ?_
    refine j_OI (j_callV (av := [vI q2, vL a1]) (st := [vR (jR W 1202 t)]) hx hr (Or.inl q2201) q2203 qs108 rfl md_fme_placeOf np_fme_placeOf (cme_placeOf t q2 a1 W) (by decide) (Nat.le_of_ble_eq_true rfl) h1 (by decide) (by decide +kernel)) (fun q3 _ => ?_)
    refine j_gd (fun h4 => ?_)
    refine j_bald hx (f := 1202) (o := t) kd1202 rfl (by decide +kernel) h4 ?_
    refine j_runA hx 2 (tb := [(26, .sipush 255), (29, .iand)]) (jtb_ok (by decide +kernel)) (pc' := 30) (lv' := [(3, vI q2), (0, vR t), (1, vL a1)]) (st' := [vI ((jA W 1202 t (ix q3)) &&& (kI 255))]) rfl ?_
    exact j_iret hx hm (by decide +kernel) rfl (he _)
  refine j_runA hx 1 (tb := [(11, .iconst (-1))]) (jtb_ok (by decide +kernel)) (pc' := 12) (lv' := [(3, vI q2), (0, vR t), (1, vL a1)]) (st' := [vI (kI (-1))]) rfl ?_
  refine j_goto hx (off := 18) (by decide +kernel) (tgt := 30) (by decide) ?_
  exact j_iret hx hm (by decide +kernel) rfl (he _)
theorem cme_at (t : Nat) (a1 : Int64) (W : jW) : jM yX17_at cX17_at 4 (Option.some Jvm.ClassFile.FieldType.int) [] 4 58 [vR t, vL a1] W ((fme_at t a1 W).bind (fun q => some (.returned (some (.int q)), W))) := 
  jM.of (Nat.le_of_ble_eq_true rfl) (fun x hx hm hr => wme_at ⟨hx, hm, hr, fun _ => rfl⟩)
def hcl_memory (x : jCx) (en : (Int32) → Option (Outcome × jW)) (t : Nat) (a1 : Int32) (a2 : Int64) (W : jW) : Prop :=
  jOK x RX0 cX0_memory 4 ∧
  jMt x "memory" (Option.some Jvm.ClassFile.FieldType.int) [] ∧
  jRm x 5 73 ∧
  (∀ q : Int32, en q = some (.returned (some (.int q)), W))
theorem wcl_memory {x : jCx} {en : (Int32) → Option (Outcome × jW)} {W : jW} {t : Nat} {a1 : Int32} {a2 : Int64} (h : hcl_memory x en t a1 a2 W) : jJ x 4 0 [(0, vR t), (1, vI a1), (2, vL a2)] [] W (fcl_memory t a1 a2 W) en := by
  have h0 := h
  obtain ⟨hx, hm, hr, he⟩ := h0
  unfold fcl_memory
  refine j_runA hx 2 (tb := [(0, .aload_n 0), (1, .iload_n 1)]) (jtb_ok (by decide +kernel)) (pc' := 2) (lv' := [(0, vR t), (1, vI a1), (2, vL a2)]) (st' := [vI a1, vR t]) rfl ?_
  refine j_gd (fun h1 => ?_)
  refine j_OI (j_callV (av := [vI a1]) (st := []) hx hr (Or.inl q2266) q2268 qs118 rfl md_fcl_isRun np_fcl_isRun (ccl_isRun t a1 W) (by decide) (Nat.le_of_ble_eq_true rfl) h1 (by decide) (by decide +kernel)) (fun q2 _ => ?_)
  refine j_if_eq hx (off := 19) (tgt := 24) (by decide +kernel) (by decide) (fun _ => ?_) (fun _ => ?_)
  · refine j_runA hx 1 (tb := [(24, .iconst (-1))]) (jtb_ok (by decide +kernel)) (pc' := 25) (lv' := [(0, vR t), (1, vI a1), (2, vL a2)]) (st' := [vI (kI (-1))]) rfl ?_
    exact j_iret hx hm (by decide +kernel) rfl (he _)
  refine j_runA hx 1 (tb := [(8, .aload_n 0)]) (jtb_ok (by decide +kernel)) (pc' := 9) (lv' := [(0, vR t), (1, vI a1), (2, vL a2)]) (st' := [vR t]) rfl ?_
  refine j_getR hx flX0_51 kl114 h1 (by decide) (by decide +kernel) ?_
  refine j_runA hx 1 (tb := [(12, .iload_n 1)]) (jtb_ok (by decide +kernel)) (pc' := 13) (lv' := [(0, vR t), (1, vI a1), (2, vL a2)]) (st' := [vI a1, vR (jR W 114 t)]) rfl ?_
  refine j_gd (fun h3 => ?_)
  refine j_aald hx (f := 114) (o := t) kd114 rfl (by decide +kernel) h3 ?_
  refine j_gd (fun h4 => ?_)
  refine j_getR hx flX0_406 kl1005 h4 (by decide) (by decide +kernel) ?_
  refine j_runA hx 1 (tb := [(17, .lload_n 2)]) (jtb_ok (by decide +kernel)) (pc' := 18) (lv' := [(0, vR t), (1, vI a1), (2, vL a2)]) (st' := [vL a2, vR (jR W 1005 (jE W 114 t (ix a1)))]) rfl ?_
  refine j_gd (fun h5 => ?_)
  refine j_OI (j_callV (av := [vL a2]) (st := []) hx hr (Or.inl q2300) q2301 q2302 rfl md_fme_at np_fme_at (cme_at (jR W 1005 (jE W 114 t (ix a1))) a2 W) (by decide) (Nat.le_of_ble_eq_true rfl) h5 (by decide) (by decide +kernel)) (fun q6 _ => ?_)
  refine j_goto hx (off := 4) (by decide +kernel) (tgt := 25) (by decide) ?_
  exact j_iret hx hm (by decide +kernel) rfl (he _)
theorem ccl_memory (t : Nat) (a1 : Int32) (a2 : Int64) (W : jW) : jM yX0_memory cX0_memory 4 (Option.some Jvm.ClassFile.FieldType.int) [] 5 73 [vR t, vI a1, vL a2] W ((fcl_memory t a1 a2 W).bind (fun q => some (.returned (some (.int q)), W))) := 
  jM.of (Nat.le_of_ble_eq_true rfl) (fun x hx hm hr => wcl_memory ⟨hx, hm, hr, fun _ => rfl⟩)
def hcl_longAt (x : jCx) (en : (Int32) → Option (Outcome × jW)) (t : Nat) (a1 : Int64) (W : jW) : Prop :=
  jOK x RX0 cX0_longAt 3 ∧
  jMt x "longAt" (Option.some Jvm.ClassFile.FieldType.int) [] ∧
  jRm x 4 58 ∧
  (∀ q : Int32, en q = some (.returned (some (.int q)), W))
theorem wcl_longAt_36 {x : jCx} {en : (Int32) → Option (Outcome × jW)} {W : jW} {t : Nat} {a1 : Int64} (h : hcl_longAt x en t a1 W) : jJ x 3 36 [(0, vR t), (1, vL a1)] [] W (fcl_longAt_36 t a1 W) en := by
  have h0 := h
  obtain ⟨hx, hm, hr, he⟩ := h0
  unfold fcl_longAt_36
  refine j_runA hx 1 (tb := [(36, .iconst (-1))]) (jtb_ok (by decide +kernel)) (pc' := 37) (lv' := [(0, vR t), (1, vL a1)]) (st' := [vI (kI (-1))]) rfl ?_
  exact j_iret hx hm (by decide +kernel) rfl (he _)
theorem wcl_longAt {x : jCx} {en : (Int32) → Option (Outcome × jW)} {W : jW} {t : Nat} {a1 : Int64} (h : hcl_longAt x en t a1 W) : jJ x 3 0 [(0, vR t), (1, vL a1)] [] W (fcl_longAt t a1 W) en := by
  have h0 := h
  obtain ⟨hx, hm, hr, he⟩ := h0
  unfold fcl_longAt
  refine j_runA hx 2 (tb := [(0, .aload_n 0), (1, .iconst 1)]) (jtb_ok (by decide +kernel)) (pc' := 2) (lv' := [(0, vR t), (1, vL a1)]) (st' := [vI (kI 1), vR t]) rfl ?_
  refine j_gd (fun h1 => ?_)
  refine j_OI (j_callV (av := [vI (kI 1)]) (st := []) hx hr (Or.inl q2266) q2268 qs118 rfl md_fcl_isRun np_fcl_isRun (ccl_isRun t (kI 1) W) (by decide) (Nat.le_of_ble_eq_true rfl) h1 (by decide) (by decide +kernel)) (fun q2 _ => ?_)
  refine j_if_eq hx (off := 31) (tgt := 36) (by decide +kernel) (by decide) (fun _ => ?_) (fun _ => ?_)
  · exact wcl_longAt_36 h
  refine j_runA hx 1 (tb := [(8, .lload_n 1)]) (jtb_ok (by decide +kernel)) (pc' := 9) (lv' := [(0, vR t), (1, vL a1)]) (st' := [vL a1]) rfl ?_
  refine j_ldc2 hx (v := (kJ 8)) (jkd2 q2313 (by decide +kernel)) (by decide +kernel) ?_
  refine j_lrem hx (by decide +kernel) (by decide +kernel) ?_
  refine j_runA hx 1 (tb := [(13, .lconst 0)]) (jtb_ok (by decide +kernel)) (pc' := 14) (lv' := [(0, vR t), (1, vL a1)]) (st' := [vL (kJ 0), vL (lrm a1 (kJ 8))]) rfl ?_
  refine j_lcmp_ne hx (off := 21) (tgt := 36) (by decide +kernel) (by decide +kernel) (by decide) (fun _ => ?_) (fun _ => ?_)
  · exact wcl_longAt_36 h
  refine j_runA hx 1 (tb := [(18, .aload_n 0)]) (jtb_ok (by decide +kernel)) (pc' := 19) (lv' := [(0, vR t), (1, vL a1)]) (st' := [vR t]) rfl ?_
  refine j_getR hx flX0_51 kl114 h1 (by decide) (by decide +kernel) ?_
  refine j_runA hx 1 (tb := [(22, .iconst 1)]) (jtb_ok (by decide +kernel)) (pc' := 23) (lv' := [(0, vR t), (1, vL a1)]) (st' := [vI (kI 1), vR (jR W 114 t)]) rfl ?_
  refine j_gd (fun h3 => ?_)
  refine j_aald hx (f := 114) (o := t) kd114 rfl (by decide +kernel) h3 ?_
  refine j_gd (fun h4 => ?_)
  refine j_getR hx flX0_406 kl1005 h4 (by decide) (by decide +kernel) ?_
  refine j_runA hx 2 (tb := [(27, .lload_n 1), (28, .bipush 8)]) (jtb_ok (by decide +kernel)) (pc' := 30) (lv' := [(0, vR t), (1, vL a1)]) (st' := [vI (kI 8), vL a1, vR (jR W 1005 (jE W 114 t (ix (kI 1))))]) rfl ?_
  refine j_gd (fun h5 => ?_)
  refine j_OI (j_callV (av := [vL a1, vI (kI 8)]) (st := []) hx hr (Or.inl q2314) q2013 q2014 rfl md_fme_regionOf np_fme_regionOf (cme_regionOf (jR W 1005 (jE W 114 t (ix (kI 1)))) a1 (kI 8) W) (by decide) (Nat.le_of_ble_eq_true rfl) h5 (by decide) (by decide +kernel)) (fun q6 _ => ?_)
  refine j_goto hx (off := 4) (by decide +kernel) (tgt := 37) (by decide) ?_
  exact j_iret hx hm (by decide +kernel) rfl (he _)
theorem ccl_longAt (t : Nat) (a1 : Int64) (W : jW) : jM yX0_longAt cX0_longAt 3 (Option.some Jvm.ClassFile.FieldType.int) [] 4 58 [vR t, vL a1] W ((fcl_longAt t a1 W).bind (fun q => some (.returned (some (.int q)), W))) := 
  jM.of (Nat.le_of_ble_eq_true rfl) (fun x hx hm hr => wcl_longAt ⟨hx, hm, hr, fun _ => rfl⟩)
def hcl_keeps (x : jCx) (en : (Int32) → Option (Outcome × jW)) (t : Nat) (a1 : Int64) (W : jW) : Prop :=
  jOK x RX0 cX0_keeps 4 ∧
  jMt x "keeps" (Option.some Jvm.ClassFile.FieldType.int) [] ∧
  jRm x 5 72 ∧
  (∀ q : Int32, en q = some (.returned (some (.int q)), W))
theorem wcl_keeps {x : jCx} {en : (Int32) → Option (Outcome × jW)} {W : jW} {t : Nat} {a1 : Int64} (h : hcl_keeps x en t a1 W) : jJ x 4 0 [(0, vR t), (1, vL a1)] [] W (fcl_keeps t a1 W) en := by
  have h0 := h
  obtain ⟨hx, hm, hr, he⟩ := h0
  unfold fcl_keeps
  refine j_runA hx 2 (tb := [(0, .aload_n 0), (1, .lload_n 1)]) (jtb_ok (by decide +kernel)) (pc' := 2) (lv' := [(0, vR t), (1, vL a1)]) (st' := [vL a1, vR t]) rfl ?_
  refine j_gd (fun h1 => ?_)
  refine j_OI (j_callV (av := [vL a1]) (st := []) hx hr (Or.inl q2309) q2311 qs121 rfl md_fcl_longAt np_fcl_longAt (ccl_longAt t a1 W) (by decide) (Nat.le_of_ble_eq_true rfl) h1 (by decide) (by decide +kernel)) (fun q2 _ => ?_)
  refine j_runA hx 2 (tb := [(5, .istore_n 3), (6, .iload_n 3)]) (jtb_ok (by decide +kernel)) (pc' := 7) (lv' := [(3, vI q2), (0, vR t), (1, vL a1)]) (st' := [vI q2]) rfl ?_
  refine j_if_ge hx (off := 7) (tgt := 14) (by decide +kernel) (by decide) (fun _ => ?_) (fun _ => ?_)
  · refine j_runA hx 1 (tb := [(14, .aload_n 0)]) (jtb_ok (by decide +kernel)) (pc' := 15) (lv' := [(3, vI q2), (0, vR t), (1, vL a1)]) (st' := [vR t]) rfl ?_
    refine j_getR hx flX0_51 kl114 h1 (by decide) (by decide +kernel) ?_
    refine j_runA hx 1 (tb := [(18, .iconst 1)]) (jtb_ok (by decide +kernel)) (pc' := 19) (lv' := [(3, vI q2), (0, vR t), (1, vL a1)]) (st' := [vI (kI 1), vR (jR W 114 t)]) rfl ?_
    refine j_gd (fun h3 => ?_)
    refine j_aald hx (f := 114) (o := t) kd114 rfl (by decide +kernel) h3 ?_
    refine j_gd (fun h4 => ?_)
    refine j_getR hx flX0_406 kl1005 h4 (by decide) (by decide +kernel) ?_
    refine j_runA hx 2 (tb := [(23, .iload_n 3), (24, .lload_n 1)]) (jtb_ok (by decide +kernel)) (pc' := 25) (lv' := [(3, vI q2), (0, vR t), (1, vL a1)]) (st' := [vL a1, vI q2, vR (jR W 1005 (jE W 114 t (ix (kI 1))))]) rfl ?_
    refine j_gd (fun h5 => ?_)
    refine j_OI (j_callV (av := [vI q2, vL a1]) (st := []) hx hr (Or.inl q2315) q2222 q2223 rfl md_fme_kindAt np_fme_kindAt (cme_kindAt (jR W 1005 (jE W 114 t (ix (kI 1)))) q2 a1 W) (by decide) (Nat.le_of_ble_eq_true rfl) h5 (by decide) (by decide +kernel)) (fun q6 _ => ?_)
    exact j_iret hx hm (by decide +kernel) rfl (he _)
  refine j_runA hx 1 (tb := [(10, .iconst (-1))]) (jtb_ok (by decide +kernel)) (pc' := 11) (lv' := [(3, vI q2), (0, vR t), (1, vL a1)]) (st' := [vI (kI (-1))]) rfl ?_
  refine j_goto hx (off := 17) (by decide +kernel) (tgt := 28) (by decide) ?_
  exact j_iret hx hm (by decide +kernel) rfl (he _)
theorem ccl_keeps (t : Nat) (a1 : Int64) (W : jW) : jM yX0_keeps cX0_keeps 4 (Option.some Jvm.ClassFile.FieldType.int) [] 5 72 [vR t, vL a1] W ((fcl_keeps t a1 W).bind (fun q => some (.returned (some (.int q)), W))) := 
  jM.of (Nat.le_of_ble_eq_true rfl) (fun x hx hm hr => wcl_keeps ⟨hx, hm, hr, fun _ => rfl⟩)
def hcl_newest (x : jCx) (en : (Int64) → Option (Outcome × jW)) (t : Nat) (a1 : Int64) (W : jW) : Prop :=
  jOK x RX0 cX0_newest 4 ∧
  jMt x "newest" (Option.some Jvm.ClassFile.FieldType.long) [] ∧
  jRm x 5 74 ∧
  (∀ q : Int64, en q = some (.returned (some (.long q)), W))
theorem wcl_newest_27 {x : jCx} {en : (Int64) → Option (Outcome × jW)} {W : jW} {t : Nat} {a1 : Int64} (h : hcl_newest x en t a1 W) : jJ x 4 27 [(0, vR t), (1, vL a1)] [] W (fcl_newest_27 t a1 W) en := by
  have h0 := h
  obtain ⟨hx, hm, hr, he⟩ := h0
  unfold fcl_newest_27
  refine j_runA hx 1 (tb := [(27, .lconst 0)]) (jtb_ok (by decide +kernel)) (pc' := 28) (lv' := [(0, vR t), (1, vL a1)]) (st' := [vL (kJ 0)]) rfl ?_
  exact j_lret hx hm (by decide +kernel) (he _)
theorem wcl_newest {x : jCx} {en : (Int64) → Option (Outcome × jW)} {W : jW} {t : Nat} {a1 : Int64} (h : hcl_newest x en t a1 W) : jJ x 4 0 [(0, vR t), (1, vL a1)] [] W (fcl_newest t a1 W) en := by
  have h0 := h
  obtain ⟨hx, hm, hr, he⟩ := h0
  unfold fcl_newest
  refine j_runA hx 2 (tb := [(0, .aload_n 0), (1, .lload_n 1)]) (jtb_ok (by decide +kernel)) (pc' := 2) (lv' := [(0, vR t), (1, vL a1)]) (st' := [vL a1, vR t]) rfl ?_
  refine j_gd (fun h1 => ?_)
  refine j_OI (j_callV (av := [vL a1]) (st := []) hx hr (Or.inl q2309) q2311 qs121 rfl md_fcl_longAt np_fcl_longAt (ccl_longAt t a1 W) (by decide) (Nat.le_of_ble_eq_true rfl) h1 (by decide) (by decide +kernel)) (fun q2 _ => ?_)
  refine j_runA hx 2 (tb := [(5, .istore_n 3), (6, .iload_n 3)]) (jtb_ok (by decide +kernel)) (pc' := 7) (lv' := [(3, vI q2), (0, vR t), (1, vL a1)]) (st' := [vI q2]) rfl ?_
  refine j_if_lt hx (off := 20) (tgt := 27) (by decide +kernel) (by decide) (fun _ => ?_) (fun _ => ?_)
  · refine j_lv (lv' := [(0, vR t), (1, vL a1)]) ⟨rfl, rfl, trivial⟩ ?_
    exact wcl_newest_27 h
  refine j_runA hx 1 (tb := [(10, .aload_n 0)]) (jtb_ok (by decide +kernel)) (pc' := 11) (lv' := [(3, vI q2), (0, vR t), (1, vL a1)]) (st' := [vR t]) rfl ?_
  refine j_getR hx flX0_51 kl114 h1 (by decide) (by decide +kernel) ?_
  refine j_runA hx 1 (tb := [(14, .iconst 1)]) (jtb_ok (by decide +kernel)) (pc' := 15) (lv' := [(3, vI q2), (0, vR t), (1, vL a1)]) (st' := [vI (kI 1), vR (jR W 114 t)]) rfl ?_
  refine j_gd (fun h3 => ?_)
  refine j_aald hx (f := 114) (o := t) kd114 rfl (by decide +kernel) h3 ?_
  refine j_gd (fun h4 => ?_)
  refine j_getR hx flX0_406 kl1005 h4 (by decide) (by decide +kernel) ?_
  refine j_runA hx 2 (tb := [(19, .iload_n 3), (20, .lload_n 1)]) (jtb_ok (by decide +kernel)) (pc' := 21) (lv' := [(3, vI q2), (0, vR t), (1, vL a1)]) (st' := [vL a1, vI q2, vR (jR W 1005 (jE W 114 t (ix (kI 1))))]) rfl ?_
  refine j_gd (fun h5 => ?_)
  refine j_OI (j_callV (av := [vI q2, vL a1]) (st := []) hx hr (Or.inl q2315) q2222 q2223 rfl md_fme_kindAt np_fme_kindAt (cme_kindAt (jR W 1005 (jE W 114 t (ix (kI 1)))) q2 a1 W) (by decide) (Nat.le_of_ble_eq_true rfl) h5 (by decide) (by decide +kernel)) (fun q6 _ => ?_)
  refine j_if_ne hx (off := 5) (tgt := 29) (by decide +kernel) (by decide) (fun _ => ?_) (fun _ => ?_)
  · refine j_runA hx 2 (tb := [(29, .aload_n 0), (30, .aload_n 0)]) (jtb_ok (by decide +kernel)) (pc' := 31) (lv' := [(3, vI q2), (0, vR t), (1, vL a1)]) (st' := [vR t, vR t]) rfl ?_
    refine j_getR hx flX0_51 kl114 h1 (by decide) (by decide +kernel) ?_
    refine j_runA hx 1 (tb := [(34, .iconst 1)]) (jtb_ok (by decide +kernel)) (pc' := 35) (lv' := [(3, vI q2), (0, vR t), (1, vL a1)]) (st' := [vI (kI 1), vR (jR W 114 t), vR t]) rfl ?_
    refine j_gd (fun h7 => ?_)
    refine j_aald hx (f := 114) (o := t) kd114 rfl (by decide +kernel) h7 ?_
    refine j_getR hx flX0_406 kl1005 h4 (by decide) (by decide +kernel) ?_
    refine j_runA hx 2 (tb := [(39, .iload_n 3), (40, .lload_n 1)]) (jtb_ok (by decide +kernel)) (pc' := 41) (lv' := [(3, vI q2), (0, vR t), (1, vL a1)]) (st' := [vL a1, vI q2, vR (jR W 1005 (jE W 114 t (ix (kI 1)))), vR t]) rfl ?_
    refine j_OI (j_callV (av := [vI q2, vL a1]) (st := [vR t]) hx hr (Or.inl q2315) q2222 q2223 rfl md_fme_kindAt np_fme_kindAt (cme_kindAt (jR W 1005 (jE W 114 t (ix (kI 1)))) q2 a1 W) (by decide) (Nat.le_of_ble_eq_true rfl) h5 (by decide) (by decide +kernel)) (fun q8 _ => ?_)
    refine j_runA hx 1 (tb := [(44, .aload_n 0)]) (jtb_ok (by decide +kernel)) (pc' := 45) (lv' := [(3, vI q2), (0, vR t), (1, vL a1)]) (st' := [vR t, vI q8, vR t]) rfl ?_
    refine j_getR hx flX0_51 kl114 h1 (by decide) (by decide +kernel) ?_
    refine j_runA hx 1 (tb := [(48, .iconst 1)]) (jtb_ok (by decide +kernel)) (pc' := 49) (lv' := [(3, vI q2), (0, vR t), (1, vL a1)]) (st' := [vI (kI 1), vR (jR W 114 t), vI q8, vR t]) rfl ?_
    refine j_gd (fun h9 => ?_)
    refine j_aald hx (f := 114) (o := t) kd114 rfl (by decide +kernel) h9 ?_
    refine j_getR hx flX0_406 kl1005 h4 (by decide) (by decide +kernel) ?_
    refine j_runA hx 2 (tb := [(53, .iload_n 3), (54, .lload_n 1)]) (jtb_ok (by decide +kernel)) (pc' := 55) (lv' := [(3, vI q2), (0, vR t), (1, vL a1)]) (st' := [vL a1, vI q2, vR (jR W 1005 (jE W 114 t (ix (kI 1)))), vI q8, vR t]) rfl ?_
    refine j_OI (j_callV (av := [vI q2, vL a1]) (st := [vI q8, vR t]) hx hr (Or.inl q2320) q2226 q2227 rfl md_fme_blockAt np_fme_blockAt (cme_blockAt (jR W 1005 (jE W 114 t (ix (kI 1)))) q2 a1 W) (by decide) (Nat.le_of_ble_eq_true rfl) h5 (by decide) (by decide +kernel)) (fun q10 _ => ?_)
    refine j_OL (j_callV (av := [vI q8, vI q10]) (st := []) hx hr (Or.inl q2286) q2288 qs120 rfl md_fcl_newOf np_fcl_newOf (ccl_newOf t q8 q10 W) (by decide) (Nat.le_of_ble_eq_true rfl) h1 (by decide) (by decide +kernel)) (fun q11 _ => ?_)
    exact j_lret hx hm (by decide +kernel) (he _)
  refine j_lv (lv' := [(0, vR t), (1, vL a1)]) ⟨rfl, rfl, trivial⟩ ?_
  exact wcl_newest_27 h
theorem ccl_newest (t : Nat) (a1 : Int64) (W : jW) : jM yX0_newest cX0_newest 4 (Option.some Jvm.ClassFile.FieldType.long) [] 5 74 [vR t, vL a1] W ((fcl_newest t a1 W).bind (fun q => some (.returned (some (.long q)), W))) := 
  jM.of (Nat.le_of_ble_eq_true rfl) (fun x hx hm hr => wcl_newest ⟨hx, hm, hr, fun _ => rfl⟩)
def hcl_trace (x : jCx) (en : (Int64) → Option (Outcome × jW)) (t : Nat) (a1 : Int32) (a2 : Int32) (a3 : Int32) (W : jW) : Prop :=
  jOK x RX0 cX0_trace 4 ∧
  jMt x "trace" (Option.some Jvm.ClassFile.FieldType.long) [] ∧
  jRm x 1 13 ∧
  (∀ q : Int64, en q = some (.returned (some (.long q)), W))
theorem wcl_trace_59 {x : jCx} {en : (Int64) → Option (Outcome × jW)} {W : jW} {t : Nat} {a1 : Int32} {a2 : Int32} {a3 : Int32} (h : hcl_trace x en t a1 a2 a3 W) : jJ x 4 59 [(0, vR t), (1, vI a1), (2, vI a2), (3, vI a3)] [] W (fcl_trace_59 t a1 a2 a3 W) en := by
  have h0 := h
  obtain ⟨hx, hm, hr, he⟩ := h0
  unfold fcl_trace_59
  refine j_runA hx 1 (tb := [(59, .lconst 0)]) (jtb_ok (by decide +kernel)) (pc' := 60) (lv' := [(0, vR t), (1, vI a1), (2, vI a2), (3, vI a3)]) (st' := [vL (kJ 0)]) rfl ?_
  exact j_lret hx hm (by decide +kernel) (he _)
theorem wcl_trace {x : jCx} {en : (Int64) → Option (Outcome × jW)} {W : jW} {t : Nat} {a1 : Int32} {a2 : Int32} {a3 : Int32} (h : hcl_trace x en t a1 a2 a3 W) : jJ x 4 0 [(0, vR t), (1, vI a1), (2, vI a2), (3, vI a3)] [] W (fcl_trace t a1 a2 a3 W) en := by
  have h0 := h
  obtain ⟨hx, hm, hr, he⟩ := h0
  unfold fcl_trace
  refine j_runA hx 2 (tb := [(0, .aload_n 0), (1, .iload_n 1)]) (jtb_ok (by decide +kernel)) (pc' := 2) (lv' := [(0, vR t), (1, vI a1), (2, vI a2), (3, vI a3)]) (st' := [vI a1, vR t]) rfl ?_
  refine j_gd (fun h1 => ?_)
  refine j_OI (j_callV (av := [vI a1]) (st := []) hx hr (Or.inl q2266) q2268 qs118 rfl md_fcl_isRun np_fcl_isRun (ccl_isRun t a1 W) (by decide) (Nat.le_of_ble_eq_true rfl) h1 (by decide) (by decide +kernel)) (fun q2 _ => ?_)
  refine j_if_eq hx (off := 54) (tgt := 59) (by decide +kernel) (by decide) (fun _ => ?_) (fun _ => ?_)
  · exact wcl_trace_59 h
  refine j_runA hx 1 (tb := [(8, .iload_n 2)]) (jtb_ok (by decide +kernel)) (pc' := 9) (lv' := [(0, vR t), (1, vI a1), (2, vI a2), (3, vI a3)]) (st' := [vI a2]) rfl ?_
  refine j_if_lt hx (off := 50) (tgt := 59) (by decide +kernel) (by decide) (fun _ => ?_) (fun _ => ?_)
  · exact wcl_trace_59 h
  refine j_runA hx 2 (tb := [(12, .iload_n 2), (13, .sipush 200)]) (jtb_ok (by decide +kernel)) (pc' := 16) (lv' := [(0, vR t), (1, vI a1), (2, vI a2), (3, vI a3)]) (st' := [vI (kI 200), vI a2]) rfl ?_
  refine j_icmp_ge hx (off := 43) (tgt := 59) (by decide +kernel) (by decide) (fun _ => ?_) (fun _ => ?_)
  · exact wcl_trace_59 h
  refine j_runA hx 2 (tb := [(19, .iload_n 2), (20, .aload_n 0)]) (jtb_ok (by decide +kernel)) (pc' := 21) (lv' := [(0, vR t), (1, vI a1), (2, vI a2), (3, vI a3)]) (st' := [vR t, vI a2]) rfl ?_
  refine j_getR hx flX0_51 kl114 h1 (by decide) (by decide +kernel) ?_
  refine j_runA hx 1 (tb := [(24, .iload_n 1)]) (jtb_ok (by decide +kernel)) (pc' := 25) (lv' := [(0, vR t), (1, vI a1), (2, vI a2), (3, vI a3)]) (st' := [vI a1, vR (jR W 114 t), vI a2]) rfl ?_
  refine j_gd (fun h3 => ?_)
  refine j_aald hx (f := 114) (o := t) kd114 rfl (by decide +kernel) h3 ?_
  refine j_gd (fun h4 => ?_)
  refine j_getI hx flX0_376 kd1017 h4 (by decide) (by decide +kernel) ?_
  refine j_icmp_ge hx (off := 30) (tgt := 59) (by decide +kernel) (by decide) (fun _ => ?_) (fun _ => ?_)
  · exact wcl_trace_59 h
  refine j_runA hx 1 (tb := [(32, .iload_n 3)]) (jtb_ok (by decide +kernel)) (pc' := 33) (lv' := [(0, vR t), (1, vI a1), (2, vI a2), (3, vI a3)]) (st' := [vI a3]) rfl ?_
  refine j_if_lt hx (off := 26) (tgt := 59) (by decide +kernel) (by decide) (fun _ => ?_) (fun _ => ?_)
  · exact wcl_trace_59 h
  refine j_runA hx 2 (tb := [(36, .iload_n 3), (37, .iconst 3)]) (jtb_ok (by decide +kernel)) (pc' := 38) (lv' := [(0, vR t), (1, vI a1), (2, vI a2), (3, vI a3)]) (st' := [vI (kI 3), vI a3]) rfl ?_
  refine j_icmp_gt hx (off := 21) (tgt := 59) (by decide +kernel) (by decide) (fun _ => ?_) (fun _ => ?_)
  · exact wcl_trace_59 h
  refine j_runA hx 1 (tb := [(41, .aload_n 0)]) (jtb_ok (by decide +kernel)) (pc' := 42) (lv' := [(0, vR t), (1, vI a1), (2, vI a2), (3, vI a3)]) (st' := [vR t]) rfl ?_
  refine j_getR hx flX0_51 kl114 h1 (by decide) (by decide +kernel) ?_
  refine j_runA hx 1 (tb := [(45, .iload_n 1)]) (jtb_ok (by decide +kernel)) (pc' := 46) (lv' := [(0, vR t), (1, vI a1), (2, vI a2), (3, vI a3)]) (st' := [vI a1, vR (jR W 114 t)]) rfl ?_
  refine j_gd (fun h5 => ?_)
  refine j_aald hx (f := 114) (o := t) kd114 rfl (by decide +kernel) h5 ?_
  refine j_getR hx flX0_429 kl1021 h4 (by decide) (by decide +kernel) ?_
  refine j_runA hx 5 (tb := [(50, .iconst 4), (51, .iload_n 2), (52, .imul), (53, .iload_n 3), (54, .iadd)]) (jtb_ok (by decide +kernel)) (pc' := 55) (lv' := [(0, vR t), (1, vI a1), (2, vI a2), (3, vI a3)]) (st' := [vI (((kI 4) * a2) + a3), vR (jR W 1021 (jE W 114 t (ix a1)))]) rfl ?_
  refine j_gd (fun h6 => ?_)
  refine j_lald hx (f := 1021) (o := (jE W 114 t (ix a1))) kd1021 rfl (by decide +kernel) h6 ?_
  refine j_goto hx (off := 4) (by decide +kernel) (tgt := 60) (by decide) ?_
  exact j_lret hx hm (by decide +kernel) (he _)
theorem ccl_trace (t : Nat) (a1 : Int32) (a2 : Int32) (a3 : Int32) (W : jW) : jM yX0_trace cX0_trace 4 (Option.some Jvm.ClassFile.FieldType.long) [] 1 13 [vR t, vI a1, vI a2, vI a3] W ((fcl_trace t a1 a2 a3 W).bind (fun q => some (.returned (some (.long q)), W))) := 
  jM.of (Nat.le_of_ble_eq_true rfl) (fun x hx hm hr => wcl_trace ⟨hx, hm, hr, fun _ => rfl⟩)
def hcl_text (x : jCx) (en : (Int32) → Option (Outcome × jW)) (t : Nat) (a1 : Int32) (a2 : Int32) (W : jW) : Prop :=
  jOK x RX0 cX0_text 3 ∧
  jMt x "text" (Option.some Jvm.ClassFile.FieldType.int) [] ∧
  jRm x 1 13 ∧
  (∀ q : Int32, en q = some (.returned (some (.int q)), W))
theorem wcl_text_50 {x : jCx} {en : (Int32) → Option (Outcome × jW)} {W : jW} {t : Nat} {a1 : Int32} {a2 : Int32} (h : hcl_text x en t a1 a2 W) : jJ x 3 50 [(0, vR t), (1, vI a1), (2, vI a2)] [] W (fcl_text_50 t a1 a2 W) en := by
  have h0 := h
  obtain ⟨hx, hm, hr, he⟩ := h0
  unfold fcl_text_50
  refine j_runA hx 1 (tb := [(50, .iconst (-1))]) (jtb_ok (by decide +kernel)) (pc' := 51) (lv' := [(0, vR t), (1, vI a1), (2, vI a2)]) (st' := [vI (kI (-1))]) rfl ?_
  exact j_iret hx hm (by decide +kernel) rfl (he _)
theorem wcl_text {x : jCx} {en : (Int32) → Option (Outcome × jW)} {W : jW} {t : Nat} {a1 : Int32} {a2 : Int32} (h : hcl_text x en t a1 a2 W) : jJ x 3 0 [(0, vR t), (1, vI a1), (2, vI a2)] [] W (fcl_text t a1 a2 W) en := by
  have h0 := h
  obtain ⟨hx, hm, hr, he⟩ := h0
  unfold fcl_text
  refine j_runA hx 2 (tb := [(0, .aload_n 0), (1, .iload_n 1)]) (jtb_ok (by decide +kernel)) (pc' := 2) (lv' := [(0, vR t), (1, vI a1), (2, vI a2)]) (st' := [vI a1, vR t]) rfl ?_
  refine j_gd (fun h1 => ?_)
  refine j_OI (j_callV (av := [vI a1]) (st := []) hx hr (Or.inl q2266) q2268 qs118 rfl md_fcl_isRun np_fcl_isRun (ccl_isRun t a1 W) (by decide) (Nat.le_of_ble_eq_true rfl) h1 (by decide) (by decide +kernel)) (fun q2 _ => ?_)
  refine j_if_eq hx (off := 45) (tgt := 50) (by decide +kernel) (by decide) (fun _ => ?_) (fun _ => ?_)
  · exact wcl_text_50 h
  refine j_runA hx 1 (tb := [(8, .iload_n 2)]) (jtb_ok (by decide +kernel)) (pc' := 9) (lv' := [(0, vR t), (1, vI a1), (2, vI a2)]) (st' := [vI a2]) rfl ?_
  refine j_if_lt hx (off := 41) (tgt := 50) (by decide +kernel) (by decide) (fun _ => ?_) (fun _ => ?_)
  · exact wcl_text_50 h
  refine j_runA hx 2 (tb := [(12, .iload_n 2), (13, .sipush 16384)]) (jtb_ok (by decide +kernel)) (pc' := 16) (lv' := [(0, vR t), (1, vI a1), (2, vI a2)]) (st' := [vI (kI 16384), vI a2]) rfl ?_
  refine j_icmp_ge hx (off := 34) (tgt := 50) (by decide +kernel) (by decide) (fun _ => ?_) (fun _ => ?_)
  · exact wcl_text_50 h
  refine j_runA hx 2 (tb := [(19, .iload_n 2), (20, .aload_n 0)]) (jtb_ok (by decide +kernel)) (pc' := 21) (lv' := [(0, vR t), (1, vI a1), (2, vI a2)]) (st' := [vR t, vI a2]) rfl ?_
  refine j_getR hx flX0_51 kl114 h1 (by decide) (by decide +kernel) ?_
  refine j_runA hx 1 (tb := [(24, .iload_n 1)]) (jtb_ok (by decide +kernel)) (pc' := 25) (lv' := [(0, vR t), (1, vI a1), (2, vI a2)]) (st' := [vI a1, vR (jR W 114 t), vI a2]) rfl ?_
  refine j_gd (fun h3 => ?_)
  refine j_aald hx (f := 114) (o := t) kd114 rfl (by decide +kernel) h3 ?_
  refine j_gd (fun h4 => ?_)
  refine j_getI hx flX0_378 kd1018 h4 (by decide) (by decide +kernel) ?_
  refine j_icmp_ge hx (off := 21) (tgt := 50) (by decide +kernel) (by decide) (fun _ => ?_) (fun _ => ?_)
  · exact wcl_text_50 h
  refine j_runA hx 1 (tb := [(32, .aload_n 0)]) (jtb_ok (by decide +kernel)) (pc' := 33) (lv' := [(0, vR t), (1, vI a1), (2, vI a2)]) (st' := [vR t]) rfl ?_
  refine j_getR hx flX0_51 kl114 h1 (by decide) (by decide +kernel) ?_
  refine j_runA hx 1 (tb := [(36, .iload_n 1)]) (jtb_ok (by decide +kernel)) (pc' := 37) (lv' := [(0, vR t), (1, vI a1), (2, vI a2)]) (st' := [vI a1, vR (jR W 114 t)]) rfl ?_
  refine j_gd (fun h5 => ?_)
  refine j_aald hx (f := 114) (o := t) kd114 rfl (by decide +kernel) h5 ?_
  refine j_getR hx flX0_432 kl1022 h4 (by decide) (by decide +kernel) ?_
  refine j_runA hx 1 (tb := [(41, .iload_n 2)]) (jtb_ok (by decide +kernel)) (pc' := 42) (lv' := [(0, vR t), (1, vI a1), (2, vI a2)]) (st' := [vI a2, vR (jR W 1022 (jE W 114 t (ix a1)))]) rfl ?_
  refine j_gd (fun h6 => ?_)
  refine j_bald hx (f := 1022) (o := (jE W 114 t (ix a1))) kd1022 rfl (by decide +kernel) h6 ?_
  refine j_runA hx 2 (tb := [(43, .sipush 255), (46, .iand)]) (jtb_ok (by decide +kernel)) (pc' := 47) (lv' := [(0, vR t), (1, vI a1), (2, vI a2)]) (st' := [vI ((jA W 1022 (jE W 114 t (ix a1)) (ix a2)) &&& (kI 255))]) rfl ?_
  refine j_goto hx (off := 4) (by decide +kernel) (tgt := 51) (by decide) ?_
  exact j_iret hx hm (by decide +kernel) rfl (he _)
theorem ccl_text (t : Nat) (a1 : Int32) (a2 : Int32) (W : jW) : jM yX0_text cX0_text 3 (Option.some Jvm.ClassFile.FieldType.int) [] 1 13 [vR t, vI a1, vI a2] W ((fcl_text t a1 a2 W).bind (fun q => some (.returned (some (.int q)), W))) := 
  jM.of (Nat.le_of_ble_eq_true rfl) (fun x hx hm hr => wcl_text ⟨hx, hm, hr, fun _ => rfl⟩)
def hwn_init (x : jCx) (en : (jW) → Option (Outcome × jW)) (t : Nat) (a1 : Nat) : Prop :=
  jOK x RX10 cX10_init 2 ∧
  jMt x "<init>" (Option.none : Option Jvm.ClassFile.FieldType) [] ∧
  jRm x 1 12 ∧
  (∀ q : jW, en q = some (.returned none, q))
theorem wwn_init {x : jCx} {en : (jW) → Option (Outcome × jW)} {t : Nat} {a1 : Nat} (h : hwn_init x en t a1) (W : jW) : jJ x 2 0 [(0, vR t), (1, vR a1)] [] W (fwn_init t a1 W) en := by
  have h0 := h
  obtain ⟨hx, hm, hr, he⟩ := h0
  unfold fwn_init
  refine j_runA hx 1 (tb := [(0, .aload_n 0)]) (jtb_ok (by decide +kernel)) (pc' := 1) (lv' := [(0, vR t), (1, vR a1)]) (st' := [vR t]) rfl ?_
  refine j_gd (fun h1 => ?_)
  refine j_obj hx hr q2423 h1 q264 q265 (by decide +kernel) (by decide) (Nat.le_of_ble_eq_true rfl) ?_
  refine j_runA hx 2 (tb := [(4, .aload_n 0), (5, .sipush 15002)]) (jtb_ok (by decide +kernel)) (pc' := 8) (lv' := [(0, vR t), (1, vR a1)]) (st' := [vI (kI 15002), vR t]) rfl ?_
  refine j_gd (fun h2 => ?_)
  refine j_gd (fun h3 => ?_)
  refine j_nwA hx fwX10_9 (wi1501 hm) ka1501 ja1501_3 h3 (by decide) nr1501 fr1501 (by decide +kernel) (by decide +kernel) h2 ?_
  refine j_ltw rfl (fun W4 hc5 => ?_)
  have h6 : jC W4 t = 15 := (congrFun hc5 _).trans h3
  refine j_runA hx 2 (tb := [(13, .aload_n 0), (14, .sipush 15002)]) (jtb_ok (by decide +kernel)) (pc' := 17) (lv' := [(0, vR t), (1, vR a1)]) (st' := [vI (kI 15002), vR t]) rfl ?_
  refine j_gd (fun h8 => ?_)
  refine j_nwA hx fwX10_15 (wi1503 hm) ka1503 ja1503_3 h6 (by decide) nr1503 fr1503 (by decide +kernel) (by decide +kernel) h8 ?_
  refine j_ltw rfl (fun W9 hc10 => ?_)
  have h11 : jC W9 t = 15 := (congrFun hc10 _).trans h6
  refine j_runA hx 2 (tb := [(22, .aload_n 0), (23, .sipush 15002)]) (jtb_ok (by decide +kernel)) (pc' := 26) (lv' := [(0, vR t), (1, vR a1)]) (st' := [vI (kI 15002), vR t]) rfl ?_
  refine j_gd (fun h13 => ?_)
  refine j_nwA hx fwX10_18 (wi1504 hm) ka1504 ja1504_4 h11 (by decide) nr1504 fr1504 (by decide +kernel) (by decide +kernel) h13 ?_
  refine j_ltw rfl (fun W14 hc15 => ?_)
  have h16 : jC W14 t = 15 := (congrFun hc15 _).trans h11
  refine j_runA hx 2 (tb := [(31, .aload_n 0), (32, .sipush 15002)]) (jtb_ok (by decide +kernel)) (pc' := 35) (lv' := [(0, vR t), (1, vR a1)]) (st' := [vI (kI 15002), vR t]) rfl ?_
  refine j_gd (fun h18 => ?_)
  refine j_nwA hx fwX10_22 (wi1505 hm) ka1505 ja1505_5 h16 (by decide) nr1505 fr1505 (by decide +kernel) (by decide +kernel) h18 ?_
  refine j_ltw rfl (fun W19 hc20 => ?_)
  have h21 : jC W19 t = 15 := (congrFun hc20 _).trans h16
  refine j_runA hx 2 (tb := [(40, .aload_n 0), (41, .sipush 15002)]) (jtb_ok (by decide +kernel)) (pc' := 44) (lv' := [(0, vR t), (1, vR a1)]) (st' := [vI (kI 15002), vR t]) rfl ?_
  refine j_gd (fun h23 => ?_)
  refine j_nwA hx fwX10_26 (wi1506 hm) ka1506 ja1506_5 h21 (by decide) nr1506 fr1506 (by decide +kernel) (by decide +kernel) h23 ?_
  refine j_ltw rfl (fun W24 hc25 => ?_)
  have h26 : jC W24 t = 15 := (congrFun hc25 _).trans h21
  refine j_runA hx 2 (tb := [(49, .aload_n 0), (50, .sipush 15002)]) (jtb_ok (by decide +kernel)) (pc' := 53) (lv' := [(0, vR t), (1, vR a1)]) (st' := [vI (kI 15002), vR t]) rfl ?_
  refine j_gd (fun h28 => ?_)
  refine j_nwA hx fwX10_29 (wi1507 hm) ka1507 ja1507_3 h26 (by decide) nr1507 fr1507 (by decide +kernel) (by decide +kernel) h28 ?_
  refine j_ltw rfl (fun W29 hc30 => ?_)
  have h31 : jC W29 t = 15 := (congrFun hc30 _).trans h26
  refine j_runA hx 2 (tb := [(58, .aload_n 0), (59, .aload_n 1)]) (jtb_ok (by decide +kernel)) (pc' := 60) (lv' := [(0, vR t), (1, vR a1)]) (st' := [vR a1, vR t]) rfl ?_
  refine j_putR hx fwX10_32 (wi1500 hm) kd1500 h31 (by decide) (by decide +kernel) nr1500 fr1500 ?_
  refine j_ltw rfl (fun W33 hc34 => ?_)
  have h35 : jC W33 t = 15 := (congrFun hc34 _).trans h31
  exact j_vret hx hm (by decide +kernel) (he _)
theorem cwn_init (t : Nat) (a1 : Nat) (W : jW) : jM yX10_init cX10_init 2 (Option.none : Option Jvm.ClassFile.FieldType) [] 1 12 [vR t, vR a1] W ((fwn_init t a1 W).bind (fun q => some (.returned none, q))) := 
  jM.of (Nat.le_of_ble_eq_true rfl) (fun x hx hm hr => wwn_init ⟨hx, hm, hr, fun _ => rfl⟩ W)
def hmo_next (x : jCx) (en : (Int32) → Option (Outcome × jW)) (t : Nat) (a1 : Int32) (W : jW) : Prop :=
  jOK x RX8 cX8_next 2 ∧
  jMt x "next" (Option.some Jvm.ClassFile.FieldType.int) [] ∧
  jRm x 0 0 ∧
  (∀ q : Int32, en q = some (.returned (some (.int q)), W))
theorem wmo_next_39 {x : jCx} {en : (Int32) → Option (Outcome × jW)} {W : jW} {t : Nat} {a1 : Int32} (h : hmo_next x en t a1 W) : jJ x 2 39 [(0, vR t), (1, vI a1)] [] W (fmo_next_39 t a1 W) en := by
  have h0 := h
  obtain ⟨hx, hm, hr, he⟩ := h0
  unfold fmo_next_39
  refine j_runA hx 3 (tb := [(39, .iload_n 1), (40, .iconst 1), (41, .iadd)]) (jtb_ok (by decide +kernel)) (pc' := 42) (lv' := [(0, vR t), (1, vI a1)]) (st' := [vI (a1 + (kI 1))]) rfl ?_
  refine j_goto hx (off := 4) (by decide +kernel) (tgt := 46) (by decide) ?_
  exact j_iret hx hm (by decide +kernel) rfl (he _)
theorem wmo_next {x : jCx} {en : (Int32) → Option (Outcome × jW)} {W : jW} {t : Nat} {a1 : Int32} (h : hmo_next x en t a1 W) : jJ x 2 0 [(0, vR t), (1, vI a1)] [] W (fmo_next t a1 W) en := by
  have h0 := h
  obtain ⟨hx, hm, hr, he⟩ := h0
  unfold fmo_next
  refine j_runA hx 1 (tb := [(0, .aload_n 0)]) (jtb_ok (by decide +kernel)) (pc' := 1) (lv' := [(0, vR t), (1, vI a1)]) (st' := [vR t]) rfl ?_
  refine j_gd (fun h1 => ?_)
  refine j_getR hx flX8_68 kl1325 h1 (by decide) (by decide +kernel) ?_
  refine j_runA hx 1 (tb := [(4, .iload_n 1)]) (jtb_ok (by decide +kernel)) (pc' := 5) (lv' := [(0, vR t), (1, vI a1)]) (st' := [vI a1, vR (jR W 1325 t)]) rfl ?_
  refine j_gd (fun h2 => ?_)
  refine j_iald hx (f := 1325) (o := t) kd1325 rfl (by decide +kernel) h2 ?_
  refine j_if_eq hx (off := 33) (tgt := 39) (by decide +kernel) (by decide) (fun _ => ?_) (fun _ => ?_)
  · exact wmo_next_39 h
  refine j_runA hx 1 (tb := [(9, .aload_n 0)]) (jtb_ok (by decide +kernel)) (pc' := 10) (lv' := [(0, vR t), (1, vI a1)]) (st' := [vR t]) rfl ?_
  refine j_getR hx flX8_68 kl1325 h1 (by decide) (by decide +kernel) ?_
  refine j_runA hx 1 (tb := [(13, .iload_n 1)]) (jtb_ok (by decide +kernel)) (pc' := 14) (lv' := [(0, vR t), (1, vI a1)]) (st' := [vI a1, vR (jR W 1325 t)]) rfl ?_
  refine j_gd (fun h3 => ?_)
  refine j_iald hx (f := 1325) (o := t) kd1325 rfl (by decide +kernel) h3 ?_
  refine j_runA hx 1 (tb := [(15, .iconst 4)]) (jtb_ok (by decide +kernel)) (pc' := 16) (lv' := [(0, vR t), (1, vI a1)]) (st' := [vI (kI 4), vI (jA W 1325 t (ix a1))]) rfl ?_
  refine j_icmp_eq hx (off := 23) (tgt := 39) (by decide +kernel) (by decide) (fun _ => ?_) (fun _ => ?_)
  · exact wmo_next_39 h
  refine j_runA hx 1 (tb := [(19, .aload_n 0)]) (jtb_ok (by decide +kernel)) (pc' := 20) (lv' := [(0, vR t), (1, vI a1)]) (st' := [vR t]) rfl ?_
  refine j_getR hx flX8_68 kl1325 h1 (by decide) (by decide +kernel) ?_
  refine j_runA hx 1 (tb := [(23, .iload_n 1)]) (jtb_ok (by decide +kernel)) (pc' := 24) (lv' := [(0, vR t), (1, vI a1)]) (st' := [vI a1, vR (jR W 1325 t)]) rfl ?_
  refine j_gd (fun h4 => ?_)
  refine j_iald hx (f := 1325) (o := t) kd1325 rfl (by decide +kernel) h4 ?_
  refine j_runA hx 1 (tb := [(25, .iconst 5)]) (jtb_ok (by decide +kernel)) (pc' := 26) (lv' := [(0, vR t), (1, vI a1)]) (st' := [vI (kI 5), vI (jA W 1325 t (ix a1))]) rfl ?_
  refine j_icmp_eq hx (off := 13) (tgt := 39) (by decide +kernel) (by decide) (fun _ => ?_) (fun _ => ?_)
  · exact wmo_next_39 h
  refine j_runA hx 1 (tb := [(29, .aload_n 0)]) (jtb_ok (by decide +kernel)) (pc' := 30) (lv' := [(0, vR t), (1, vI a1)]) (st' := [vR t]) rfl ?_
  refine j_getR hx flX8_68 kl1325 h1 (by decide) (by decide +kernel) ?_
  refine j_runA hx 1 (tb := [(33, .iload_n 1)]) (jtb_ok (by decide +kernel)) (pc' := 34) (lv' := [(0, vR t), (1, vI a1)]) (st' := [vI a1, vR (jR W 1325 t)]) rfl ?_
  refine j_gd (fun h5 => ?_)
  refine j_iald hx (f := 1325) (o := t) kd1325 rfl (by decide +kernel) h5 ?_
  refine j_runA hx 1 (tb := [(35, .iconst 3)]) (jtb_ok (by decide +kernel)) (pc' := 36) (lv' := [(0, vR t), (1, vI a1)]) (st' := [vI (kI 3), vI (jA W 1325 t (ix a1))]) rfl ?_
  refine j_icmp_ne hx (off := 9) (tgt := 45) (by decide +kernel) (by decide) (fun _ => ?_) (fun _ => ?_)
  · refine j_runA hx 1 (tb := [(45, .iconst (-1))]) (jtb_ok (by decide +kernel)) (pc' := 46) (lv' := [(0, vR t), (1, vI a1)]) (st' := [vI (kI (-1))]) rfl ?_
    exact j_iret hx hm (by decide +kernel) rfl (he _)
  exact wmo_next_39 h
theorem cmo_next (t : Nat) (a1 : Int32) (W : jW) : jM yX8_next cX8_next 2 (Option.some Jvm.ClassFile.FieldType.int) [] 0 0 [vR t, vI a1] W ((fmo_next t a1 W).bind (fun q => some (.returned (some (.int q)), W))) := 
  jM.of (Nat.le_of_ble_eq_true rfl) (fun x hx hm hr => wmo_next ⟨hx, hm, hr, fun _ => rfl⟩)
def hwn_shape (x : jCx) (en : (fwn_shape_S ⊕ (jW)) → Option (Outcome × jW)) (t : Nat) : Prop :=
  jOK x RX10 cX10_shape 4 ∧
  jMt x "shape" (Option.none : Option Jvm.ClassFile.FieldType) [] ∧
  jRm x 1 13 ∧
  (∀ q : jW, en (.inr q) = some (.returned none, q)) ∧
  (∀ (l1 : Int32) (W : jW), jJ x 4 22 [(0, vR t), (1, vI l1)] [] W (some (.inl (l1, W))) en)
theorem wwn_shape_339 {x : jCx} {en : (fwn_shape_S ⊕ (jW)) → Option (Outcome × jW)} {t : Nat} (h : hwn_shape x en t) (l1 : Int32) (W : jW) : jJ x 4 339 [(0, vR t), (1, vI l1)] [] W (fwn_shape_339 t l1 W) en := by
  have h0 := h
  obtain ⟨hx, hm, hr, he, k22⟩ := h0
  unfold fwn_shape_339
  refine j_runA hx 1 (tb := [(339, .iinc 1 1)]) (jtb_ok (by decide +kernel)) (pc' := 342) (lv' := [(1, vI (l1 + (kI 1))), (0, vR t)]) (st' := []) rfl ?_
  refine j_let (v := (l1 + (kI 1))) (lv := fun v107 => [(1, vI v107), (0, vR t)]) (st := fun _ => []) (fun v107 => ?_)
  refine j_goto hx (off := -320) (by decide +kernel) (tgt := 22) (by decide) ?_
  refine j_lv (lv' := [(0, vR t), (1, vI v107)]) ⟨rfl, rfl, trivial⟩ ?_
  exact k22 v107 W
theorem wwn_shape_320 {x : jCx} {en : (fwn_shape_S ⊕ (jW)) → Option (Outcome × jW)} {t : Nat} (h : hwn_shape x en t) (l1 : Int32) (l2 : Int32) (W : jW) : jJ x 4 320 [(0, vR t), (1, vI l1), (2, vI l2)] [] W (fwn_shape_320 t l1 l2 W) en := by
  have h0 := h
  obtain ⟨hx, hm, hr, he, k22⟩ := h0
  unfold fwn_shape_320
  refine j_runA hx 1 (tb := [(320, .aload_n 0)]) (jtb_ok (by decide +kernel)) (pc' := 321) (lv' := [(0, vR t), (1, vI l1), (2, vI l2)]) (st' := [vR t]) rfl ?_
  refine j_gd (fun h100 => ?_)
  refine j_getR hx flX10_26 kl1506 h100 (by decide) (by decide +kernel) ?_
  refine j_runA hx 1 (tb := [(324, .iload_n 2)]) (jtb_ok (by decide +kernel)) (pc' := 325) (lv' := [(0, vR t), (1, vI l1), (2, vI l2)]) (st' := [vI l2, vR (jR W 1506 t)]) rfl ?_
  refine j_gd (fun h101 => ?_)
  refine j_zald hx (f := 1506) (o := t) kd1506 rfl (by decide +kernel) h101 ?_
  refine j_if_eq hx (off := 13) (tgt := 339) (by decide +kernel) (by decide) (fun _ => ?_) (fun _ => ?_)
  · refine j_lv (lv' := [(0, vR t), (1, vI l1)]) ⟨rfl, rfl, trivial⟩ ?_
    exact wwn_shape_339 h l1 W
  refine j_runA hx 2 (tb := [(329, .aload_n 0), (330, .dup)]) (jtb_ok (by decide +kernel)) (pc' := 331) (lv' := [(0, vR t), (1, vI l1), (2, vI l2)]) (st' := [vR t, vR t]) rfl ?_
  refine j_getI hx flX10_46 kd1513 h100 (by decide) (by decide +kernel) ?_
  refine j_runA hx 2 (tb := [(334, .iconst 1), (335, .iadd)]) (jtb_ok (by decide +kernel)) (pc' := 336) (lv' := [(0, vR t), (1, vI l1), (2, vI l2)]) (st' := [vI ((jI W 1513 t) + (kI 1)), vR t]) rfl ?_
  refine j_putI hx fwX10_46 wf1513 kd1513 h100 (by decide) (by decide +kernel) (ni1513 _) (fi1513 _) ?_
  refine j_ltw rfl (fun W102 hc103 => ?_)
  have h104 : jC W102 t = 15 := (congrFun hc103 _).trans h100
  refine j_lv (lv' := [(0, vR t), (1, vI l1)]) ⟨rfl, rfl, trivial⟩ ?_
  exact wwn_shape_339 h l1 W102
theorem wwn_shape_300 {x : jCx} {en : (fwn_shape_S ⊕ (jW)) → Option (Outcome × jW)} {t : Nat} (h : hwn_shape x en t) (l1 : Int32) (l2 : Int32) (W : jW) : jJ x 4 300 [(0, vR t), (1, vI l1), (2, vI l2)] [] W (fwn_shape_300 t l1 l2 W) en := by
  have h0 := h
  obtain ⟨hx, hm, hr, he, k22⟩ := h0
  unfold fwn_shape_300
  refine j_runA hx 1 (tb := [(300, .aload_n 0)]) (jtb_ok (by decide +kernel)) (pc' := 301) (lv' := [(0, vR t), (1, vI l1), (2, vI l2)]) (st' := [vR t]) rfl ?_
  refine j_gd (fun h93 => ?_)
  refine j_getR hx flX10_18 kl1504 h93 (by decide) (by decide +kernel) ?_
  refine j_runA hx 1 (tb := [(304, .iload_n 2)]) (jtb_ok (by decide +kernel)) (pc' := 305) (lv' := [(0, vR t), (1, vI l1), (2, vI l2)]) (st' := [vI l2, vR (jR W 1504 t)]) rfl ?_
  refine j_gd (fun h94 => ?_)
  refine j_bald hx (f := 1504) (o := t) kd1504 rfl (by decide +kernel) h94 ?_
  refine j_runA hx 1 (tb := [(306, .iconst 2)]) (jtb_ok (by decide +kernel)) (pc' := 307) (lv' := [(0, vR t), (1, vI l1), (2, vI l2)]) (st' := [vI (kI 2), vI (jA W 1504 t (ix l2))]) rfl ?_
  refine j_icmp_ne hx (off := 13) (tgt := 320) (by decide +kernel) (by decide) (fun _ => ?_) (fun _ => ?_)
  · exact wwn_shape_320 h l1 l2 W
  refine j_runA hx 2 (tb := [(310, .aload_n 0), (311, .dup)]) (jtb_ok (by decide +kernel)) (pc' := 312) (lv' := [(0, vR t), (1, vI l1), (2, vI l2)]) (st' := [vR t, vR t]) rfl ?_
  refine j_getI hx flX10_43 kd1512 h93 (by decide) (by decide +kernel) ?_
  refine j_runA hx 2 (tb := [(315, .iconst 1), (316, .iadd)]) (jtb_ok (by decide +kernel)) (pc' := 317) (lv' := [(0, vR t), (1, vI l1), (2, vI l2)]) (st' := [vI ((jI W 1512 t) + (kI 1)), vR t]) rfl ?_
  refine j_putI hx fwX10_43 wf1512 kd1512 h93 (by decide) (by decide +kernel) (ni1512 _) (fi1512 _) ?_
  refine j_ltw rfl (fun W95 hc96 => ?_)
  have h97 : jC W95 t = 15 := (congrFun hc96 _).trans h93
  exact wwn_shape_320 h l1 l2 W95
theorem wwn_shape_280 {x : jCx} {en : (fwn_shape_S ⊕ (jW)) → Option (Outcome × jW)} {t : Nat} (h : hwn_shape x en t) (l1 : Int32) (l2 : Int32) (W : jW) : jJ x 4 280 [(0, vR t), (1, vI l1), (2, vI l2)] [] W (fwn_shape_280 t l1 l2 W) en := by
  have h0 := h
  obtain ⟨hx, hm, hr, he, k22⟩ := h0
  unfold fwn_shape_280
  refine j_runA hx 1 (tb := [(280, .aload_n 0)]) (jtb_ok (by decide +kernel)) (pc' := 281) (lv' := [(0, vR t), (1, vI l1), (2, vI l2)]) (st' := [vR t]) rfl ?_
  refine j_gd (fun h86 => ?_)
  refine j_getR hx flX10_18 kl1504 h86 (by decide) (by decide +kernel) ?_
  refine j_runA hx 1 (tb := [(284, .iload_n 2)]) (jtb_ok (by decide +kernel)) (pc' := 285) (lv' := [(0, vR t), (1, vI l1), (2, vI l2)]) (st' := [vI l2, vR (jR W 1504 t)]) rfl ?_
  refine j_gd (fun h87 => ?_)
  refine j_bald hx (f := 1504) (o := t) kd1504 rfl (by decide +kernel) h87 ?_
  refine j_runA hx 1 (tb := [(286, .iconst 1)]) (jtb_ok (by decide +kernel)) (pc' := 287) (lv' := [(0, vR t), (1, vI l1), (2, vI l2)]) (st' := [vI (kI 1), vI (jA W 1504 t (ix l2))]) rfl ?_
  refine j_icmp_ne hx (off := 13) (tgt := 300) (by decide +kernel) (by decide) (fun _ => ?_) (fun _ => ?_)
  · exact wwn_shape_300 h l1 l2 W
  refine j_runA hx 2 (tb := [(290, .aload_n 0), (291, .dup)]) (jtb_ok (by decide +kernel)) (pc' := 292) (lv' := [(0, vR t), (1, vI l1), (2, vI l2)]) (st' := [vR t, vR t]) rfl ?_
  refine j_getI hx flX10_40 kd1511 h86 (by decide) (by decide +kernel) ?_
  refine j_runA hx 2 (tb := [(295, .iconst 1), (296, .iadd)]) (jtb_ok (by decide +kernel)) (pc' := 297) (lv' := [(0, vR t), (1, vI l1), (2, vI l2)]) (st' := [vI ((jI W 1511 t) + (kI 1)), vR t]) rfl ?_
  refine j_putI hx fwX10_40 wf1511 kd1511 h86 (by decide) (by decide +kernel) (ni1511 _) (fi1511 _) ?_
  refine j_ltw rfl (fun W88 hc89 => ?_)
  have h90 : jC W88 t = 15 := (congrFun hc89 _).trans h86
  exact wwn_shape_300 h l1 l2 W88
theorem wwn_shape_182 {x : jCx} {en : (fwn_shape_S ⊕ (jW)) → Option (Outcome × jW)} {t : Nat} (h : hwn_shape x en t) (l1 : Int32) (l2 : Int32) (s0 : Int32) (s1 : Int32) (s2 : Nat) (W : jW) : jJ x 4 182 [(0, vR t), (1, vI l1), (2, vI l2)] [vI s0, vI s1, vR s2] W (fwn_shape_182 t l1 l2 s0 s1 s2 W) en := by
  have h0 := h
  obtain ⟨hx, hm, hr, he, k22⟩ := h0
  unfold fwn_shape_182
  refine j_gd (fun h74 => ?_)
  refine j_gd (fun h75 => ?_)
  refine j_zast hx (f := 1506) (o := t) kd1506 h74 (by decide +kernel) h75 ?_
  refine j_ltw rfl (fun W76 hc77 => ?_)
  refine j_goto hx (off := 97) (by decide +kernel) (tgt := 280) (by decide) ?_
  exact wwn_shape_280 h l1 l2 W76
theorem wwn_shape_162 {x : jCx} {en : (fwn_shape_S ⊕ (jW)) → Option (Outcome × jW)} {t : Nat} (h : hwn_shape x en t) (l1 : Int32) (l2 : Int32) (l3 : Int32) (W : jW) : jJ x 4 162 [(0, vR t), (1, vI l1), (2, vI l2), (3, vI l3)] [] W (fwn_shape_162 t l1 l2 l3 W) en := by
  have h0 := h
  obtain ⟨hx, hm, hr, he, k22⟩ := h0
  unfold fwn_shape_162
  refine j_runA hx 1 (tb := [(162, .aload_n 0)]) (jtb_ok (by decide +kernel)) (pc' := 163) (lv' := [(0, vR t), (1, vI l1), (2, vI l2), (3, vI l3)]) (st' := [vR t]) rfl ?_
  refine j_gd (fun h71 => ?_)
  refine j_getR hx flX10_26 kl1506 h71 (by decide) (by decide +kernel) ?_
  refine j_runA hx 2 (tb := [(166, .iload_n 2), (167, .aload_n 0)]) (jtb_ok (by decide +kernel)) (pc' := 168) (lv' := [(0, vR t), (1, vI l1), (2, vI l2), (3, vI l3)]) (st' := [vR t, vI l2, vR (jR W 1506 t)]) rfl ?_
  refine j_getR hx flX10_29 kl1507 h71 (by decide) (by decide +kernel) ?_
  refine j_runA hx 1 (tb := [(171, .iload_n 2)]) (jtb_ok (by decide +kernel)) (pc' := 172) (lv' := [(0, vR t), (1, vI l1), (2, vI l2), (3, vI l3)]) (st' := [vI l2, vR (jR W 1507 t), vI l2, vR (jR W 1506 t)]) rfl ?_
  refine j_gd (fun h72 => ?_)
  refine j_iald hx (f := 1507) (o := t) kd1507 rfl (by decide +kernel) h72 ?_
  refine j_runA hx 1 (tb := [(173, .iload_n 3)]) (jtb_ok (by decide +kernel)) (pc' := 174) (lv' := [(0, vR t), (1, vI l1), (2, vI l2), (3, vI l3)]) (st' := [vI l3, vI (jA W 1507 t (ix l2)), vI l2, vR (jR W 1506 t)]) rfl ?_
  refine j_icmp_eq hx (off := 7) (tgt := 181) (by decide +kernel) (by decide) (fun _ => ?_) (fun _ => ?_)
  · refine j_runA hx 1 (tb := [(181, .iconst 0)]) (jtb_ok (by decide +kernel)) (pc' := 182) (lv' := [(0, vR t), (1, vI l1), (2, vI l2), (3, vI l3)]) (st' := [vI (kI 0), vI l2, vR (jR W 1506 t)]) rfl ?_
    refine j_lv (lv' := [(0, vR t), (1, vI l1), (2, vI l2)]) ⟨rfl, rfl, rfl, trivial⟩ ?_
    exact wwn_shape_182 h l1 l2 (kI 0) l2 (jR W 1506 t) W
  refine j_runA hx 1 (tb := [(177, .iconst 1)]) (jtb_ok (by decide +kernel)) (pc' := 178) (lv' := [(0, vR t), (1, vI l1), (2, vI l2), (3, vI l3)]) (st' := [vI (kI 1), vI l2, vR (jR W 1506 t)]) rfl ?_
  refine j_goto hx (off := 4) (by decide +kernel) (tgt := 182) (by decide) ?_
  refine j_lv (lv' := [(0, vR t), (1, vI l1), (2, vI l2)]) ⟨rfl, rfl, rfl, trivial⟩ ?_
  exact wwn_shape_182 h l1 l2 (kI 1) l2 (jR W 1506 t) W
theorem wwn_shape_210 {x : jCx} {en : (fwn_shape_S ⊕ (jW)) → Option (Outcome × jW)} {t : Nat} (h : hwn_shape x en t) (l1 : Int32) (l2 : Int32) (s0 : Int32) (s1 : Int32) (s2 : Nat) (W : jW) : jJ x 4 210 [(0, vR t), (1, vI l1), (2, vI l2)] [vI s0, vI s1, vR s2] W (fwn_shape_210 t l1 l2 s0 s1 s2 W) en := by
  have h0 := h
  obtain ⟨hx, hm, hr, he, k22⟩ := h0
  unfold fwn_shape_210
  refine j_gd (fun h80 => ?_)
  refine j_gd (fun h81 => ?_)
  refine j_zast hx (f := 1506) (o := t) kd1506 h80 (by decide +kernel) h81 ?_
  refine j_ltw rfl (fun W82 hc83 => ?_)
  refine j_goto hx (off := 69) (by decide +kernel) (tgt := 280) (by decide) ?_
  exact wwn_shape_280 h l1 l2 W82
theorem wwn_shape_80 {x : jCx} {en : (fwn_shape_S ⊕ (jW)) → Option (Outcome × jW)} {t : Nat} (h : hwn_shape x en t) (l1 : Int32) (l2 : Int32) (s0 : Int32) (s1 : Int32) (s2 : Nat) (W : jW) : jJ x 4 80 [(0, vR t), (1, vI l1), (2, vI l2)] [vI s0, vI s1, vR s2] W (fwn_shape_80 t l1 l2 s0 s1 s2 W) en := by
  have h0 := h
  obtain ⟨hx, hm, hr, he, k22⟩ := h0
  unfold fwn_shape_80
  refine j_gd (fun h25 => ?_)
  refine j_gd (fun h26 => ?_)
  refine j_iast hx (f := 1507) (o := t) kd1507 h25 (by decide +kernel) h26 ?_
  refine j_ltw rfl (fun W27 hc28 => ?_)
  refine j_runA hx 1 (tb := [(81, .aload_n 0)]) (jtb_ok (by decide +kernel)) (pc' := 82) (lv' := [(0, vR t), (1, vI l1), (2, vI l2)]) (st' := [vR t]) rfl ?_
  refine j_gd (fun h30 => ?_)
  refine j_getR hx flX10_22 kl1505 h30 (by decide) (by decide +kernel) ?_
  refine j_runA hx 2 (tb := [(85, .iload_n 2), (86, .iconst 0)]) (jtb_ok (by decide +kernel)) (pc' := 87) (lv' := [(0, vR t), (1, vI l1), (2, vI l2)]) (st' := [vI (kI 0), vI l2, vR (jR W27 1505 t)]) rfl ?_
  refine j_gd (fun h31 => ?_)
  refine j_zast hx (f := 1505) (o := t) kd1505 rfl (by decide +kernel) h31 ?_
  refine j_ltw rfl (fun W32 hc33 => ?_)
  have h34 : jC W32 t = 15 := (congrFun hc33 _).trans h30
  refine j_runA hx 1 (tb := [(88, .aload_n 0)]) (jtb_ok (by decide +kernel)) (pc' := 89) (lv' := [(0, vR t), (1, vI l1), (2, vI l2)]) (st' := [vR t]) rfl ?_
  refine j_getR hx flX10_18 kl1504 h34 (by decide) (by decide +kernel) ?_
  refine j_runA hx 2 (tb := [(92, .iload_n 2), (93, .iconst 0)]) (jtb_ok (by decide +kernel)) (pc' := 94) (lv' := [(0, vR t), (1, vI l1), (2, vI l2)]) (st' := [vI (kI 0), vI l2, vR (jR W32 1504 t)]) rfl ?_
  refine j_gd (fun h36 => ?_)
  refine j_bast hx (f := 1504) (o := t) kd1504 rfl (by decide +kernel) h36 ?_
  refine j_ltw rfl (fun W37 hc38 => ?_)
  have h39 : jC W37 t = 15 := (congrFun hc38 _).trans h34
  refine j_runA hx 1 (tb := [(95, .aload_n 0)]) (jtb_ok (by decide +kernel)) (pc' := 96) (lv' := [(0, vR t), (1, vI l1), (2, vI l2)]) (st' := [vR t]) rfl ?_
  refine j_getR hx flX10_26 kl1506 h39 (by decide) (by decide +kernel) ?_
  refine j_runA hx 2 (tb := [(99, .iload_n 2), (100, .iconst 0)]) (jtb_ok (by decide +kernel)) (pc' := 101) (lv' := [(0, vR t), (1, vI l1), (2, vI l2)]) (st' := [vI (kI 0), vI l2, vR (jR W37 1506 t)]) rfl ?_
  refine j_gd (fun h41 => ?_)
  refine j_zast hx (f := 1506) (o := t) kd1506 rfl (by decide +kernel) h41 ?_
  refine j_ltw rfl (fun W42 hc43 => ?_)
  have h44 : jC W42 t = 15 := (congrFun hc43 _).trans h39
  refine j_runA hx 1 (tb := [(102, .aload_n 0)]) (jtb_ok (by decide +kernel)) (pc' := 103) (lv' := [(0, vR t), (1, vI l1), (2, vI l2)]) (st' := [vR t]) rfl ?_
  refine j_getR hx flX10_32 kl1500 h44 (by decide) (by decide +kernel) ?_
  refine j_runA hx 1 (tb := [(106, .iload_n 2)]) (jtb_ok (by decide +kernel)) (pc' := 107) (lv' := [(0, vR t), (1, vI l1), (2, vI l2)]) (st' := [vI l2, vR (jR W42 1500 t)]) rfl ?_
  refine j_gd (fun h46 => ?_)
  refine j_OI (j_callV (av := [vI l2]) (st := []) hx hr (Or.inr ⟨_, q3142⟩) q3094 qs150 rfl md_fmo_next np_fmo_next (cmo_next (jR W42 1500 t) l2 W42) (by decide) (Nat.le_of_ble_eq_true rfl) h46 (by decide) (by decide +kernel)) (fun q47 _ => ?_)
  refine j_runA hx 2 (tb := [(110, .istore_n 3), (111, .aload_n 0)]) (jtb_ok (by decide +kernel)) (pc' := 112) (lv' := [(3, vI q47), (0, vR t), (1, vI l1), (2, vI l2)]) (st' := [vR t]) rfl ?_
  refine j_getR hx flX10_32 kl1500 h44 (by decide) (by decide +kernel) ?_
  refine j_getR hx flX10_58 kl1325 h46 (by decide) (by decide +kernel) ?_
  refine j_runA hx 1 (tb := [(118, .iload_n 2)]) (jtb_ok (by decide +kernel)) (pc' := 119) (lv' := [(3, vI q47), (0, vR t), (1, vI l1), (2, vI l2)]) (st' := [vI l2, vR (jR W42 1325 (jR W42 1500 t))]) rfl ?_
  refine j_gd (fun h48 => ?_)
  refine j_iald hx (f := 1325) (o := (jR W42 1500 t)) kd1325 rfl (by decide +kernel) h48 ?_
  refine j_runA hx 1 (tb := [(120, .iconst 3)]) (jtb_ok (by decide +kernel)) (pc' := 121) (lv' := [(3, vI q47), (0, vR t), (1, vI l1), (2, vI l2)]) (st' := [vI (kI 3), vI (jA W42 1325 (jR W42 1500 t) (ix l2))]) rfl ?_
  refine j_icmp_ne hx (off := 65) (tgt := 186) (by decide +kernel) (by decide) (fun _ => ?_) (fun _ => ?_)
  · refine j_runA hx 1 (tb := [(186, .iload_n 3)]) (jtb_ok (by decide +kernel)) (pc' := 187) (lv' := [(3, vI q47), (0, vR t), (1, vI l1), (2, vI l2)]) (st' := [vI q47]) rfl ?_
    refine j_if_lt hx (off := 27) (tgt := 214) (by decide +kernel) (by decide) (fun _ => ?_) (fun _ => ?_)
    · refine j_runA hx 1 (tb := [(214, .aload_n 0)]) (jtb_ok (by decide +kernel)) (pc' := 215) (lv' := [(3, vI q47), (0, vR t), (1, vI l1), (2, vI l2)]) (st' := [vR t]) rfl ?_
      refine j_getR hx flX10_32 kl1500 h44 (by decide) (by decide +kernel) ?_
      refine j_getR hx flX10_58 kl1325 h46 (by decide) (by decide +kernel) ?_
      refine j_runA hx 1 (tb := [(221, .iload_n 2)]) (jtb_ok (by decide +kernel)) (pc' := 222) (lv' := [(3, vI q47), (0, vR t), (1, vI l1), (2, vI l2)]) (st' := [vI l2, vR (jR W42 1325 (jR W42 1500 t))]) rfl ?_
      refine j_gd (fun h49 => ?_)
      refine j_iald hx (f := 1325) (o := (jR W42 1500 t)) kd1325 rfl (by decide +kernel) h49 ?_
      refine j_runA hx 1 (tb := [(223, .iconst 1)]) (jtb_ok (by decide +kernel)) (pc' := 224) (lv' := [(3, vI q47), (0, vR t), (1, vI l1), (2, vI l2)]) (st' := [vI (kI 1), vI (jA W42 1325 (jR W42 1500 t) (ix l2))]) rfl ?_
      refine j_icmp_ne hx (off := 56) (tgt := 280) (by decide +kernel) (by decide) (fun _ => ?_) (fun _ => ?_)
      · refine j_lv (lv' := [(0, vR t), (1, vI l1), (2, vI l2)]) ⟨rfl, rfl, rfl, trivial⟩ ?_
        exact wwn_shape_280 h l1 l2 W42
      refine j_runA hx 1 (tb := [(227, .aload_n 0)]) (jtb_ok (by decide +kernel)) (pc' := 228) (lv' := [(3, vI q47), (0, vR t), (1, vI l1), (2, vI l2)]) (st' := [vR t]) rfl ?_
      refine j_getR hx flX10_29 kl1507 h44 (by decide) (by decide +kernel) ?_
      refine j_runA hx 1 (tb := [(231, .iload_n 2)]) (jtb_ok (by decide +kernel)) (pc' := 232) (lv' := [(3, vI q47), (0, vR t), (1, vI l1), (2, vI l2)]) (st' := [vI l2, vR (jR W42 1507 t)]) rfl ?_
      refine j_gd (fun h50 => ?_)
      refine j_iald hx (f := 1507) (o := t) kd1507 rfl (by decide +kernel) h50 ?_
      refine j_runA hx 1 (tb := [(233, .aload_n 0)]) (jtb_ok (by decide +kernel)) (pc' := 234) (lv' := [(3, vI q47), (0, vR t), (1, vI l1), (2, vI l2)]) (st' := [vR t, vI (jA W42 1507 t (ix l2))]) rfl ?_
      refine j_getR hx flX10_32 kl1500 h44 (by decide) (by decide +kernel) ?_
      refine j_getR hx flX10_61 kl1326 h46 (by decide) (by decide +kernel) ?_
      refine j_runA hx 1 (tb := [(240, .iload_n 2)]) (jtb_ok (by decide +kernel)) (pc' := 241) (lv' := [(3, vI q47), (0, vR t), (1, vI l1), (2, vI l2)]) (st' := [vI l2, vR (jR W42 1326 (jR W42 1500 t)), vI (jA W42 1507 t (ix l2))]) rfl ?_
      refine j_gd (fun h51 => ?_)
      refine j_iald hx (f := 1326) (o := (jR W42 1500 t)) kd1326 rfl (by decide +kernel) h51 ?_
      refine j_icmp_ne hx (off := 38) (tgt := 280) (by decide +kernel) (by decide) (fun _ => ?_) (fun _ => ?_)
      · refine j_lv (lv' := [(0, vR t), (1, vI l1), (2, vI l2)]) ⟨rfl, rfl, rfl, trivial⟩ ?_
        exact wwn_shape_280 h l1 l2 W42
      refine j_runA hx 1 (tb := [(245, .aload_n 0)]) (jtb_ok (by decide +kernel)) (pc' := 246) (lv' := [(3, vI q47), (0, vR t), (1, vI l1), (2, vI l2)]) (st' := [vR t]) rfl ?_
      refine j_getR hx flX10_32 kl1500 h44 (by decide) (by decide +kernel) ?_
      refine j_getR hx flX10_64 kl1323 h46 (by decide) (by decide +kernel) ?_
      refine j_runA hx 1 (tb := [(252, .iload_n 2)]) (jtb_ok (by decide +kernel)) (pc' := 253) (lv' := [(3, vI q47), (0, vR t), (1, vI l1), (2, vI l2)]) (st' := [vI l2, vR (jR W42 1323 (jR W42 1500 t))]) rfl ?_
      refine j_gd (fun h52 => ?_)
      refine j_iald hx (f := 1323) (o := (jR W42 1500 t)) kd1323 rfl (by decide +kernel) h52 ?_
      refine j_runA hx 1 (tb := [(254, .iconst 1)]) (jtb_ok (by decide +kernel)) (pc' := 255) (lv' := [(3, vI q47), (0, vR t), (1, vI l1), (2, vI l2)]) (st' := [vI (kI 1), vI (jA W42 1323 (jR W42 1500 t) (ix l2))]) rfl ?_
      refine j_icmp_le hx (off := 25) (tgt := 280) (by decide +kernel) (by decide) (fun _ => ?_) (fun _ => ?_)
      · refine j_lv (lv' := [(0, vR t), (1, vI l1), (2, vI l2)]) ⟨rfl, rfl, rfl, trivial⟩ ?_
        exact wwn_shape_280 h l1 l2 W42
      refine j_runA hx 1 (tb := [(258, .aload_n 0)]) (jtb_ok (by decide +kernel)) (pc' := 259) (lv' := [(3, vI q47), (0, vR t), (1, vI l1), (2, vI l2)]) (st' := [vR t]) rfl ?_
      refine j_getR hx flX10_32 kl1500 h44 (by decide) (by decide +kernel) ?_
      refine j_getR hx flX10_61 kl1326 h46 (by decide) (by decide +kernel) ?_
      refine j_runA hx 1 (tb := [(265, .iload_n 2)]) (jtb_ok (by decide +kernel)) (pc' := 266) (lv' := [(3, vI q47), (0, vR t), (1, vI l1), (2, vI l2)]) (st' := [vI l2, vR (jR W42 1326 (jR W42 1500 t))]) rfl ?_
      refine j_gd (fun h53 => ?_)
      refine j_iald hx (f := 1326) (o := (jR W42 1500 t)) kd1326 rfl (by decide +kernel) h53 ?_
      refine j_runA hx 3 (tb := [(267, .iload_n 2), (268, .iconst 1), (269, .iadd)]) (jtb_ok (by decide +kernel)) (pc' := 270) (lv' := [(3, vI q47), (0, vR t), (1, vI l1), (2, vI l2)]) (st' := [vI (l2 + (kI 1)), vI (jA W42 1326 (jR W42 1500 t) (ix l2))]) rfl ?_
      refine j_icmp_eq hx (off := 10) (tgt := 280) (by decide +kernel) (by decide) (fun _ => ?_) (fun _ => ?_)
      · refine j_lv (lv' := [(0, vR t), (1, vI l1), (2, vI l2)]) ⟨rfl, rfl, rfl, trivial⟩ ?_
        exact wwn_shape_280 h l1 l2 W42
      refine j_runA hx 1 (tb := [(273, .aload_n 0)]) (jtb_ok (by decide +kernel)) (pc' := 274) (lv' := [(3, vI q47), (0, vR t), (1, vI l1), (2, vI l2)]) (st' := [vR t]) rfl ?_
      refine j_getR hx flX10_18 kl1504 h44 (by decide) (by decide +kernel) ?_
      refine j_runA hx 2 (tb := [(277, .iload_n 2), (278, .iconst 1)]) (jtb_ok (by decide +kernel)) (pc' := 279) (lv' := [(3, vI q47), (0, vR t), (1, vI l1), (2, vI l2)]) (st' := [vI (kI 1), vI l2, vR (jR W42 1504 t)]) rfl ?_
      refine j_gd (fun h54 => ?_)
      refine j_bast hx (f := 1504) (o := t) kd1504 rfl (by decide +kernel) h54 ?_
      refine j_ltw rfl (fun W55 hc56 => ?_)
      have h57 : jC W55 t = 15 := (congrFun hc56 _).trans h44
      have h58 : jC W55 (jR W42 1500 t) = 13 := (congrFun hc56 _).trans h46
      refine j_lv (lv' := [(0, vR t), (1, vI l1), (2, vI l2)]) ⟨rfl, rfl, rfl, trivial⟩ ?_
      exact wwn_shape_280 h l1 l2 W55
    refine j_runA hx 1 (tb := [(190, .aload_n 0)]) (jtb_ok (by decide +kernel)) (pc' := 191) (lv' := [(3, vI q47), (0, vR t), (1, vI l1), (2, vI l2)]) (st' := [vR t]) rfl ?_
    refine j_getR hx flX10_26 kl1506 h44 (by decide) (by decide +kernel) ?_
    refine j_runA hx 2 (tb := [(194, .iload_n 2), (195, .aload_n 0)]) (jtb_ok (by decide +kernel)) (pc' := 196) (lv' := [(3, vI q47), (0, vR t), (1, vI l1), (2, vI l2)]) (st' := [vR t, vI l2, vR (jR W42 1506 t)]) rfl ?_
    refine j_getR hx flX10_29 kl1507 h44 (by decide) (by decide +kernel) ?_
    refine j_runA hx 1 (tb := [(199, .iload_n 2)]) (jtb_ok (by decide +kernel)) (pc' := 200) (lv' := [(3, vI q47), (0, vR t), (1, vI l1), (2, vI l2)]) (st' := [vI l2, vR (jR W42 1507 t), vI l2, vR (jR W42 1506 t)]) rfl ?_
    refine j_gd (fun h60 => ?_)
    refine j_iald hx (f := 1507) (o := t) kd1507 rfl (by decide +kernel) h60 ?_
    refine j_runA hx 1 (tb := [(201, .iload_n 3)]) (jtb_ok (by decide +kernel)) (pc' := 202) (lv' := [(3, vI q47), (0, vR t), (1, vI l1), (2, vI l2)]) (st' := [vI q47, vI (jA W42 1507 t (ix l2)), vI l2, vR (jR W42 1506 t)]) rfl ?_
    refine j_icmp_eq hx (off := 7) (tgt := 209) (by decide +kernel) (by decide) (fun _ => ?_) (fun _ => ?_)
    · refine j_runA hx 1 (tb := [(209, .iconst 0)]) (jtb_ok (by decide +kernel)) (pc' := 210) (lv' := [(3, vI q47), (0, vR t), (1, vI l1), (2, vI l2)]) (st' := [vI (kI 0), vI l2, vR (jR W42 1506 t)]) rfl ?_
      refine j_lv (lv' := [(0, vR t), (1, vI l1), (2, vI l2)]) ⟨rfl, rfl, rfl, trivial⟩ ?_
      exact wwn_shape_210 h l1 l2 (kI 0) l2 (jR W42 1506 t) W42
    refine j_runA hx 1 (tb := [(205, .iconst 1)]) (jtb_ok (by decide +kernel)) (pc' := 206) (lv' := [(3, vI q47), (0, vR t), (1, vI l1), (2, vI l2)]) (st' := [vI (kI 1), vI l2, vR (jR W42 1506 t)]) rfl ?_
    refine j_goto hx (off := 4) (by decide +kernel) (tgt := 210) (by decide) ?_
    refine j_lv (lv' := [(0, vR t), (1, vI l1), (2, vI l2)]) ⟨rfl, rfl, rfl, trivial⟩ ?_
    exact wwn_shape_210 h l1 l2 (kI 1) l2 (jR W42 1506 t) W42
  refine j_runA hx 1 (tb := [(124, .aload_n 0)]) (jtb_ok (by decide +kernel)) (pc' := 125) (lv' := [(3, vI q47), (0, vR t), (1, vI l1), (2, vI l2)]) (st' := [vR t]) rfl ?_
  refine j_getR hx flX10_29 kl1507 h44 (by decide) (by decide +kernel) ?_
  refine j_runA hx 1 (tb := [(128, .iload_n 2)]) (jtb_ok (by decide +kernel)) (pc' := 129) (lv' := [(3, vI q47), (0, vR t), (1, vI l1), (2, vI l2)]) (st' := [vI l2, vR (jR W42 1507 t)]) rfl ?_
  refine j_gd (fun h61 => ?_)
  refine j_iald hx (f := 1507) (o := t) kd1507 rfl (by decide +kernel) h61 ?_
  refine j_runA hx 1 (tb := [(130, .iload_n 3)]) (jtb_ok (by decide +kernel)) (pc' := 131) (lv' := [(3, vI q47), (0, vR t), (1, vI l1), (2, vI l2)]) (st' := [vI q47, vI (jA W42 1507 t (ix l2))]) rfl ?_
  refine j_icmp_eq hx (off := 31) (tgt := 162) (by decide +kernel) (by decide) (fun _ => ?_) (fun _ => ?_)
  · refine j_lv (lv' := [(0, vR t), (1, vI l1), (2, vI l2), (3, vI q47)]) ⟨rfl, rfl, rfl, rfl, trivial⟩ ?_
    exact wwn_shape_162 h l1 l2 q47 W42
  refine j_runA hx 1 (tb := [(134, .aload_n 0)]) (jtb_ok (by decide +kernel)) (pc' := 135) (lv' := [(3, vI q47), (0, vR t), (1, vI l1), (2, vI l2)]) (st' := [vR t]) rfl ?_
  refine j_getR hx flX10_29 kl1507 h44 (by decide) (by decide +kernel) ?_
  refine j_runA hx 1 (tb := [(138, .iload_n 2)]) (jtb_ok (by decide +kernel)) (pc' := 139) (lv' := [(3, vI q47), (0, vR t), (1, vI l1), (2, vI l2)]) (st' := [vI l2, vR (jR W42 1507 t)]) rfl ?_
  refine j_gd (fun h62 => ?_)
  refine j_iald hx (f := 1507) (o := t) kd1507 rfl (by decide +kernel) h62 ?_
  refine j_runA hx 1 (tb := [(140, .aload_n 0)]) (jtb_ok (by decide +kernel)) (pc' := 141) (lv' := [(3, vI q47), (0, vR t), (1, vI l1), (2, vI l2)]) (st' := [vR t, vI (jA W42 1507 t (ix l2))]) rfl ?_
  refine j_getR hx flX10_32 kl1500 h44 (by decide) (by decide +kernel) ?_
  refine j_getR hx flX10_61 kl1326 h46 (by decide) (by decide +kernel) ?_
  refine j_runA hx 1 (tb := [(147, .iload_n 2)]) (jtb_ok (by decide +kernel)) (pc' := 148) (lv' := [(3, vI q47), (0, vR t), (1, vI l1), (2, vI l2)]) (st' := [vI l2, vR (jR W42 1326 (jR W42 1500 t)), vI (jA W42 1507 t (ix l2))]) rfl ?_
  refine j_gd (fun h63 => ?_)
  refine j_iald hx (f := 1326) (o := (jR W42 1500 t)) kd1326 rfl (by decide +kernel) h63 ?_
  refine j_icmp_ne hx (off := 13) (tgt := 162) (by decide +kernel) (by decide) (fun _ => ?_) (fun _ => ?_)
  · refine j_lv (lv' := [(0, vR t), (1, vI l1), (2, vI l2), (3, vI q47)]) ⟨rfl, rfl, rfl, rfl, trivial⟩ ?_
    exact wwn_shape_162 h l1 l2 q47 W42
  refine j_runA hx 1 (tb := [(152, .aload_n 0)]) (jtb_ok (by decide +kernel)) (pc' := 153) (lv' := [(3, vI q47), (0, vR t), (1, vI l1), (2, vI l2)]) (st' := [vR t]) rfl ?_
  refine j_getR hx flX10_18 kl1504 h44 (by decide) (by decide +kernel) ?_
  refine j_runA hx 2 (tb := [(156, .iload_n 2), (157, .iconst 2)]) (jtb_ok (by decide +kernel)) (pc' := 158) (lv' := [(3, vI q47), (0, vR t), (1, vI l1), (2, vI l2)]) (st' := [vI (kI 2), vI l2, vR (jR W42 1504 t)]) rfl ?_
  refine j_gd (fun h64 => ?_)
  refine j_bast hx (f := 1504) (o := t) kd1504 rfl (by decide +kernel) h64 ?_
  refine j_ltw rfl (fun W65 hc66 => ?_)
  have h67 : jC W65 t = 15 := (congrFun hc66 _).trans h44
  have h68 : jC W65 (jR W42 1500 t) = 13 := (congrFun hc66 _).trans h46
  refine j_goto hx (off := 121) (by decide +kernel) (tgt := 280) (by decide) ?_
  refine j_lv (lv' := [(0, vR t), (1, vI l1), (2, vI l2)]) ⟨rfl, rfl, rfl, trivial⟩ ?_
  exact wwn_shape_280 h l1 l2 W65
theorem wwn_shape_79 {x : jCx} {en : (fwn_shape_S ⊕ (jW)) → Option (Outcome × jW)} {t : Nat} (h : hwn_shape x en t) (l1 : Int32) (l2 : Int32) (s0 : Int32) (s1 : Nat) (W : jW) : jJ x 4 79 [(0, vR t), (1, vI l1), (2, vI l2)] [vI s0, vR s1] W (fwn_shape_79 t l1 l2 s0 s1 W) en := by
  have h0 := h
  obtain ⟨hx, hm, hr, he, k22⟩ := h0
  unfold fwn_shape_79
  refine j_runA hx 1 (tb := [(79, .iconst (-1))]) (jtb_ok (by decide +kernel)) (pc' := 80) (lv' := [(0, vR t), (1, vI l1), (2, vI l2)]) (st' := [vI (kI (-1)), vI s0, vR s1]) rfl ?_
  exact wwn_shape_80 h l1 l2 (kI (-1)) s0 s1 W
theorem wwn_shape_22 {x : jCx} {en : (fwn_shape_S ⊕ (jW)) → Option (Outcome × jW)} {t : Nat} (h : hwn_shape x en t) (l1 : Int32) (W : jW) : jJ x 4 22 [(0, vR t), (1, vI l1)] [] W (fwn_shape_22 t l1 W) en := by
  have h0 := h
  obtain ⟨hx, hm, hr, he, k22⟩ := h0
  unfold fwn_shape_22
  refine j_runA hx 2 (tb := [(22, .iload_n 1), (23, .aload_n 0)]) (jtb_ok (by decide +kernel)) (pc' := 24) (lv' := [(0, vR t), (1, vI l1)]) (st' := [vR t, vI l1]) rfl ?_
  refine j_gd (fun h19 => ?_)
  refine j_getR hx flX10_32 kl1500 h19 (by decide) (by decide +kernel) ?_
  refine j_gd (fun h20 => ?_)
  refine j_getI hx flX10_49 kd1312 h20 (by decide) (by decide +kernel) ?_
  refine j_icmp_ge hx (off := 315) (tgt := 345) (by decide +kernel) (by decide) (fun _ => ?_) (fun _ => ?_)
  · exact j_vret hx hm (by decide +kernel) (he _)
  refine j_runA hx 1 (tb := [(33, .aload_n 0)]) (jtb_ok (by decide +kernel)) (pc' := 34) (lv' := [(0, vR t), (1, vI l1)]) (st' := [vR t]) rfl ?_
  refine j_getR hx flX10_9 kl1501 h19 (by decide) (by decide +kernel) ?_
  refine j_runA hx 1 (tb := [(37, .iload_n 1)]) (jtb_ok (by decide +kernel)) (pc' := 38) (lv' := [(0, vR t), (1, vI l1)]) (st' := [vI l1, vR (jR W 1501 t)]) rfl ?_
  refine j_gd (fun h21 => ?_)
  refine j_iald hx (f := 1501) (o := t) kd1501 rfl (by decide +kernel) h21 ?_
  refine j_runA hx 1 (tb := [(39, .istore_n 2)]) (jtb_ok (by decide +kernel)) (pc' := 40) (lv' := [(2, vI (jA W 1501 t (ix l1))), (0, vR t), (1, vI l1)]) (st' := []) rfl ?_
  refine j_let (v := (jA W 1501 t (ix l1))) (lv := fun v22 => [(2, vI v22), (0, vR t), (1, vI l1)]) (st := fun _ => []) (fun v22 => ?_)
  refine j_runA hx 1 (tb := [(40, .aload_n 0)]) (jtb_ok (by decide +kernel)) (pc' := 41) (lv' := [(2, vI v22), (0, vR t), (1, vI l1)]) (st' := [vR t]) rfl ?_
  refine j_getR hx flX10_29 kl1507 h19 (by decide) (by decide +kernel) ?_
  refine j_runA hx 5 (tb := [(44, .iload_n 2), (45, .iload_n 1), (46, .iconst 1), (47, .iadd), (48, .aload_n 0)]) (jtb_ok (by decide +kernel)) (pc' := 49) (lv' := [(2, vI v22), (0, vR t), (1, vI l1)]) (st' := [vR t, vI (l1 + (kI 1)), vI v22, vR (jR W 1507 t)]) rfl ?_
  refine j_getR hx flX10_32 kl1500 h19 (by decide) (by decide +kernel) ?_
  refine j_getI hx flX10_49 kd1312 h20 (by decide) (by decide +kernel) ?_
  refine j_icmp_ge hx (off := 24) (tgt := 79) (by decide +kernel) (by decide) (fun _ => ?_) (fun _ => ?_)
  · refine j_lv (lv' := [(0, vR t), (1, vI l1), (2, vI v22)]) ⟨rfl, rfl, rfl, trivial⟩ ?_
    exact wwn_shape_79 h l1 v22 v22 (jR W 1507 t) W
  refine j_runA hx 4 (tb := [(58, .iload_n 1), (59, .iconst 1), (60, .iadd), (61, .aload_n 0)]) (jtb_ok (by decide +kernel)) (pc' := 62) (lv' := [(2, vI v22), (0, vR t), (1, vI l1)]) (st' := [vR t, vI (l1 + (kI 1)), vI v22, vR (jR W 1507 t)]) rfl ?_
  refine j_getI hx flX10_52 kd1502 h19 (by decide) (by decide +kernel) ?_
  refine j_icmp_eq hx (off := 14) (tgt := 79) (by decide +kernel) (by decide) (fun _ => ?_) (fun _ => ?_)
  · refine j_lv (lv' := [(0, vR t), (1, vI l1), (2, vI v22)]) ⟨rfl, rfl, rfl, trivial⟩ ?_
    exact wwn_shape_79 h l1 v22 v22 (jR W 1507 t) W
  refine j_runA hx 1 (tb := [(68, .aload_n 0)]) (jtb_ok (by decide +kernel)) (pc' := 69) (lv' := [(2, vI v22), (0, vR t), (1, vI l1)]) (st' := [vR t, vI v22, vR (jR W 1507 t)]) rfl ?_
  refine j_getR hx flX10_9 kl1501 h19 (by decide) (by decide +kernel) ?_
  refine j_runA hx 3 (tb := [(72, .iload_n 1), (73, .iconst 1), (74, .iadd)]) (jtb_ok (by decide +kernel)) (pc' := 75) (lv' := [(2, vI v22), (0, vR t), (1, vI l1)]) (st' := [vI (l1 + (kI 1)), vR (jR W 1501 t), vI v22, vR (jR W 1507 t)]) rfl ?_
  refine j_gd (fun h23 => ?_)
  refine j_iald hx (f := 1501) (o := t) kd1501 rfl (by decide +kernel) h23 ?_
  refine j_goto hx (off := 4) (by decide +kernel) (tgt := 80) (by decide) ?_
  refine j_lv (lv' := [(0, vR t), (1, vI l1), (2, vI v22)]) ⟨rfl, rfl, rfl, trivial⟩ ?_
  exact wwn_shape_80 h l1 v22 (jA W 1501 t (ix (l1 + (kI 1)))) v22 (jR W 1507 t) W
theorem wwn_shape {x : jCx} {en : (fwn_shape_S ⊕ (jW)) → Option (Outcome × jW)} {t : Nat} (h : hwn_shape x en t) (W : jW) : jJ x 4 0 [(0, vR t)] [] W (fwn_shape_0 t W) en := by
  have h0 := h
  obtain ⟨hx, hm, hr, he, k22⟩ := h0
  unfold fwn_shape_0
  refine j_runA hx 2 (tb := [(0, .aload_n 0), (1, .iconst 0)]) (jtb_ok (by decide +kernel)) (pc' := 2) (lv' := [(0, vR t)]) (st' := [vI (kI 0), vR t]) rfl ?_
  refine j_gd (fun h1 => ?_)
  refine j_putI hx fwX10_36 wf1510 kd1510 h1 (by decide) (by decide +kernel) (ni1510 _) (fi1510 _) ?_
  refine j_ltw rfl (fun W2 hc3 => ?_)
  have h4 : jC W2 t = 15 := (congrFun hc3 _).trans h1
  refine j_runA hx 2 (tb := [(5, .aload_n 0), (6, .iconst 0)]) (jtb_ok (by decide +kernel)) (pc' := 7) (lv' := [(0, vR t)]) (st' := [vI (kI 0), vR t]) rfl ?_
  refine j_putI hx fwX10_40 wf1511 kd1511 h4 (by decide) (by decide +kernel) (ni1511 _) (fi1511 _) ?_
  refine j_ltw rfl (fun W6 hc7 => ?_)
  have h8 : jC W6 t = 15 := (congrFun hc7 _).trans h4
  refine j_runA hx 2 (tb := [(10, .aload_n 0), (11, .iconst 0)]) (jtb_ok (by decide +kernel)) (pc' := 12) (lv' := [(0, vR t)]) (st' := [vI (kI 0), vR t]) rfl ?_
  refine j_putI hx fwX10_43 wf1512 kd1512 h8 (by decide) (by decide +kernel) (ni1512 _) (fi1512 _) ?_
  refine j_ltw rfl (fun W10 hc11 => ?_)
  have h12 : jC W10 t = 15 := (congrFun hc11 _).trans h8
  refine j_runA hx 2 (tb := [(15, .aload_n 0), (16, .iconst 0)]) (jtb_ok (by decide +kernel)) (pc' := 17) (lv' := [(0, vR t)]) (st' := [vI (kI 0), vR t]) rfl ?_
  refine j_putI hx fwX10_46 wf1513 kd1513 h12 (by decide) (by decide +kernel) (ni1513 _) (fi1513 _) ?_
  refine j_ltw rfl (fun W14 hc15 => ?_)
  have h16 : jC W14 t = 15 := (congrFun hc15 _).trans h12
  refine j_runA hx 2 (tb := [(20, .iconst 0), (21, .istore_n 1)]) (jtb_ok (by decide +kernel)) (pc' := 22) (lv' := [(1, vI (kI 0)), (0, vR t)]) (st' := []) rfl ?_
  refine j_lv (lv' := [(0, vR t), (1, vI (kI 0))]) ⟨rfl, rfl, trivial⟩ ?_
  exact k22 (kI 0) W14
theorem cwn_shape (t : Nat) (W : jW) : jM yX10_shape cX10_shape 4 (Option.none : Option Jvm.ClassFile.FieldType) [] 1 13 [vR t] W ((fwn_shape t W).bind (fun q => some (.returned none, q))) := by
  refine jM.of (Nat.le_of_ble_eq_true rfl) (fun x hx hm hr => ?_)
  refine j_begin (P := (fun s => (22, [(0, vR t), (1, vI s.1)], s.2))) (fun en he hk => ?_)
  have h : hwn_shape x en t := ⟨hx, hm, hr, fun q => he _, fun l1 W => hk (l1, W)⟩
  exact ⟨fun s => wwn_shape_22 h s.1 s.2, wwn_shape h W⟩
def hwn_length (x : jCx) (en : (Int32) → Option (Outcome × jW)) (t : Nat) (a1 : Int32) (W : jW) : Prop :=
  jOK x RX10 cX10_length 2 ∧
  jMt x "length" (Option.some Jvm.ClassFile.FieldType.int) [] ∧
  jRm x 0 0 ∧
  (∀ q : Int32, en q = some (.returned (some (.int q)), W))
theorem wwn_length_54 {x : jCx} {en : (Int32) → Option (Outcome × jW)} {W : jW} {t : Nat} {a1 : Int32} (h : hwn_length x en t a1 W) (s0 : Int32) (s1 : Int32) : jJ x 2 54 [(0, vR t), (1, vI a1)] [vI s0, vI s1] W (fwn_length_54 t a1 s0 s1 W) en := by
  have h0 := h
  obtain ⟨hx, hm, hr, he⟩ := h0
  unfold fwn_length_54
  refine j_runA hx 1 (tb := [(54, .iadd)]) (jtb_ok (by decide +kernel)) (pc' := 55) (lv' := [(0, vR t), (1, vI a1)]) (st' := [vI (s1 + s0)]) rfl ?_
  exact j_iret hx hm (by decide +kernel) rfl (he _)
theorem wwn_length_39 {x : jCx} {en : (Int32) → Option (Outcome × jW)} {W : jW} {t : Nat} {a1 : Int32} (h : hwn_length x en t a1 W) (s0 : Int32) (s1 : Int32) : jJ x 2 39 [(0, vR t), (1, vI a1)] [vI s0, vI s1] W (fwn_length_39 t a1 s0 s1 W) en := by
  have h0 := h
  obtain ⟨hx, hm, hr, he⟩ := h0
  unfold fwn_length_39
  refine j_runA hx 2 (tb := [(39, .iadd), (40, .aload_n 0)]) (jtb_ok (by decide +kernel)) (pc' := 41) (lv' := [(0, vR t), (1, vI a1)]) (st' := [vR t, vI (s1 + s0)]) rfl ?_
  refine j_gd (fun h9 => ?_)
  refine j_getR hx flX10_26 kl1506 h9 (by decide) (by decide +kernel) ?_
  refine j_runA hx 1 (tb := [(44, .iload_n 1)]) (jtb_ok (by decide +kernel)) (pc' := 45) (lv' := [(0, vR t), (1, vI a1)]) (st' := [vI a1, vR (jR W 1506 t), vI (s1 + s0)]) rfl ?_
  refine j_gd (fun h10 => ?_)
  refine j_zald hx (f := 1506) (o := t) kd1506 rfl (by decide +kernel) h10 ?_
  refine j_if_eq hx (off := 7) (tgt := 53) (by decide +kernel) (by decide) (fun _ => ?_) (fun _ => ?_)
  · refine j_runA hx 1 (tb := [(53, .iconst 0)]) (jtb_ok (by decide +kernel)) (pc' := 54) (lv' := [(0, vR t), (1, vI a1)]) (st' := [vI (kI 0), vI (s1 + s0)]) rfl ?_
    exact wwn_length_54 h (kI 0) (s1 + s0)
  refine j_runA hx 1 (tb := [(49, .iconst 1)]) (jtb_ok (by decide +kernel)) (pc' := 50) (lv' := [(0, vR t), (1, vI a1)]) (st' := [vI (kI 1), vI (s1 + s0)]) rfl ?_
  refine j_goto hx (off := 4) (by decide +kernel) (tgt := 54) (by decide) ?_
  exact wwn_length_54 h (kI 1) (s1 + s0)
theorem wwn_length_24 {x : jCx} {en : (Int32) → Option (Outcome × jW)} {W : jW} {t : Nat} {a1 : Int32} (h : hwn_length x en t a1 W) (s0 : Int32) (s1 : Int32) : jJ x 2 24 [(0, vR t), (1, vI a1)] [vI s0, vI s1] W (fwn_length_24 t a1 s0 s1 W) en := by
  have h0 := h
  obtain ⟨hx, hm, hr, he⟩ := h0
  unfold fwn_length_24
  refine j_runA hx 2 (tb := [(24, .isub), (25, .aload_n 0)]) (jtb_ok (by decide +kernel)) (pc' := 26) (lv' := [(0, vR t), (1, vI a1)]) (st' := [vR t, vI (s1 - s0)]) rfl ?_
  refine j_gd (fun h6 => ?_)
  refine j_getR hx flX10_22 kl1505 h6 (by decide) (by decide +kernel) ?_
  refine j_runA hx 1 (tb := [(29, .iload_n 1)]) (jtb_ok (by decide +kernel)) (pc' := 30) (lv' := [(0, vR t), (1, vI a1)]) (st' := [vI a1, vR (jR W 1505 t), vI (s1 - s0)]) rfl ?_
  refine j_gd (fun h7 => ?_)
  refine j_zald hx (f := 1505) (o := t) kd1505 rfl (by decide +kernel) h7 ?_
  refine j_if_eq hx (off := 7) (tgt := 38) (by decide +kernel) (by decide) (fun _ => ?_) (fun _ => ?_)
  · refine j_runA hx 1 (tb := [(38, .iconst 0)]) (jtb_ok (by decide +kernel)) (pc' := 39) (lv' := [(0, vR t), (1, vI a1)]) (st' := [vI (kI 0), vI (s1 - s0)]) rfl ?_
    exact wwn_length_39 h (kI 0) (s1 - s0)
  refine j_runA hx 1 (tb := [(34, .iconst 1)]) (jtb_ok (by decide +kernel)) (pc' := 35) (lv' := [(0, vR t), (1, vI a1)]) (st' := [vI (kI 1), vI (s1 - s0)]) rfl ?_
  refine j_goto hx (off := 4) (by decide +kernel) (tgt := 39) (by decide) ?_
  exact wwn_length_39 h (kI 1) (s1 - s0)
theorem wwn_length {x : jCx} {en : (Int32) → Option (Outcome × jW)} {W : jW} {t : Nat} {a1 : Int32} (h : hwn_length x en t a1 W) : jJ x 2 0 [(0, vR t), (1, vI a1)] [] W (fwn_length t a1 W) en := by
  have h0 := h
  obtain ⟨hx, hm, hr, he⟩ := h0
  unfold fwn_length
  refine j_runA hx 1 (tb := [(0, .aload_n 0)]) (jtb_ok (by decide +kernel)) (pc' := 1) (lv' := [(0, vR t), (1, vI a1)]) (st' := [vR t]) rfl ?_
  refine j_gd (fun h1 => ?_)
  refine j_getR hx flX10_32 kl1500 h1 (by decide) (by decide +kernel) ?_
  refine j_gd (fun h2 => ?_)
  refine j_getR hx flX10_64 kl1323 h2 (by decide) (by decide +kernel) ?_
  refine j_runA hx 1 (tb := [(7, .iload_n 1)]) (jtb_ok (by decide +kernel)) (pc' := 8) (lv' := [(0, vR t), (1, vI a1)]) (st' := [vI a1, vR (jR W 1323 (jR W 1500 t))]) rfl ?_
  refine j_gd (fun h3 => ?_)
  refine j_iald hx (f := 1323) (o := (jR W 1500 t)) kd1323 rfl (by decide +kernel) h3 ?_
  refine j_runA hx 1 (tb := [(9, .aload_n 0)]) (jtb_ok (by decide +kernel)) (pc' := 10) (lv' := [(0, vR t), (1, vI a1)]) (st' := [vR t, vI (jA W 1323 (jR W 1500 t) (ix a1))]) rfl ?_
  refine j_getR hx flX10_18 kl1504 h1 (by decide) (by decide +kernel) ?_
  refine j_runA hx 1 (tb := [(13, .iload_n 1)]) (jtb_ok (by decide +kernel)) (pc' := 14) (lv' := [(0, vR t), (1, vI a1)]) (st' := [vI a1, vR (jR W 1504 t), vI (jA W 1323 (jR W 1500 t) (ix a1))]) rfl ?_
  refine j_gd (fun h4 => ?_)
  refine j_bald hx (f := 1504) (o := t) kd1504 rfl (by decide +kernel) h4 ?_
  refine j_runA hx 1 (tb := [(15, .iconst 1)]) (jtb_ok (by decide +kernel)) (pc' := 16) (lv' := [(0, vR t), (1, vI a1)]) (st' := [vI (kI 1), vI (jA W 1504 t (ix a1)), vI (jA W 1323 (jR W 1500 t) (ix a1))]) rfl ?_
  refine j_icmp_ne hx (off := 7) (tgt := 23) (by decide +kernel) (by decide) (fun _ => ?_) (fun _ => ?_)
  · refine j_runA hx 1 (tb := [(23, .iconst 0)]) (jtb_ok (by decide +kernel)) (pc' := 24) (lv' := [(0, vR t), (1, vI a1)]) (st' := [vI (kI 0), vI (jA W 1323 (jR W 1500 t) (ix a1))]) rfl ?_
    exact wwn_length_24 h (kI 0) (jA W 1323 (jR W 1500 t) (ix a1))
  refine j_runA hx 1 (tb := [(19, .iconst 1)]) (jtb_ok (by decide +kernel)) (pc' := 20) (lv' := [(0, vR t), (1, vI a1)]) (st' := [vI (kI 1), vI (jA W 1323 (jR W 1500 t) (ix a1))]) rfl ?_
  refine j_goto hx (off := 4) (by decide +kernel) (tgt := 24) (by decide) ?_
  exact wwn_length_24 h (kI 1) (jA W 1323 (jR W 1500 t) (ix a1))
theorem cwn_length (t : Nat) (a1 : Int32) (W : jW) : jM yX10_length cX10_length 2 (Option.some Jvm.ClassFile.FieldType.int) [] 0 0 [vR t, vI a1] W ((fwn_length t a1 W).bind (fun q => some (.returned (some (.int q)), W))) := 
  jM.of (Nat.le_of_ble_eq_true rfl) (fun x hx hm hr => wwn_length ⟨hx, hm, hr, fun _ => rfl⟩)
