/-! ===== walks: fsh_isTextFix fsh_fixPlace fsh_fixSymbol fsh_isNew fsh_fixes fsh_take fpg_room fpg_placeOf fwo_is fwo_isLong fwo_amount fwo_fits fwo_isTwo fwo_isSized fwo_d fwo_a fwo_n fwo_isPair fwo_branch ===== -/
set_option maxRecDepth 100000
def hsh_isTextFix (x : jCx) (en : (Int32) → Option (Outcome × jW)) (a0 : Int32) (W : jW) : Prop :=
  jOK x RX3 cX3_isTextFix 1 ∧
  jMt x "isTextFix" (Option.some Jvm.ClassFile.FieldType.boolean) [] ∧
  jRm x 0 0 ∧
  (∀ q : Int32, en q = some (.returned (some (.int q)), W))
theorem wsh_isTextFix_49 {x : jCx} {en : (Int32) → Option (Outcome × jW)} {W : jW} {a0 : Int32} (h : hsh_isTextFix x en a0 W) : jJ x 1 49 [(0, vI a0)] [] W (some (fsh_isTextFix_49 a0)) en := by
  have h0 := h
  obtain ⟨hx, hm, hr, he⟩ := h0
  unfold fsh_isTextFix_49
  refine j_runA hx 1 (tb := [(49, .iconst 1)]) (jtb_ok (by decide +kernel)) (pc' := 50) (lv' := [(0, vI a0)]) (st' := [vI (kI 1)]) rfl ?_
  refine j_goto hx (off := 4) (by decide +kernel) (tgt := 54) (by decide) ?_
  exact j_iret hx hm (by decide +kernel) jz1n (he _)
theorem wsh_isTextFix {x : jCx} {en : (Int32) → Option (Outcome × jW)} {W : jW} {a0 : Int32} (h : hsh_isTextFix x en a0 W) : jJ x 1 0 [(0, vI a0)] [] W (some (fsh_isTextFix a0)) en := by
  have h0 := h
  obtain ⟨hx, hm, hr, he⟩ := h0
  unfold fsh_isTextFix
  refine j_runA hx 2 (tb := [(0, .iload_n 0), (1, .sipush 275)]) (jtb_ok (by decide +kernel)) (pc' := 4) (lv' := [(0, vI a0)]) (st' := [vI (kI 275), vI a0]) rfl ?_
  refine j_tot (j_icmp_eq hx (off := 45) (tgt := 49) (by decide +kernel) (by decide) (fun _ => ?_) (fun _ => ?_))
  · exact wsh_isTextFix_49 h
  refine j_runA hx 2 (tb := [(7, .iload_n 0), (8, .sipush 277)]) (jtb_ok (by decide +kernel)) (pc' := 11) (lv' := [(0, vI a0)]) (st' := [vI (kI 277), vI a0]) rfl ?_
  refine j_tot (j_icmp_eq hx (off := 38) (tgt := 49) (by decide +kernel) (by decide) (fun _ => ?_) (fun _ => ?_))
  · exact wsh_isTextFix_49 h
  refine j_runA hx 2 (tb := [(14, .iload_n 0), (15, .sipush 278)]) (jtb_ok (by decide +kernel)) (pc' := 18) (lv' := [(0, vI a0)]) (st' := [vI (kI 278), vI a0]) rfl ?_
  refine j_tot (j_icmp_eq hx (off := 31) (tgt := 49) (by decide +kernel) (by decide) (fun _ => ?_) (fun _ => ?_))
  · exact wsh_isTextFix_49 h
  refine j_runA hx 2 (tb := [(21, .iload_n 0), (22, .sipush 285)]) (jtb_ok (by decide +kernel)) (pc' := 25) (lv' := [(0, vI a0)]) (st' := [vI (kI 285), vI a0]) rfl ?_
  refine j_tot (j_icmp_eq hx (off := 24) (tgt := 49) (by decide +kernel) (by decide) (fun _ => ?_) (fun _ => ?_))
  · exact wsh_isTextFix_49 h
  refine j_runA hx 2 (tb := [(28, .iload_n 0), (29, .sipush 286)]) (jtb_ok (by decide +kernel)) (pc' := 32) (lv' := [(0, vI a0)]) (st' := [vI (kI 286), vI a0]) rfl ?_
  refine j_tot (j_icmp_eq hx (off := 17) (tgt := 49) (by decide +kernel) (by decide) (fun _ => ?_) (fun _ => ?_))
  · exact wsh_isTextFix_49 h
  refine j_runA hx 2 (tb := [(35, .iload_n 0), (36, .sipush 282)]) (jtb_ok (by decide +kernel)) (pc' := 39) (lv' := [(0, vI a0)]) (st' := [vI (kI 282), vI a0]) rfl ?_
  refine j_tot (j_icmp_eq hx (off := 10) (tgt := 49) (by decide +kernel) (by decide) (fun _ => ?_) (fun _ => ?_))
  · exact wsh_isTextFix_49 h
  refine j_runA hx 2 (tb := [(42, .iload_n 0), (43, .sipush 283)]) (jtb_ok (by decide +kernel)) (pc' := 46) (lv' := [(0, vI a0)]) (st' := [vI (kI 283), vI a0]) rfl ?_
  refine j_tot (j_icmp_ne hx (off := 7) (tgt := 53) (by decide +kernel) (by decide) (fun _ => ?_) (fun _ => ?_))
  · refine j_runA hx 1 (tb := [(53, .iconst 0)]) (jtb_ok (by decide +kernel)) (pc' := 54) (lv' := [(0, vI a0)]) (st' := [vI (kI 0)]) rfl ?_
    exact j_iret hx hm (by decide +kernel) jz0n (he _)
  exact wsh_isTextFix_49 h
theorem csh_isTextFix (a0 : Int32) (W : jW) : jM yX3_isTextFix cX3_isTextFix 1 (Option.some Jvm.ClassFile.FieldType.boolean) [] 0 0 [vI a0] W (some (.returned (some (.int (fsh_isTextFix a0))), W)) := 
  jM.of (mm := some (fsh_isTextFix a0)) (en := fun q => some (.returned (some (.int q)), W)) (Nat.le_of_ble_eq_true rfl) (fun x hx hm hr => wsh_isTextFix ⟨hx, hm, hr, fun _ => rfl⟩)
def hsh_fixPlace (x : jCx) (en : (Int64) → Option (Outcome × jW)) (t : Nat) (a1 : Int32) (W : jW) : Prop :=
  jOK x RX3 cX3_fixPlace 2 ∧
  jMt x "fixPlace" (Option.some Jvm.ClassFile.FieldType.long) [] ∧
  jRm x 6 83 ∧
  (∀ q : Int64, en q = some (.returned (some (.long q)), W))
theorem wsh_fixPlace {x : jCx} {en : (Int64) → Option (Outcome × jW)} {W : jW} {t : Nat} {a1 : Int32} (h : hsh_fixPlace x en t a1 W) : jJ x 2 0 [(0, vR t), (1, vI a1)] [] W (fsh_fixPlace t a1 W) en := by
  have h0 := h
  obtain ⟨hx, hm, hr, he⟩ := h0
  unfold fsh_fixPlace
  refine j_runA hx 1 (tb := [(0, .aload_n 0)]) (jtb_ok (by decide +kernel)) (pc' := 1) (lv' := [(0, vR t), (1, vI a1)]) (st' := [vR t]) rfl ?_
  refine j_gd (fun h1 => ?_)
  refine j_getR hx flX3_57 kl401 h1 (by decide) (by decide +kernel) ?_
  refine j_runA hx 1 (tb := [(4, .iload_n 1)]) (jtb_ok (by decide +kernel)) (pc' := 5) (lv' := [(0, vR t), (1, vI a1)]) (st' := [vI a1, vR (jR W 401 t)]) rfl ?_
  refine j_gd (fun h2 => ?_)
  refine j_OL (h2.elim (fun hh => j_callU (av := [vI a1]) (st := []) hx hr q761 q763 (hde_fsr_pair) (by decide) q762 q764 rfl md_fsr_pair np_fsr_pair (csr_pair (jR W 401 t) a1 W) (by decide) (Nat.le_of_ble_eq_true rfl) hh (by decide) (by decide +kernel)) (fun hh => j_callU (av := [vI a1]) (st := []) hx hr q761 q763 (hde_fsr_pair) (by decide) q762 q765 rfl md_fsr_pair np_fsr_pair (csr_pair (jR W 401 t) a1 W) (by decide) (Nat.le_of_ble_eq_true rfl) hh (by decide) (by decide +kernel))) (fun q3 _ => ?_)
  exact j_lret hx hm (by decide +kernel) (he _)
theorem csh_fixPlace (t : Nat) (a1 : Int32) (W : jW) : jM yX3_fixPlace cX3_fixPlace 2 (Option.some Jvm.ClassFile.FieldType.long) [] 6 83 [vR t, vI a1] W ((fsh_fixPlace t a1 W).bind (fun q => some (.returned (some (.long q)), W))) := 
  jM.of (Nat.le_of_ble_eq_true rfl) (fun x hx hm hr => wsh_fixPlace ⟨hx, hm, hr, fun _ => rfl⟩)
def hsh_fixSymbol (x : jCx) (en : (Int32) → Option (Outcome × jW)) (t : Nat) (a1 : Int32) (W : jW) : Prop :=
  jOK x RX3 cX3_fixSymbol 2 ∧
  jMt x "fixSymbol" (Option.some Jvm.ClassFile.FieldType.int) [] ∧
  jRm x 5 68 ∧
  (∀ q : Int32, en q = some (.returned (some (.int q)), W))
theorem wsh_fixSymbol {x : jCx} {en : (Int32) → Option (Outcome × jW)} {W : jW} {t : Nat} {a1 : Int32} (h : hsh_fixSymbol x en t a1 W) : jJ x 2 0 [(0, vR t), (1, vI a1)] [] W (fsh_fixSymbol t a1 W) en := by
  have h0 := h
  obtain ⟨hx, hm, hr, he⟩ := h0
  unfold fsh_fixSymbol
  refine j_runA hx 1 (tb := [(0, .aload_n 0)]) (jtb_ok (by decide +kernel)) (pc' := 1) (lv' := [(0, vR t), (1, vI a1)]) (st' := [vR t]) rfl ?_
  refine j_gd (fun h1 => ?_)
  refine j_getR hx flX3_57 kl401 h1 (by decide) (by decide +kernel) ?_
  refine j_runA hx 3 (tb := [(4, .iload_n 1), (5, .bipush 12), (7, .iadd)]) (jtb_ok (by decide +kernel)) (pc' := 8) (lv' := [(0, vR t), (1, vI a1)]) (st' := [vI (a1 + (kI 12)), vR (jR W 401 t)]) rfl ?_
  refine j_gd (fun h2 => ?_)
  refine j_OI (h2.elim (fun hh => j_callU (av := [vI (a1 + (kI 12))]) (st := []) hx hr q808 q769 (hde_fsr_word) (by decide) q768 q770 rfl md_fsr_word np_fsr_word (csr_word (jR W 401 t) (a1 + (kI 12)) W) (by decide) (Nat.le_of_ble_eq_true rfl) hh (by decide) (by decide +kernel)) (fun hh => j_callU (av := [vI (a1 + (kI 12))]) (st := []) hx hr q808 q769 (hde_fsr_word) (by decide) q768 q771 rfl md_fsr_word np_fsr_word (csr_word (jR W 401 t) (a1 + (kI 12)) W) (by decide) (Nat.le_of_ble_eq_true rfl) hh (by decide) (by decide +kernel))) (fun q3 _ => ?_)
  exact j_iret hx hm (by decide +kernel) rfl (he _)
theorem csh_fixSymbol (t : Nat) (a1 : Int32) (W : jW) : jM yX3_fixSymbol cX3_fixSymbol 2 (Option.some Jvm.ClassFile.FieldType.int) [] 5 68 [vR t, vI a1] W ((fsh_fixSymbol t a1 W).bind (fun q => some (.returned (some (.int q)), W))) := 
  jM.of (Nat.le_of_ble_eq_true rfl) (fun x hx hm hr => wsh_fixSymbol ⟨hx, hm, hr, fun _ => rfl⟩)
def hsh_isNew (x : jCx) (en : (fsh_isNew_S ⊕ (Int32 × jW)) → Option (Outcome × jW)) (t : Nat) (a1 : Int64) : Prop :=
  jOK x RX3 cX3_isNew 4 ∧
  jMt x "isNew" (Option.some Jvm.ClassFile.FieldType.boolean) [] ∧
  jRm x 0 0 ∧
  (∀ q : Int32 × jW, en (.inr q) = some (.returned (some (.int q.1)), q.2)) ∧
  (∀ (l3 : Int32) (W : jW), jJ x 4 15 [(0, vR t), (1, vL a1), (3, vI l3)] [] W (some (.inl (l3, W))) en)
theorem wsh_isNew_15 {x : jCx} {en : (fsh_isNew_S ⊕ (Int32 × jW)) → Option (Outcome × jW)} {t : Nat} {a1 : Int64} (h : hsh_isNew x en t a1) (l3 : Int32) (W : jW) : jJ x 4 15 [(0, vR t), (1, vL a1), (3, vI l3)] [] W (fsh_isNew_15 t a1 l3 W) en := by
  have h0 := h
  obtain ⟨hx, hm, hr, he, k15⟩ := h0
  unfold fsh_isNew_15
  refine j_runA hx 1 (tb := [(15, .aload_n 0)]) (jtb_ok (by decide +kernel)) (pc' := 16) (lv' := [(0, vR t), (1, vL a1), (3, vI l3)]) (st' := [vR t]) rfl ?_
  refine j_gd (fun h3 => ?_)
  refine j_getR hx flX3_49 kl421 h3 (by decide) (by decide +kernel) ?_
  refine j_runA hx 1 (tb := [(19, .iload_n 3)]) (jtb_ok (by decide +kernel)) (pc' := 20) (lv' := [(0, vR t), (1, vL a1), (3, vI l3)]) (st' := [vI l3, vR (jR W 421 t)]) rfl ?_
  refine j_gd (fun h4 => ?_)
  refine j_zald hx (f := 421) (o := t) kd421 rfl (by decide +kernel) h4 ?_
  refine j_if_eq hx (off := 27) (tgt := 48) (by decide +kernel) (by decide) (fun _ => ?_) (fun _ => ?_)
  · refine j_runA hx 1 (tb := [(48, .aload_n 0)]) (jtb_ok (by decide +kernel)) (pc' := 49) (lv' := [(0, vR t), (1, vL a1), (3, vI l3)]) (st' := [vR t]) rfl ?_
    refine j_getR hx flX3_49 kl421 h3 (by decide) (by decide +kernel) ?_
    refine j_runA hx 2 (tb := [(52, .iload_n 3), (53, .iconst 1)]) (jtb_ok (by decide +kernel)) (pc' := 54) (lv' := [(0, vR t), (1, vL a1), (3, vI l3)]) (st' := [vI (kI 1), vI l3, vR (jR W 421 t)]) rfl ?_
    refine j_gd (fun h5 => ?_)
    refine j_zast hx (f := 421) (o := t) kd421 rfl (by decide +kernel) h5 ?_
    refine j_ltw rfl (fun W6 hc7 => ?_)
    have h8 : jC W6 t = 4 := (congrFun hc7 _).trans h3
    refine j_runA hx 1 (tb := [(55, .aload_n 0)]) (jtb_ok (by decide +kernel)) (pc' := 56) (lv' := [(0, vR t), (1, vL a1), (3, vI l3)]) (st' := [vR t]) rfl ?_
    refine j_getR hx flX3_46 kl420 h8 (by decide) (by decide +kernel) ?_
    refine j_runA hx 2 (tb := [(59, .iload_n 3), (60, .lload_n 1)]) (jtb_ok (by decide +kernel)) (pc' := 61) (lv' := [(0, vR t), (1, vL a1), (3, vI l3)]) (st' := [vL a1, vI l3, vR (jR W6 420 t)]) rfl ?_
    refine j_gd (fun h10 => ?_)
    refine j_last hx (f := 420) (o := t) kd420 rfl (by decide +kernel) h10 ?_
    refine j_ltw rfl (fun W11 hc12 => ?_)
    have h13 : jC W11 t = 4 := (congrFun hc12 _).trans h8
    refine j_runA hx 1 (tb := [(62, .iconst 1)]) (jtb_ok (by decide +kernel)) (pc' := 63) (lv' := [(0, vR t), (1, vL a1), (3, vI l3)]) (st' := [vI (kI 1)]) rfl ?_
    exact j_iret hx hm (by decide +kernel) jz1n (he _)
  refine j_runA hx 1 (tb := [(24, .aload_n 0)]) (jtb_ok (by decide +kernel)) (pc' := 25) (lv' := [(0, vR t), (1, vL a1), (3, vI l3)]) (st' := [vR t]) rfl ?_
  refine j_getR hx flX3_46 kl420 h3 (by decide) (by decide +kernel) ?_
  refine j_runA hx 1 (tb := [(28, .iload_n 3)]) (jtb_ok (by decide +kernel)) (pc' := 29) (lv' := [(0, vR t), (1, vL a1), (3, vI l3)]) (st' := [vI l3, vR (jR W 420 t)]) rfl ?_
  refine j_gd (fun h15 => ?_)
  refine j_lald hx (f := 420) (o := t) kd420 rfl (by decide +kernel) h15 ?_
  refine j_runA hx 1 (tb := [(30, .lload_n 1)]) (jtb_ok (by decide +kernel)) (pc' := 31) (lv' := [(0, vR t), (1, vL a1), (3, vI l3)]) (st' := [vL a1, vL (jB W 420 t (ix l3))]) rfl ?_
  refine j_lcmp_ne hx (off := 5) (tgt := 37) (by decide +kernel) (by decide +kernel) (by decide) (fun _ => ?_) (fun _ => ?_)
  · refine j_runA hx 6 (tb := [(37, .iload_n 3), (38, .iconst 1), (39, .iadd), (40, .sipush 8191), (43, .iand), (44, .istore_n 3)]) (jtb_ok (by decide +kernel)) (pc' := 45) (lv' := [(3, vI ((l3 + (kI 1)) &&& (kI 8191))), (0, vR t), (1, vL a1)]) (st' := []) rfl ?_
    refine j_let (v := ((l3 + (kI 1)) &&& (kI 8191))) (lv := fun v16 => [(3, vI v16), (0, vR t), (1, vL a1)]) (st := fun _ => []) (fun v16 => ?_)
    refine j_goto hx (off := -30) (by decide +kernel) (tgt := 15) (by decide) ?_
    refine j_lv (lv' := [(0, vR t), (1, vL a1), (3, vI v16)]) ⟨rfl, rfl, rfl, trivial⟩ ?_
    exact k15 v16 W
  refine j_runA hx 1 (tb := [(35, .iconst 0)]) (jtb_ok (by decide +kernel)) (pc' := 36) (lv' := [(0, vR t), (1, vL a1), (3, vI l3)]) (st' := [vI (kI 0)]) rfl ?_
  exact j_iret hx hm (by decide +kernel) jz0n (he _)
theorem wsh_isNew {x : jCx} {en : (fsh_isNew_S ⊕ (Int32 × jW)) → Option (Outcome × jW)} {t : Nat} {a1 : Int64} (h : hsh_isNew x en t a1) (W : jW) : jJ x 4 0 [(0, vR t), (1, vL a1)] [] W (fsh_isNew_0 t a1 W) en := by
  have h0 := h
  obtain ⟨hx, hm, hr, he, k15⟩ := h0
  unfold fsh_isNew_0
  refine j_runA hx 1 (tb := [(0, .lload_n 1)]) (jtb_ok (by decide +kernel)) (pc' := 1) (lv' := [(0, vR t), (1, vL a1)]) (st' := [vL a1]) rfl ?_
  refine j_ldc2 hx (v := (kJ 4)) (jkd2 q849 (by decide +kernel)) (by decide +kernel) ?_
  refine j_ldiv hx (by decide +kernel) (by decide +kernel) ?_
  refine j_ldc2 hx (v := (kJ 40503)) (jkd2 q931 (by decide +kernel)) (by decide +kernel) ?_
  refine j_runA hx 1 (tb := [(8, .lmul)]) (jtb_ok (by decide +kernel)) (pc' := 9) (lv' := [(0, vR t), (1, vL a1)]) (st' := [vL ((a1 / (kJ 4)) * (kJ 40503))]) rfl ?_
  refine j_ldc2 hx (v := (kJ 8191)) (jkd2 q932 (by decide +kernel)) (by decide +kernel) ?_
  refine j_runA hx 3 (tb := [(12, .land), (13, .l2i), (14, .istore_n 3)]) (jtb_ok (by decide +kernel)) (pc' := 15) (lv' := [(3, vI ((((a1 / (kJ 4)) * (kJ 40503)) &&& (kJ 8191)).toInt32)), (0, vR t), (1, vL a1)]) (st' := []) rfl ?_
  refine j_let (v := (((a1 / (kJ 4)) * (kJ 40503)) &&& (kJ 8191)).toInt32) (lv := fun v1 => [(3, vI v1), (0, vR t), (1, vL a1)]) (st := fun _ => []) (fun v1 => ?_)
  refine j_lv (lv' := [(0, vR t), (1, vL a1), (3, vI v1)]) ⟨rfl, rfl, rfl, trivial⟩ ?_
  exact k15 v1 W
theorem csh_isNew (t : Nat) (a1 : Int64) (W : jW) : jM yX3_isNew cX3_isNew 4 (Option.some Jvm.ClassFile.FieldType.boolean) [] 0 0 [vR t, vL a1] W ((fsh_isNew t a1 W).bind (fun q => some (.returned (some (.int q.1)), q.2))) := by
  refine jM.of (Nat.le_of_ble_eq_true rfl) (fun x hx hm hr => ?_)
  refine j_begin (P := (fun s => (15, [(0, vR t), (1, vL a1), (3, vI s.1)], s.2))) (fun en he hk => ?_)
  have h : hsh_isNew x en t a1 := ⟨hx, hm, hr, fun q => he _, fun l3 W => hk (l3, W)⟩
  exact ⟨fun s => wsh_isNew_15 h s.1 s.2, wsh_isNew h W⟩
def hsh_fixes (x : jCx) (en : (fsh_fixes_S ⊕ ((Nat × jW) ⊕ jW)) → Option (Outcome × jW)) (t : Nat) (a1 : Int32) : Prop :=
  jOK x RX3 cX3_fixes 12 ∧
  jMt x "fixes" (Option.none : Option Jvm.ClassFile.FieldType) [] ∧
  jRm x 7 96 ∧
  (∀ q : jW, en (.inr (.inr q)) = some (.returned none, q)) ∧
  (∀ z : Nat × jW, en (.inr (.inl z)) = some (.threw (z.1 - 1), z.2)) ∧
  (∀ (l2 : Int32) (W : jW), jJ x 12 2 [(0, vR t), (1, vI a1), (2, vI l2)] [] W (some (.inl (.inl (l2, W)))) en) ∧
  (∀ (l2 : Int32) (l3 : Int32) (l4 : Int32) (W : jW), jJ x 12 40 [(0, vR t), (1, vI a1), (2, vI l2), (3, vI l3), (4, vI l4)] [] W (some (.inl (.inr (l2, l3, l4, W)))) en)
theorem wsh_fixes_343 {x : jCx} {en : (fsh_fixes_S ⊕ ((Nat × jW) ⊕ jW)) → Option (Outcome × jW)} {t : Nat} {a1 : Int32} (h : hsh_fixes x en t a1) (l2 : Int32) (l3 : Int32) (l4 : Int32) (W : jW) : jJ x 12 343 [(0, vR t), (1, vI a1), (2, vI l2), (3, vI l3), (4, vI l4)] [] W (fsh_fixes_343 t a1 l2 l3 l4 W) en := by
  have h0 := h
  obtain ⟨hx, hm, hr, he, ht, k2, k40⟩ := h0
  unfold fsh_fixes_343
  refine j_runA hx 1 (tb := [(343, .iinc 4 1)]) (jtb_ok (by decide +kernel)) (pc' := 346) (lv' := [(4, vI (l4 + (kI 1))), (0, vR t), (1, vI a1), (2, vI l2), (3, vI l3)]) (st' := []) rfl ?_
  refine j_let (v := (l4 + (kI 1))) (lv := fun v46 => [(4, vI v46), (0, vR t), (1, vI a1), (2, vI l2), (3, vI l3)]) (st := fun _ => []) (fun v46 => ?_)
  refine j_goto hx (off := -306) (by decide +kernel) (tgt := 40) (by decide) ?_
  refine j_lv (lv' := [(0, vR t), (1, vI a1), (2, vI l2), (3, vI l3), (4, vI v46)]) ⟨rfl, rfl, rfl, rfl, rfl, trivial⟩ ?_
  exact k40 l2 l3 v46 W
theorem wsh_fixes_201 {x : jCx} {en : (fsh_fixes_S ⊕ ((Nat × jW) ⊕ jW)) → Option (Outcome × jW)} {t : Nat} {a1 : Int32} (h : hsh_fixes x en t a1) (l2 : Int32) (l3 : Int32) (l4 : Int32) (l5 : Int32) (s0 : Int32) (s1 : Nat) (W : jW) : jJ x 12 201 [(0, vR t), (1, vI a1), (2, vI l2), (3, vI l3), (4, vI l4), (5, vI l5)] [vI s0, vR s1] W (fsh_fixes_201 t a1 l2 l3 l4 l5 s0 s1 W) en := by
  have h0 := h
  obtain ⟨hx, hm, hr, he, ht, k2, k40⟩ := h0
  unfold fsh_fixes_201
  refine j_runA hx 4 (tb := [(201, .iconst 5), (202, .iload 5), (204, .bipush 16), (206, .iadd)]) (jtb_ok (by decide +kernel)) (pc' := 207) (lv' := [(0, vR t), (1, vI a1), (2, vI l2), (3, vI l3), (4, vI l4), (5, vI l5)]) (st' := [vI (l5 + (kI 16)), vI (kI 5), vI s0, vR s1]) rfl ?_
  refine j_gd (fun h42 => ?_)
  refine j_EV (j_callV (av := [vI s0, vI (kI 5), vI (l5 + (kI 16))]) (st := []) hx hr (Or.inl q757) q758 q759 rfl md_ftr_must np_ftr_must (ctr_must s1 s0 (kI 5) (l5 + (kI 16)) W) (by decide) (Nat.le_of_ble_eq_true rfl) h42 (by decide) (by decide +kernel)) (fun z _ r h9 => j_upE hm hx (ht z) h9) (fun q43 _ => ?_)
  refine j_goto hx (off := 133) (by decide +kernel) (tgt := 343) (by decide) ?_
  refine j_lv (lv' := [(0, vR t), (1, vI a1), (2, vI l2), (3, vI l3), (4, vI l4)]) ⟨rfl, rfl, rfl, rfl, rfl, trivial⟩ ?_
  exact wsh_fixes_343 h l2 l3 l4 q43
theorem wsh_fixes_166 {x : jCx} {en : (fsh_fixes_S ⊕ ((Nat × jW) ⊕ jW)) → Option (Outcome × jW)} {t : Nat} {a1 : Int32} (h : hsh_fixes x en t a1) (l2 : Int32) (l3 : Int32) (l4 : Int32) (l5 : Int32) (s0 : Int32) (s1 : Nat) (W : jW) : jJ x 12 166 [(0, vR t), (1, vI a1), (2, vI l2), (3, vI l3), (4, vI l4), (5, vI l5)] [vI s0, vR s1] W (fsh_fixes_166 t a1 l2 l3 l4 l5 s0 s1 W) en := by
  have h0 := h
  obtain ⟨hx, hm, hr, he, ht, k2, k40⟩ := h0
  unfold fsh_fixes_166
  refine j_runA hx 4 (tb := [(166, .iconst 5), (167, .iload 5), (169, .bipush 12), (171, .iadd)]) (jtb_ok (by decide +kernel)) (pc' := 172) (lv' := [(0, vR t), (1, vI a1), (2, vI l2), (3, vI l3), (4, vI l4), (5, vI l5)]) (st' := [vI (l5 + (kI 12)), vI (kI 5), vI s0, vR s1]) rfl ?_
  refine j_gd (fun h35 => ?_)
  refine j_EV (j_callV (av := [vI s0, vI (kI 5), vI (l5 + (kI 12))]) (st := []) hx hr (Or.inl q757) q758 q759 rfl md_ftr_must np_ftr_must (ctr_must s1 s0 (kI 5) (l5 + (kI 12)) W) (by decide) (Nat.le_of_ble_eq_true rfl) h35 (by decide) (by decide +kernel)) (fun z _ r h9 => j_upE hm hx (ht z) h9) (fun q36 _ => ?_)
  refine j_runA hx 1 (tb := [(175, .aload_n 0)]) (jtb_ok (by decide +kernel)) (pc' := 176) (lv' := [(0, vR t), (1, vI a1), (2, vI l2), (3, vI l3), (4, vI l4), (5, vI l5)]) (st' := [vR t]) rfl ?_
  refine j_gd (fun h38 => ?_)
  refine j_getR hx flX3_53 kl400 h38 (by decide) (by decide +kernel) ?_
  refine j_runA hx 1 (tb := [(179, .aload_n 0)]) (jtb_ok (by decide +kernel)) (pc' := 180) (lv' := [(0, vR t), (1, vI a1), (2, vI l2), (3, vI l3), (4, vI l4), (5, vI l5)]) (st' := [vR t, vR (jR q36 400 t)]) rfl ?_
  refine j_getR hx flX3_57 kl401 h38 (by decide) (by decide +kernel) ?_
  refine j_runA hx 3 (tb := [(183, .iload 5), (185, .bipush 16), (187, .iadd)]) (jtb_ok (by decide +kernel)) (pc' := 188) (lv' := [(0, vR t), (1, vI a1), (2, vI l2), (3, vI l3), (4, vI l4), (5, vI l5)]) (st' := [vI (l5 + (kI 16)), vR (jR q36 401 t), vR (jR q36 400 t)]) rfl ?_
  refine j_gd (fun h39 => ?_)
  refine j_OL (h39.elim (fun hh => j_callU (av := [vI (l5 + (kI 16))]) (st := [vR (jR q36 400 t)]) hx hr q761 q763 (hde_fsr_pair) (by decide) q762 q764 rfl md_fsr_pair np_fsr_pair (csr_pair (jR q36 401 t) (l5 + (kI 16)) q36) (by decide) (Nat.le_of_ble_eq_true rfl) hh (by decide) (by decide +kernel)) (fun hh => j_callU (av := [vI (l5 + (kI 16))]) (st := [vR (jR q36 400 t)]) hx hr q761 q763 (hde_fsr_pair) (by decide) q762 q765 rfl md_fsr_pair np_fsr_pair (csr_pair (jR q36 401 t) (l5 + (kI 16)) q36) (by decide) (Nat.le_of_ble_eq_true rfl) hh (by decide) (by decide +kernel))) (fun q40 _ => ?_)
  refine j_runA hx 1 (tb := [(191, .lconst 0)]) (jtb_ok (by decide +kernel)) (pc' := 192) (lv' := [(0, vR t), (1, vI a1), (2, vI l2), (3, vI l3), (4, vI l4), (5, vI l5)]) (st' := [vL (kJ 0), vL q40, vR (jR q36 400 t)]) rfl ?_
  refine j_lcmp_ne hx (off := 7) (tgt := 200) (by decide +kernel) (by decide +kernel) (by decide) (fun _ => ?_) (fun _ => ?_)
  · refine j_runA hx 1 (tb := [(200, .iconst 0)]) (jtb_ok (by decide +kernel)) (pc' := 201) (lv' := [(0, vR t), (1, vI a1), (2, vI l2), (3, vI l3), (4, vI l4), (5, vI l5)]) (st' := [vI (kI 0), vR (jR q36 400 t)]) rfl ?_
    exact wsh_fixes_201 h l2 l3 l4 l5 (kI 0) (jR q36 400 t) q36
  refine j_runA hx 1 (tb := [(196, .iconst 1)]) (jtb_ok (by decide +kernel)) (pc' := 197) (lv' := [(0, vR t), (1, vI a1), (2, vI l2), (3, vI l3), (4, vI l4), (5, vI l5)]) (st' := [vI (kI 1), vR (jR q36 400 t)]) rfl ?_
  refine j_goto hx (off := 4) (by decide +kernel) (tgt := 201) (by decide) ?_
  exact wsh_fixes_201 h l2 l3 l4 l5 (kI 1) (jR q36 400 t) q36
theorem wsh_fixes_142 {x : jCx} {en : (fsh_fixes_S ⊕ ((Nat × jW) ⊕ jW)) → Option (Outcome × jW)} {t : Nat} {a1 : Int32} (h : hsh_fixes x en t a1) (l2 : Int32) (l3 : Int32) (l4 : Int32) (l5 : Int32) (s0 : Int32) (s1 : Nat) (W : jW) : jJ x 12 142 [(0, vR t), (1, vI a1), (2, vI l2), (3, vI l3), (4, vI l4), (5, vI l5)] [vI s0, vR s1] W (fsh_fixes_142 t a1 l2 l3 l4 l5 s0 s1 W) en := by
  have h0 := h
  obtain ⟨hx, hm, hr, he, ht, k2, k40⟩ := h0
  unfold fsh_fixes_142
  refine j_runA hx 2 (tb := [(142, .iconst 5), (143, .iload 5)]) (jtb_ok (by decide +kernel)) (pc' := 145) (lv' := [(0, vR t), (1, vI a1), (2, vI l2), (3, vI l3), (4, vI l4), (5, vI l5)]) (st' := [vI l5, vI (kI 5), vI s0, vR s1]) rfl ?_
  refine j_gd (fun h29 => ?_)
  refine j_EV (j_callV (av := [vI s0, vI (kI 5), vI l5]) (st := []) hx hr (Or.inl q757) q758 q759 rfl md_ftr_must np_ftr_must (ctr_must s1 s0 (kI 5) l5 W) (by decide) (Nat.le_of_ble_eq_true rfl) h29 (by decide) (by decide +kernel)) (fun z _ r h9 => j_upE hm hx (ht z) h9) (fun q30 _ => ?_)
  refine j_runA hx 1 (tb := [(148, .aload_n 0)]) (jtb_ok (by decide +kernel)) (pc' := 149) (lv' := [(0, vR t), (1, vI a1), (2, vI l2), (3, vI l3), (4, vI l4), (5, vI l5)]) (st' := [vR t]) rfl ?_
  refine j_gd (fun h32 => ?_)
  refine j_getR hx flX3_53 kl400 h32 (by decide) (by decide +kernel) ?_
  refine j_runA hx 2 (tb := [(152, .aload_n 0), (153, .iload 5)]) (jtb_ok (by decide +kernel)) (pc' := 155) (lv' := [(0, vR t), (1, vI a1), (2, vI l2), (3, vI l3), (4, vI l4), (5, vI l5)]) (st' := [vI l5, vR t, vR (jR q30 400 t)]) rfl ?_
  refine j_OI (j_callV (av := [vI l5]) (st := [vR (jR q30 400 t)]) hx hr (Or.inl q923) q924 q925 rfl md_fsh_fixSymbol np_fsh_fixSymbol (csh_fixSymbol t l5 q30) (by decide) (Nat.le_of_ble_eq_true rfl) h32 (by decide) (by decide +kernel)) (fun q33 _ => ?_)
  refine j_if_ne hx (off := 7) (tgt := 165) (by decide +kernel) (by decide) (fun _ => ?_) (fun _ => ?_)
  · refine j_runA hx 1 (tb := [(165, .iconst 0)]) (jtb_ok (by decide +kernel)) (pc' := 166) (lv' := [(0, vR t), (1, vI a1), (2, vI l2), (3, vI l3), (4, vI l4), (5, vI l5)]) (st' := [vI (kI 0), vR (jR q30 400 t)]) rfl ?_
    exact wsh_fixes_166 h l2 l3 l4 l5 (kI 0) (jR q30 400 t) q30
  refine j_runA hx 1 (tb := [(161, .iconst 1)]) (jtb_ok (by decide +kernel)) (pc' := 162) (lv' := [(0, vR t), (1, vI a1), (2, vI l2), (3, vI l3), (4, vI l4), (5, vI l5)]) (st' := [vI (kI 1), vR (jR q30 400 t)]) rfl ?_
  refine j_goto hx (off := 4) (by decide +kernel) (tgt := 166) (by decide) ?_
  exact wsh_fixes_166 h l2 l3 l4 l5 (kI 1) (jR q30 400 t) q30
theorem wsh_fixes_304 {x : jCx} {en : (fsh_fixes_S ⊕ ((Nat × jW) ⊕ jW)) → Option (Outcome × jW)} {t : Nat} {a1 : Int32} (h : hsh_fixes x en t a1) (l2 : Int32) (l3 : Int32) (l4 : Int32) (l5 : Int32) (s0 : Int32) (s1 : Nat) (W : jW) : jJ x 12 304 [(0, vR t), (1, vI a1), (2, vI l2), (3, vI l3), (4, vI l4), (5, vI l5)] [vI s0, vR s1] W (fsh_fixes_304 t a1 l2 l3 l4 l5 s0 s1 W) en := by
  have h0 := h
  obtain ⟨hx, hm, hr, he, ht, k2, k40⟩ := h0
  unfold fsh_fixes_304
  refine j_runA hx 2 (tb := [(304, .iconst 5), (305, .iload 5)]) (jtb_ok (by decide +kernel)) (pc' := 307) (lv' := [(0, vR t), (1, vI a1), (2, vI l2), (3, vI l3), (4, vI l4), (5, vI l5)]) (st' := [vI l5, vI (kI 5), vI s0, vR s1]) rfl ?_
  refine j_gd (fun h55 => ?_)
  refine j_EV (j_callV (av := [vI s0, vI (kI 5), vI l5]) (st := []) hx hr (Or.inl q757) q758 q759 rfl md_ftr_must np_ftr_must (ctr_must s1 s0 (kI 5) l5 W) (by decide) (Nat.le_of_ble_eq_true rfl) h55 (by decide) (by decide +kernel)) (fun z _ r h9 => j_upE hm hx (ht z) h9) (fun q56 _ => ?_)
  refine j_runA hx 1 (tb := [(310, .aload_n 0)]) (jtb_ok (by decide +kernel)) (pc' := 311) (lv' := [(0, vR t), (1, vI a1), (2, vI l2), (3, vI l3), (4, vI l4), (5, vI l5)]) (st' := [vR t]) rfl ?_
  refine j_gd (fun h58 => ?_)
  refine j_getR hx flX3_53 kl400 h58 (by decide) (by decide +kernel) ?_
  refine j_runA hx 2 (tb := [(314, .aload_n 0), (315, .iload 5)]) (jtb_ok (by decide +kernel)) (pc' := 317) (lv' := [(0, vR t), (1, vI a1), (2, vI l2), (3, vI l3), (4, vI l4), (5, vI l5)]) (st' := [vI l5, vR t, vR (jR q56 400 t)]) rfl ?_
  refine j_OI (j_callV (av := [vI l5]) (st := [vR (jR q56 400 t)]) hx hr (Or.inl q923) q924 q925 rfl md_fsh_fixSymbol np_fsh_fixSymbol (csh_fixSymbol t l5 q56) (by decide) (Nat.le_of_ble_eq_true rfl) h58 (by decide) (by decide +kernel)) (fun q59 _ => ?_)
  refine j_runA hx 1 (tb := [(320, .i2l)]) (jtb_ok (by decide +kernel)) (pc' := 321) (lv' := [(0, vR t), (1, vI a1), (2, vI l2), (3, vI l3), (4, vI l4), (5, vI l5)]) (st' := [vL q59.toInt64, vR (jR q56 400 t)]) rfl ?_
  refine j_ldc2 hx (v := (kJ 4294967295)) (jkd2 q809 (by decide +kernel)) (by decide +kernel) ?_
  refine j_runA hx 3 (tb := [(324, .land), (325, .lconst 0), (326, .aload_n 0)]) (jtb_ok (by decide +kernel)) (pc' := 327) (lv' := [(0, vR t), (1, vI a1), (2, vI l2), (3, vI l3), (4, vI l4), (5, vI l5)]) (st' := [vR t, vL (kJ 0), vL (q59.toInt64 &&& (kJ 4294967295)), vR (jR q56 400 t)]) rfl ?_
  refine j_OI (j_callV (av := []) (st := [vL (kJ 0), vL (q59.toInt64 &&& (kJ 4294967295)), vR (jR q56 400 t)]) hx hr (Or.inl q883) q884 q885 rfl md_fsh_symbolCount np_fsh_symbolCount (csh_symbolCount t q56) (by decide) (Nat.le_of_ble_eq_true rfl) h58 (by decide) (by decide +kernel)) (fun q60 _ => ?_)
  refine j_runA hx 1 (tb := [(330, .i2l)]) (jtb_ok (by decide +kernel)) (pc' := 331) (lv' := [(0, vR t), (1, vI a1), (2, vI l2), (3, vI l3), (4, vI l4), (5, vI l5)]) (st' := [vL q60.toInt64, vL (kJ 0), vL (q59.toInt64 &&& (kJ 4294967295)), vR (jR q56 400 t)]) rfl ?_
  refine j_TI (j_callS (av := [vL (q59.toInt64 &&& (kJ 4294967295)), vL (kJ 0), vL q60.toInt64]) (st := [vR (jR q56 400 t)]) hx hr (Or.inr ⟨_, q871⟩) q872 q226 md_fcl_isIn np_fcl_isIn (ccl_isIn (q59.toInt64 &&& (kJ 4294967295)) (kJ 0) q60.toInt64 q56) (by decide) (Nat.le_of_ble_eq_true rfl) (by decide +kernel)) ?_
  refine j_runA hx 4 (tb := [(334, .iconst 5), (335, .iload 5), (337, .bipush 12), (339, .iadd)]) (jtb_ok (by decide +kernel)) (pc' := 340) (lv' := [(0, vR t), (1, vI a1), (2, vI l2), (3, vI l3), (4, vI l4), (5, vI l5)]) (st' := [vI (l5 + (kI 12)), vI (kI 5), vI (fcl_isIn (q59.toInt64 &&& (kJ 4294967295)) (kJ 0) q60.toInt64), vR (jR q56 400 t)]) rfl ?_
  refine j_gd (fun h61 => ?_)
  refine j_EV (j_callV (av := [vI (fcl_isIn (q59.toInt64 &&& (kJ 4294967295)) (kJ 0) q60.toInt64), vI (kI 5), vI (l5 + (kI 12))]) (st := []) hx hr (Or.inl q757) q758 q759 rfl md_ftr_must np_ftr_must (ctr_must (jR q56 400 t) (fcl_isIn (q59.toInt64 &&& (kJ 4294967295)) (kJ 0) q60.toInt64) (kI 5) (l5 + (kI 12)) q56) (by decide) (Nat.le_of_ble_eq_true rfl) h61 (by decide) (by decide +kernel)) (fun z _ r h9 => j_upE hm hx (ht z) h9) (fun q62 _ => ?_)
  refine j_lv (lv' := [(0, vR t), (1, vI a1), (2, vI l2), (3, vI l3), (4, vI l4)]) ⟨rfl, rfl, rfl, rfl, rfl, trivial⟩ ?_
  exact wsh_fixes_343 h l2 l3 l4 q62
theorem wsh_fixes_303 {x : jCx} {en : (fsh_fixes_S ⊕ ((Nat × jW) ⊕ jW)) → Option (Outcome × jW)} {t : Nat} {a1 : Int32} (h : hsh_fixes x en t a1) (l2 : Int32) (l3 : Int32) (l4 : Int32) (l5 : Int32) (s0 : Nat) (W : jW) : jJ x 12 303 [(0, vR t), (1, vI a1), (2, vI l2), (3, vI l3), (4, vI l4), (5, vI l5)] [vR s0] W (fsh_fixes_303 t a1 l2 l3 l4 l5 s0 W) en := by
  have h0 := h
  obtain ⟨hx, hm, hr, he, ht, k2, k40⟩ := h0
  unfold fsh_fixes_303
  refine j_runA hx 1 (tb := [(303, .iconst 0)]) (jtb_ok (by decide +kernel)) (pc' := 304) (lv' := [(0, vR t), (1, vI a1), (2, vI l2), (3, vI l3), (4, vI l4), (5, vI l5)]) (st' := [vI (kI 0), vR s0]) rfl ?_
  exact wsh_fixes_304 h l2 l3 l4 l5 (kI 0) s0 W
theorem wsh_fixes_279 {x : jCx} {en : (fsh_fixes_S ⊕ ((Nat × jW) ⊕ jW)) → Option (Outcome × jW)} {t : Nat} {a1 : Int32} (h : hsh_fixes x en t a1) (l2 : Int32) (l3 : Int32) (l4 : Int32) (l5 : Int32) (l7 : Int64) (s0 : Int32) (W : jW) : jJ x 12 279 [(0, vR t), (1, vI a1), (2, vI l2), (3, vI l3), (4, vI l4), (5, vI l5), (7, vL l7)] [vI s0] W (fsh_fixes_279 t a1 l2 l3 l4 l5 l7 s0 W) en := by
  have h0 := h
  obtain ⟨hx, hm, hr, he, ht, k2, k40⟩ := h0
  unfold fsh_fixes_279
  refine j_runA hx 2 (tb := [(279, .istore 11), (281, .aload_n 0)]) (jtb_ok (by decide +kernel)) (pc' := 282) (lv' := [(11, vI s0), (0, vR t), (1, vI a1), (2, vI l2), (3, vI l3), (4, vI l4), (5, vI l5), (7, vL l7)]) (st' := [vR t]) rfl ?_
  refine j_gd (fun h51 => ?_)
  refine j_getR hx flX3_53 kl400 h51 (by decide) (by decide +kernel) ?_
  refine j_runA hx 1 (tb := [(285, .iload 11)]) (jtb_ok (by decide +kernel)) (pc' := 287) (lv' := [(11, vI s0), (0, vR t), (1, vI a1), (2, vI l2), (3, vI l3), (4, vI l4), (5, vI l5), (7, vL l7)]) (st' := [vI s0, vR (jR W 400 t)]) rfl ?_
  refine j_if_eq hx (off := 16) (tgt := 303) (by decide +kernel) (by decide) (fun _ => ?_) (fun _ => ?_)
  · refine j_lv (lv' := [(0, vR t), (1, vI a1), (2, vI l2), (3, vI l3), (4, vI l4), (5, vI l5)]) ⟨rfl, rfl, rfl, rfl, rfl, rfl, trivial⟩ ?_
    exact wsh_fixes_303 h l2 l3 l4 l5 (jR W 400 t) W
  refine j_runA hx 2 (tb := [(290, .aload_n 0), (291, .lload 7)]) (jtb_ok (by decide +kernel)) (pc' := 293) (lv' := [(11, vI s0), (0, vR t), (1, vI a1), (2, vI l2), (3, vI l3), (4, vI l4), (5, vI l5), (7, vL l7)]) (st' := [vL l7, vR t, vR (jR W 400 t)]) rfl ?_
  refine j_WI (j_callV (av := [vL l7]) (st := [vR (jR W 400 t)]) hx hr (Or.inl q927) q929 qs13 rfl md_fsh_isNew np_fsh_isNew (csh_isNew t l7 W) (by decide) (Nat.le_of_ble_eq_true rfl) h51 (by decide) (by decide +kernel)) (fun q52 _ => ?_)
  refine j_if_eq hx (off := 7) (tgt := 303) (by decide +kernel) (by decide) (fun _ => ?_) (fun _ => ?_)
  · refine j_lv (lv' := [(0, vR t), (1, vI a1), (2, vI l2), (3, vI l3), (4, vI l4), (5, vI l5)]) ⟨rfl, rfl, rfl, rfl, rfl, rfl, trivial⟩ ?_
    exact wsh_fixes_303 h l2 l3 l4 l5 (jR W 400 t) q52.2
  refine j_runA hx 1 (tb := [(299, .iconst 1)]) (jtb_ok (by decide +kernel)) (pc' := 300) (lv' := [(11, vI s0), (0, vR t), (1, vI a1), (2, vI l2), (3, vI l3), (4, vI l4), (5, vI l5), (7, vL l7)]) (st' := [vI (kI 1), vR (jR W 400 t)]) rfl ?_
  refine j_goto hx (off := 4) (by decide +kernel) (tgt := 304) (by decide) ?_
  refine j_lv (lv' := [(0, vR t), (1, vI a1), (2, vI l2), (3, vI l3), (4, vI l4), (5, vI l5)]) ⟨rfl, rfl, rfl, rfl, rfl, rfl, trivial⟩ ?_
  exact wsh_fixes_304 h l2 l3 l4 l5 (kI 1) (jR W 400 t) q52.2
theorem wsh_fixes_278 {x : jCx} {en : (fsh_fixes_S ⊕ ((Nat × jW) ⊕ jW)) → Option (Outcome × jW)} {t : Nat} {a1 : Int32} (h : hsh_fixes x en t a1) (l2 : Int32) (l3 : Int32) (l4 : Int32) (l5 : Int32) (l7 : Int64) (W : jW) : jJ x 12 278 [(0, vR t), (1, vI a1), (2, vI l2), (3, vI l3), (4, vI l4), (5, vI l5), (7, vL l7)] [] W (fsh_fixes_278 t a1 l2 l3 l4 l5 l7 W) en := by
  have h0 := h
  obtain ⟨hx, hm, hr, he, ht, k2, k40⟩ := h0
  unfold fsh_fixes_278
  refine j_runA hx 1 (tb := [(278, .iconst 0)]) (jtb_ok (by decide +kernel)) (pc' := 279) (lv' := [(0, vR t), (1, vI a1), (2, vI l2), (3, vI l3), (4, vI l4), (5, vI l5), (7, vL l7)]) (st' := [vI (kI 0)]) rfl ?_
  exact wsh_fixes_279 h l2 l3 l4 l5 l7 (kI 0) W
theorem wsh_fixes_267 {x : jCx} {en : (fsh_fixes_S ⊕ ((Nat × jW) ⊕ jW)) → Option (Outcome × jW)} {t : Nat} {a1 : Int32} (h : hsh_fixes x en t a1) (l2 : Int32) (l3 : Int32) (l4 : Int32) (l5 : Int32) (l7 : Int64) (s0 : Int32) (s1 : Int64) (W : jW) : jJ x 12 267 [(0, vR t), (1, vI a1), (2, vI l2), (3, vI l3), (4, vI l4), (5, vI l5), (7, vL l7)] [vI s0, vL s1] W (fsh_fixes_267 t a1 l2 l3 l4 l5 l7 s0 s1 W) en := by
  have h0 := h
  obtain ⟨hx, hm, hr, he, ht, k2, k40⟩ := h0
  unfold fsh_fixes_267
  refine j_runA hx 1 (tb := [(267, .i2l)]) (jtb_ok (by decide +kernel)) (pc' := 268) (lv' := [(0, vR t), (1, vI a1), (2, vI l2), (3, vI l3), (4, vI l4), (5, vI l5), (7, vL l7)]) (st' := [vL s0.toInt64, vL s1]) rfl ?_
  refine j_gd (fun h49 => ?_)
  refine j_lrem hx (by decide +kernel) h49 ?_
  refine j_runA hx 1 (tb := [(269, .lconst 0)]) (jtb_ok (by decide +kernel)) (pc' := 270) (lv' := [(0, vR t), (1, vI a1), (2, vI l2), (3, vI l3), (4, vI l4), (5, vI l5), (7, vL l7)]) (st' := [vL (kJ 0), vL (lrm s1 s0.toInt64)]) rfl ?_
  refine j_lcmp_ne hx (off := 7) (tgt := 278) (by decide +kernel) (by decide +kernel) (by decide) (fun _ => ?_) (fun _ => ?_)
  · exact wsh_fixes_278 h l2 l3 l4 l5 l7 W
  refine j_runA hx 1 (tb := [(274, .iconst 1)]) (jtb_ok (by decide +kernel)) (pc' := 275) (lv' := [(0, vR t), (1, vI a1), (2, vI l2), (3, vI l3), (4, vI l4), (5, vI l5), (7, vL l7)]) (st' := [vI (kI 1)]) rfl ?_
  refine j_goto hx (off := 4) (by decide +kernel) (tgt := 279) (by decide) ?_
  exact wsh_fixes_279 h l2 l3 l4 l5 l7 (kI 1) W
theorem wsh_fixes_249 {x : jCx} {en : (fsh_fixes_S ⊕ ((Nat × jW) ⊕ jW)) → Option (Outcome × jW)} {t : Nat} {a1 : Int32} (h : hsh_fixes x en t a1) (l2 : Int32) (l3 : Int32) (l4 : Int32) (l5 : Int32) (l7 : Int64) (s0 : Int32) (s1 : Int32) (s2 : Int64) (W : jW) : jJ x 12 249 [(0, vR t), (1, vI a1), (2, vI l2), (3, vI l3), (4, vI l4), (5, vI l5), (7, vL l7)] [vI s0, vI s1, vL s2] W (fsh_fixes_249 t a1 l2 l3 l4 l5 l7 s0 s1 s2 W) en := by
  have h0 := h
  obtain ⟨hx, hm, hr, he, ht, k2, k40⟩ := h0
  unfold fsh_fixes_249
  refine j_runA hx 2 (tb := [(249, .isub), (250, .i2l)]) (jtb_ok (by decide +kernel)) (pc' := 251) (lv' := [(0, vR t), (1, vI a1), (2, vI l2), (3, vI l3), (4, vI l4), (5, vI l5), (7, vL l7)]) (st' := [vL ((s1 - s0).toInt64), vL s2]) rfl ?_
  refine j_lcmp_gt hx (off := 26) (tgt := 278) (by decide +kernel) (by decide +kernel) (by decide) (fun _ => ?_) (fun _ => ?_)
  · exact wsh_fixes_278 h l2 l3 l4 l5 l7 W
  refine j_runA hx 2 (tb := [(255, .lload 7), (257, .iload_n 3)]) (jtb_ok (by decide +kernel)) (pc' := 258) (lv' := [(0, vR t), (1, vI a1), (2, vI l2), (3, vI l3), (4, vI l4), (5, vI l5), (7, vL l7)]) (st' := [vI l3, vL l7]) rfl ?_
  refine j_if_eq hx (off := 7) (tgt := 265) (by decide +kernel) (by decide) (fun _ => ?_) (fun _ => ?_)
  · refine j_runA hx 1 (tb := [(265, .bipush 8)]) (jtb_ok (by decide +kernel)) (pc' := 267) (lv' := [(0, vR t), (1, vI a1), (2, vI l2), (3, vI l3), (4, vI l4), (5, vI l5), (7, vL l7)]) (st' := [vI (kI 8), vL l7]) rfl ?_
    exact wsh_fixes_267 h l2 l3 l4 l5 l7 (kI 8) l7 W
  refine j_runA hx 1 (tb := [(261, .iconst 4)]) (jtb_ok (by decide +kernel)) (pc' := 262) (lv' := [(0, vR t), (1, vI a1), (2, vI l2), (3, vI l3), (4, vI l4), (5, vI l5), (7, vL l7)]) (st' := [vI (kI 4), vL l7]) rfl ?_
  refine j_goto hx (off := 5) (by decide +kernel) (tgt := 267) (by decide) ?_
  exact wsh_fixes_267 h l2 l3 l4 l5 l7 (kI 4) l7 W
theorem wsh_fixes_104 {x : jCx} {en : (fsh_fixes_S ⊕ ((Nat × jW) ⊕ jW)) → Option (Outcome × jW)} {t : Nat} {a1 : Int32} (h : hsh_fixes x en t a1) (l2 : Int32) (l3 : Int32) (l4 : Int32) (l5 : Int32) (l6 : Int32) (s0 : Int32) (s1 : Nat) (W : jW) : jJ x 12 104 [(0, vR t), (1, vI a1), (2, vI l2), (3, vI l3), (4, vI l4), (5, vI l5), (6, vI l6)] [vI s0, vR s1] W (fsh_fixes_104 t a1 l2 l3 l4 l5 l6 s0 s1 W) en := by
  have h0 := h
  obtain ⟨hx, hm, hr, he, ht, k2, k40⟩ := h0
  unfold fsh_fixes_104
  refine j_runA hx 4 (tb := [(104, .iconst 5), (105, .iload 5), (107, .bipush 8), (109, .iadd)]) (jtb_ok (by decide +kernel)) (pc' := 110) (lv' := [(0, vR t), (1, vI a1), (2, vI l2), (3, vI l3), (4, vI l4), (5, vI l5), (6, vI l6)]) (st' := [vI (l5 + (kI 8)), vI (kI 5), vI s0, vR s1]) rfl ?_
  refine j_gd (fun h20 => ?_)
  refine j_EV (j_callV (av := [vI s0, vI (kI 5), vI (l5 + (kI 8))]) (st := []) hx hr (Or.inl q757) q758 q759 rfl md_ftr_must np_ftr_must (ctr_must s1 s0 (kI 5) (l5 + (kI 8)) W) (by decide) (Nat.le_of_ble_eq_true rfl) h20 (by decide) (by decide +kernel)) (fun z _ r h9 => j_upE hm hx (ht z) h9) (fun q21 _ => ?_)
  refine j_runA hx 2 (tb := [(113, .aload_n 0), (114, .iload 5)]) (jtb_ok (by decide +kernel)) (pc' := 116) (lv' := [(0, vR t), (1, vI a1), (2, vI l2), (3, vI l3), (4, vI l4), (5, vI l5), (6, vI l6)]) (st' := [vI l5, vR t]) rfl ?_
  refine j_gd (fun h23 => ?_)
  refine j_OL (j_callV (av := [vI l5]) (st := []) hx hr (Or.inl q919) q920 q921 rfl md_fsh_fixPlace np_fsh_fixPlace (csh_fixPlace t l5 q21) (by decide) (Nat.le_of_ble_eq_true rfl) h23 (by decide) (by decide +kernel)) (fun q24 _ => ?_)
  refine j_runA hx 2 (tb := [(119, .lstore 7), (121, .iload 6)]) (jtb_ok (by decide +kernel)) (pc' := 123) (lv' := [(7, vL q24), (0, vR t), (1, vI a1), (2, vI l2), (3, vI l3), (4, vI l4), (5, vI l5), (6, vI l6)]) (st' := [vI l6]) rfl ?_
  refine j_if_ne hx (off := 90) (tgt := 213) (by decide +kernel) (by decide) (fun _ => ?_) (fun _ => ?_)
  · refine j_runA hx 2 (tb := [(213, .lload 7), (215, .aload_n 0)]) (jtb_ok (by decide +kernel)) (pc' := 216) (lv' := [(7, vL q24), (0, vR t), (1, vI a1), (2, vI l2), (3, vI l3), (4, vI l4), (5, vI l5), (6, vI l6)]) (st' := [vR t, vL q24]) rfl ?_
    refine j_getR hx flX3_31 kl413 h23 (by decide) (by decide +kernel) ?_
    refine j_runA hx 1 (tb := [(219, .iload_n 2)]) (jtb_ok (by decide +kernel)) (pc' := 220) (lv' := [(7, vL q24), (0, vR t), (1, vI a1), (2, vI l2), (3, vI l3), (4, vI l4), (5, vI l5), (6, vI l6)]) (st' := [vI l2, vR (jR q21 413 t), vL q24]) rfl ?_
    refine j_gd (fun h25 => ?_)
    refine j_lald hx (f := 413) (o := t) kd413 rfl (by decide +kernel) h25 ?_
    refine j_runA hx 2 (tb := [(221, .lsub), (222, .lstore 9)]) (jtb_ok (by decide +kernel)) (pc' := 224) (lv' := [(9, vL (q24 - (jB q21 413 t (ix l2)))), (7, vL q24), (0, vR t), (1, vI a1), (2, vI l2), (3, vI l3), (4, vI l4), (5, vI l5), (6, vI l6)]) (st' := []) rfl ?_
    refine j_let (v := (q24 - (jB q21 413 t (ix l2)))) (lv := fun v26 => [(9, vL v26), (7, vL q24), (0, vR t), (1, vI a1), (2, vI l2), (3, vI l3), (4, vI l4), (5, vI l5), (6, vI l6)]) (st := fun _ => []) (fun v26 => ?_)
    refine j_runA hx 2 (tb := [(224, .lload 9), (226, .lconst 0)]) (jtb_ok (by decide +kernel)) (pc' := 227) (lv' := [(9, vL v26), (7, vL q24), (0, vR t), (1, vI a1), (2, vI l2), (3, vI l3), (4, vI l4), (5, vI l5), (6, vI l6)]) (st' := [vL (kJ 0), vL v26]) rfl ?_
    refine j_lcmp_lt hx (off := 50) (tgt := 278) (by decide +kernel) (by decide +kernel) (by decide) (fun _ => ?_) (fun _ => ?_)
    · refine j_lv (lv' := [(0, vR t), (1, vI a1), (2, vI l2), (3, vI l3), (4, vI l4), (5, vI l5), (7, vL q24)]) ⟨rfl, rfl, rfl, rfl, rfl, rfl, rfl, trivial⟩ ?_
      exact wsh_fixes_278 h l2 l3 l4 l5 q24 q21
    refine j_runA hx 2 (tb := [(231, .lload 9), (233, .aload_n 0)]) (jtb_ok (by decide +kernel)) (pc' := 234) (lv' := [(9, vL v26), (7, vL q24), (0, vR t), (1, vI a1), (2, vI l2), (3, vI l3), (4, vI l4), (5, vI l5), (6, vI l6)]) (st' := [vR t, vL v26]) rfl ?_
    refine j_getR hx flX3_37 kl415 h23 (by decide) (by decide +kernel) ?_
    refine j_runA hx 1 (tb := [(237, .iload_n 2)]) (jtb_ok (by decide +kernel)) (pc' := 238) (lv' := [(9, vL v26), (7, vL q24), (0, vR t), (1, vI a1), (2, vI l2), (3, vI l3), (4, vI l4), (5, vI l5), (6, vI l6)]) (st' := [vI l2, vR (jR q21 415 t), vL v26]) rfl ?_
    refine j_gd (fun h27 => ?_)
    refine j_iald hx (f := 415) (o := t) kd415 rfl (by decide +kernel) h27 ?_
    refine j_runA hx 1 (tb := [(239, .iload_n 3)]) (jtb_ok (by decide +kernel)) (pc' := 240) (lv' := [(9, vL v26), (7, vL q24), (0, vR t), (1, vI a1), (2, vI l2), (3, vI l3), (4, vI l4), (5, vI l5), (6, vI l6)]) (st' := [vI l3, vI (jA q21 415 t (ix l2)), vL v26]) rfl ?_
    refine j_if_eq hx (off := 7) (tgt := 247) (by decide +kernel) (by decide) (fun _ => ?_) (fun _ => ?_)
    · refine j_runA hx 1 (tb := [(247, .bipush 8)]) (jtb_ok (by decide +kernel)) (pc' := 249) (lv' := [(9, vL v26), (7, vL q24), (0, vR t), (1, vI a1), (2, vI l2), (3, vI l3), (4, vI l4), (5, vI l5), (6, vI l6)]) (st' := [vI (kI 8), vI (jA q21 415 t (ix l2)), vL v26]) rfl ?_
      refine j_lv (lv' := [(0, vR t), (1, vI a1), (2, vI l2), (3, vI l3), (4, vI l4), (5, vI l5), (7, vL q24)]) ⟨rfl, rfl, rfl, rfl, rfl, rfl, rfl, trivial⟩ ?_
      exact wsh_fixes_249 h l2 l3 l4 l5 q24 (kI 8) (jA q21 415 t (ix l2)) v26 q21
    refine j_runA hx 1 (tb := [(243, .iconst 4)]) (jtb_ok (by decide +kernel)) (pc' := 244) (lv' := [(9, vL v26), (7, vL q24), (0, vR t), (1, vI a1), (2, vI l2), (3, vI l3), (4, vI l4), (5, vI l5), (6, vI l6)]) (st' := [vI (kI 4), vI (jA q21 415 t (ix l2)), vL v26]) rfl ?_
    refine j_goto hx (off := 5) (by decide +kernel) (tgt := 249) (by decide) ?_
    refine j_lv (lv' := [(0, vR t), (1, vI a1), (2, vI l2), (3, vI l3), (4, vI l4), (5, vI l5), (7, vL q24)]) ⟨rfl, rfl, rfl, rfl, rfl, rfl, rfl, trivial⟩ ?_
    exact wsh_fixes_249 h l2 l3 l4 l5 q24 (kI 4) (jA q21 415 t (ix l2)) v26 q21
  refine j_runA hx 1 (tb := [(126, .aload_n 0)]) (jtb_ok (by decide +kernel)) (pc' := 127) (lv' := [(7, vL q24), (0, vR t), (1, vI a1), (2, vI l2), (3, vI l3), (4, vI l4), (5, vI l5), (6, vI l6)]) (st' := [vR t]) rfl ?_
  refine j_getR hx flX3_53 kl400 h23 (by decide) (by decide +kernel) ?_
  refine j_runA hx 2 (tb := [(130, .lload 7), (132, .lconst 0)]) (jtb_ok (by decide +kernel)) (pc' := 133) (lv' := [(7, vL q24), (0, vR t), (1, vI a1), (2, vI l2), (3, vI l3), (4, vI l4), (5, vI l5), (6, vI l6)]) (st' := [vL (kJ 0), vL q24, vR (jR q21 400 t)]) rfl ?_
  refine j_lcmp_ne hx (off := 7) (tgt := 141) (by decide +kernel) (by decide +kernel) (by decide) (fun _ => ?_) (fun _ => ?_)
  · refine j_runA hx 1 (tb := [(141, .iconst 0)]) (jtb_ok (by decide +kernel)) (pc' := 142) (lv' := [(7, vL q24), (0, vR t), (1, vI a1), (2, vI l2), (3, vI l3), (4, vI l4), (5, vI l5), (6, vI l6)]) (st' := [vI (kI 0), vR (jR q21 400 t)]) rfl ?_
    refine j_lv (lv' := [(0, vR t), (1, vI a1), (2, vI l2), (3, vI l3), (4, vI l4), (5, vI l5)]) ⟨rfl, rfl, rfl, rfl, rfl, rfl, trivial⟩ ?_
    exact wsh_fixes_142 h l2 l3 l4 l5 (kI 0) (jR q21 400 t) q21
  refine j_runA hx 1 (tb := [(137, .iconst 1)]) (jtb_ok (by decide +kernel)) (pc' := 138) (lv' := [(7, vL q24), (0, vR t), (1, vI a1), (2, vI l2), (3, vI l3), (4, vI l4), (5, vI l5), (6, vI l6)]) (st' := [vI (kI 1), vR (jR q21 400 t)]) rfl ?_
  refine j_goto hx (off := 4) (by decide +kernel) (tgt := 142) (by decide) ?_
  refine j_lv (lv' := [(0, vR t), (1, vI a1), (2, vI l2), (3, vI l3), (4, vI l4), (5, vI l5)]) ⟨rfl, rfl, rfl, rfl, rfl, rfl, trivial⟩ ?_
  exact wsh_fixes_142 h l2 l3 l4 l5 (kI 1) (jR q21 400 t) q21
theorem wsh_fixes_99 {x : jCx} {en : (fsh_fixes_S ⊕ ((Nat × jW) ⊕ jW)) → Option (Outcome × jW)} {t : Nat} {a1 : Int32} (h : hsh_fixes x en t a1) (l2 : Int32) (l3 : Int32) (l4 : Int32) (l5 : Int32) (l6 : Int32) (s0 : Nat) (W : jW) : jJ x 12 99 [(0, vR t), (1, vI a1), (2, vI l2), (3, vI l3), (4, vI l4), (5, vI l5), (6, vI l6)] [vR s0] W (fsh_fixes_99 t a1 l2 l3 l4 l5 l6 s0 W) en := by
  have h0 := h
  obtain ⟨hx, hm, hr, he, ht, k2, k40⟩ := h0
  unfold fsh_fixes_99
  refine j_runA hx 1 (tb := [(99, .iconst 1)]) (jtb_ok (by decide +kernel)) (pc' := 100) (lv' := [(0, vR t), (1, vI a1), (2, vI l2), (3, vI l3), (4, vI l4), (5, vI l5), (6, vI l6)]) (st' := [vI (kI 1), vR s0]) rfl ?_
  refine j_goto hx (off := 4) (by decide +kernel) (tgt := 104) (by decide) ?_
  exact wsh_fixes_104 h l2 l3 l4 l5 l6 (kI 1) s0 W
theorem wsh_fixes_103 {x : jCx} {en : (fsh_fixes_S ⊕ ((Nat × jW) ⊕ jW)) → Option (Outcome × jW)} {t : Nat} {a1 : Int32} (h : hsh_fixes x en t a1) (l2 : Int32) (l3 : Int32) (l4 : Int32) (l5 : Int32) (l6 : Int32) (s0 : Nat) (W : jW) : jJ x 12 103 [(0, vR t), (1, vI a1), (2, vI l2), (3, vI l3), (4, vI l4), (5, vI l5), (6, vI l6)] [vR s0] W (fsh_fixes_103 t a1 l2 l3 l4 l5 l6 s0 W) en := by
  have h0 := h
  obtain ⟨hx, hm, hr, he, ht, k2, k40⟩ := h0
  unfold fsh_fixes_103
  refine j_runA hx 1 (tb := [(103, .iconst 0)]) (jtb_ok (by decide +kernel)) (pc' := 104) (lv' := [(0, vR t), (1, vI a1), (2, vI l2), (3, vI l3), (4, vI l4), (5, vI l5), (6, vI l6)]) (st' := [vI (kI 0), vR s0]) rfl ?_
  exact wsh_fixes_104 h l2 l3 l4 l5 l6 (kI 0) s0 W
theorem wsh_fixes_40 {x : jCx} {en : (fsh_fixes_S ⊕ ((Nat × jW) ⊕ jW)) → Option (Outcome × jW)} {t : Nat} {a1 : Int32} (h : hsh_fixes x en t a1) (l2 : Int32) (l3 : Int32) (l4 : Int32) (W : jW) : jJ x 12 40 [(0, vR t), (1, vI a1), (2, vI l2), (3, vI l3), (4, vI l4)] [] W (fsh_fixes_40 t a1 l2 l3 l4 W) en := by
  have h0 := h
  obtain ⟨hx, hm, hr, he, ht, k2, k40⟩ := h0
  unfold fsh_fixes_40
  refine j_runA hx 3 (tb := [(40, .iload 4), (42, .aload_n 0), (43, .iload_n 1)]) (jtb_ok (by decide +kernel)) (pc' := 44) (lv' := [(0, vR t), (1, vI a1), (2, vI l2), (3, vI l3), (4, vI l4)]) (st' := [vI a1, vR t, vI l4]) rfl ?_
  refine j_gd (fun h14 => ?_)
  refine j_OI (j_callV (av := [vI a1]) (st := [vI l4]) hx hr (Or.inl q904) q905 q906 rfl md_fsh_fixCount np_fsh_fixCount (csh_fixCount t a1 W) (by decide) (Nat.le_of_ble_eq_true rfl) h14 (by decide) (by decide +kernel)) (fun q15 _ => ?_)
  refine j_icmp_ge hx (off := 302) (tgt := 349) (by decide +kernel) (by decide) (fun _ => ?_) (fun _ => ?_)
  · exact j_vret hx hm (by decide +kernel) (he _)
  refine j_runA hx 3 (tb := [(50, .aload_n 0), (51, .iload_n 1), (52, .iload 4)]) (jtb_ok (by decide +kernel)) (pc' := 54) (lv' := [(0, vR t), (1, vI a1), (2, vI l2), (3, vI l3), (4, vI l4)]) (st' := [vI l4, vI a1, vR t]) rfl ?_
  refine j_OI (j_callV (av := [vI a1, vI l4]) (st := []) hx hr (Or.inl q908) q909 q910 rfl md_fsh_fixAt np_fsh_fixAt (csh_fixAt t a1 l4 W) (by decide) (Nat.le_of_ble_eq_true rfl) h14 (by decide) (by decide +kernel)) (fun q16 _ => ?_)
  refine j_runA hx 3 (tb := [(57, .istore 5), (59, .aload_n 0), (60, .iload 5)]) (jtb_ok (by decide +kernel)) (pc' := 62) (lv' := [(5, vI q16), (0, vR t), (1, vI a1), (2, vI l2), (3, vI l3), (4, vI l4)]) (st' := [vI q16, vR t]) rfl ?_
  refine j_OI (j_callV (av := [vI q16]) (st := []) hx hr (Or.inl q912) q913 q914 rfl md_fsh_fixType np_fsh_fixType (csh_fixType t q16 W) (by decide) (Nat.le_of_ble_eq_true rfl) h14 (by decide) (by decide +kernel)) (fun q17 _ => ?_)
  refine j_runA hx 2 (tb := [(65, .istore 6), (67, .aload_n 0)]) (jtb_ok (by decide +kernel)) (pc' := 68) (lv' := [(6, vI q17), (5, vI q16), (0, vR t), (1, vI a1), (2, vI l2), (3, vI l3), (4, vI l4)]) (st' := [vR t]) rfl ?_
  refine j_getR hx flX3_53 kl400 h14 (by decide) (by decide +kernel) ?_
  refine j_runA hx 1 (tb := [(71, .iload 6)]) (jtb_ok (by decide +kernel)) (pc' := 73) (lv' := [(6, vI q17), (5, vI q16), (0, vR t), (1, vI a1), (2, vI l2), (3, vI l3), (4, vI l4)]) (st' := [vI q17, vR (jR W 400 t)]) rfl ?_
  refine j_if_eq hx (off := 26) (tgt := 99) (by decide +kernel) (by decide) (fun _ => ?_) (fun _ => ?_)
  · refine j_lv (lv' := [(0, vR t), (1, vI a1), (2, vI l2), (3, vI l3), (4, vI l4), (5, vI q16), (6, vI q17)]) ⟨rfl, rfl, rfl, rfl, rfl, rfl, rfl, trivial⟩ ?_
    exact wsh_fixes_99 h l2 l3 l4 q16 q17 (jR W 400 t) W
  refine j_runA hx 1 (tb := [(76, .iload_n 3)]) (jtb_ok (by decide +kernel)) (pc' := 77) (lv' := [(6, vI q17), (5, vI q16), (0, vR t), (1, vI a1), (2, vI l2), (3, vI l3), (4, vI l4)]) (st' := [vI l3, vR (jR W 400 t)]) rfl ?_
  refine j_if_eq hx (off := 14) (tgt := 91) (by decide +kernel) (by decide) (fun _ => ?_) (fun _ => ?_)
  · refine j_runA hx 2 (tb := [(91, .iload 6), (93, .sipush 257)]) (jtb_ok (by decide +kernel)) (pc' := 96) (lv' := [(6, vI q17), (5, vI q16), (0, vR t), (1, vI a1), (2, vI l2), (3, vI l3), (4, vI l4)]) (st' := [vI (kI 257), vI q17, vR (jR W 400 t)]) rfl ?_
    refine j_icmp_ne hx (off := 7) (tgt := 103) (by decide +kernel) (by decide) (fun _ => ?_) (fun _ => ?_)
    · refine j_lv (lv' := [(0, vR t), (1, vI a1), (2, vI l2), (3, vI l3), (4, vI l4), (5, vI q16), (6, vI q17)]) ⟨rfl, rfl, rfl, rfl, rfl, rfl, rfl, trivial⟩ ?_
      exact wsh_fixes_103 h l2 l3 l4 q16 q17 (jR W 400 t) W
    refine j_lv (lv' := [(0, vR t), (1, vI a1), (2, vI l2), (3, vI l3), (4, vI l4), (5, vI q16), (6, vI q17)]) ⟨rfl, rfl, rfl, rfl, rfl, rfl, rfl, trivial⟩ ?_
    exact wsh_fixes_99 h l2 l3 l4 q16 q17 (jR W 400 t) W
  refine j_runA hx 1 (tb := [(80, .iload 6)]) (jtb_ok (by decide +kernel)) (pc' := 82) (lv' := [(6, vI q17), (5, vI q16), (0, vR t), (1, vI a1), (2, vI l2), (3, vI l3), (4, vI l4)]) (st' := [vI q17, vR (jR W 400 t)]) rfl ?_
  refine j_TI (j_callS (av := [vI q17]) (st := [vR (jR W 400 t)]) hx hr (Or.inl q916) q917 q233 md_fsh_isTextFix np_fsh_isTextFix (csh_isTextFix q17 W) (by decide) (Nat.le_of_ble_eq_true rfl) (by decide +kernel)) ?_
  refine j_if_eq hx (off := 18) (tgt := 103) (by decide +kernel) (by decide) (fun _ => ?_) (fun _ => ?_)
  · refine j_lv (lv' := [(0, vR t), (1, vI a1), (2, vI l2), (3, vI l3), (4, vI l4), (5, vI q16), (6, vI q17)]) ⟨rfl, rfl, rfl, rfl, rfl, rfl, rfl, trivial⟩ ?_
    exact wsh_fixes_103 h l2 l3 l4 q16 q17 (jR W 400 t) W
  refine j_goto hx (off := 11) (by decide +kernel) (tgt := 99) (by decide) ?_
  refine j_lv (lv' := [(0, vR t), (1, vI a1), (2, vI l2), (3, vI l3), (4, vI l4), (5, vI q16), (6, vI q17)]) ⟨rfl, rfl, rfl, rfl, rfl, rfl, rfl, trivial⟩ ?_
  exact wsh_fixes_99 h l2 l3 l4 q16 q17 (jR W 400 t) W
theorem wsh_fixes_2 {x : jCx} {en : (fsh_fixes_S ⊕ ((Nat × jW) ⊕ jW)) → Option (Outcome × jW)} {t : Nat} {a1 : Int32} (h : hsh_fixes x en t a1) (l2 : Int32) (W : jW) : jJ x 12 2 [(0, vR t), (1, vI a1), (2, vI l2)] [] W (fsh_fixes_2 t a1 l2 W) en := by
  have h0 := h
  obtain ⟨hx, hm, hr, he, ht, k2, k40⟩ := h0
  unfold fsh_fixes_2
  refine j_runA hx 2 (tb := [(2, .iload_n 2), (3, .aload_n 0)]) (jtb_ok (by decide +kernel)) (pc' := 4) (lv' := [(0, vR t), (1, vI a1), (2, vI l2)]) (st' := [vR t, vI l2]) rfl ?_
  refine j_gd (fun h2 => ?_)
  refine j_getR hx flX3_49 kl421 h2 (by decide) (by decide +kernel) ?_
  refine j_gd (fun h3 => ?_)
  refine j_alen hx (f := 421) (o := t) kg421 kh421 rfl (by decide +kernel) h3 ?_
  refine j_icmp_ge hx (off := 16) (tgt := 24) (by decide +kernel) (by decide) (fun _ => ?_) (fun _ => ?_)
  · refine j_runA hx 1 (tb := [(24, .aload_n 0)]) (jtb_ok (by decide +kernel)) (pc' := 25) (lv' := [(0, vR t), (1, vI a1), (2, vI l2)]) (st' := [vR t]) rfl ?_
    refine j_getR hx flX3_43 kl417 h2 (by decide) (by decide +kernel) ?_
    refine j_runA hx 1 (tb := [(28, .iload_n 1)]) (jtb_ok (by decide +kernel)) (pc' := 29) (lv' := [(0, vR t), (1, vI a1), (2, vI l2)]) (st' := [vI a1, vR (jR W 417 t)]) rfl ?_
    refine j_gd (fun h4 => ?_)
    refine j_iald hx (f := 417) (o := t) kd417 rfl (by decide +kernel) h4 ?_
    refine j_runA hx 1 (tb := [(30, .istore_n 2)]) (jtb_ok (by decide +kernel)) (pc' := 31) (lv' := [(2, vI (jA W 417 t (ix a1))), (0, vR t), (1, vI a1)]) (st' := []) rfl ?_
    refine j_let (v := (jA W 417 t (ix a1))) (lv := fun v5 => [(2, vI v5), (0, vR t), (1, vI a1)]) (st := fun _ => []) (fun v5 => ?_)
    refine j_runA hx 2 (tb := [(31, .aload_n 0), (32, .iload_n 2)]) (jtb_ok (by decide +kernel)) (pc' := 33) (lv' := [(2, vI v5), (0, vR t), (1, vI a1)]) (st' := [vI v5, vR t]) rfl ?_
    refine j_OI (j_callV (av := [vI v5]) (st := []) hx hr (Or.inl q845) q846 q847 rfl md_fsh_isCode np_fsh_isCode (csh_isCode t v5 W) (by decide) (Nat.le_of_ble_eq_true rfl) h2 (by decide) (by decide +kernel)) (fun q6 _ => ?_)
    refine j_runA hx 3 (tb := [(36, .istore_n 3), (37, .iconst 0), (38, .istore 4)]) (jtb_ok (by decide +kernel)) (pc' := 40) (lv' := [(4, vI (kI 0)), (3, vI q6), (2, vI v5), (0, vR t), (1, vI a1)]) (st' := []) rfl ?_
    refine j_lv (lv' := [(0, vR t), (1, vI a1), (2, vI v5), (3, vI q6), (4, vI (kI 0))]) ⟨rfl, rfl, rfl, rfl, rfl, trivial⟩ ?_
    exact k40 v5 q6 (kI 0) W
  refine j_runA hx 1 (tb := [(11, .aload_n 0)]) (jtb_ok (by decide +kernel)) (pc' := 12) (lv' := [(0, vR t), (1, vI a1), (2, vI l2)]) (st' := [vR t]) rfl ?_
  refine j_getR hx flX3_49 kl421 h2 (by decide) (by decide +kernel) ?_
  refine j_runA hx 2 (tb := [(15, .iload_n 2), (16, .iconst 0)]) (jtb_ok (by decide +kernel)) (pc' := 17) (lv' := [(0, vR t), (1, vI a1), (2, vI l2)]) (st' := [vI (kI 0), vI l2, vR (jR W 421 t)]) rfl ?_
  refine j_gd (fun h7 => ?_)
  refine j_zast hx (f := 421) (o := t) kd421 rfl (by decide +kernel) h7 ?_
  refine j_ltw rfl (fun W8 hc9 => ?_)
  have h10 : jC W8 t = 4 := (congrFun hc9 _).trans h2
  refine j_runA hx 1 (tb := [(18, .iinc 2 1)]) (jtb_ok (by decide +kernel)) (pc' := 21) (lv' := [(2, vI (l2 + (kI 1))), (0, vR t), (1, vI a1)]) (st' := []) rfl ?_
  refine j_let (v := (l2 + (kI 1))) (lv := fun v12 => [(2, vI v12), (0, vR t), (1, vI a1)]) (st := fun _ => []) (fun v12 => ?_)
  refine j_goto hx (off := -19) (by decide +kernel) (tgt := 2) (by decide) ?_
  refine j_lv (lv' := [(0, vR t), (1, vI a1), (2, vI v12)]) ⟨rfl, rfl, rfl, trivial⟩ ?_
  exact k2 v12 W8
theorem wsh_fixes {x : jCx} {en : (fsh_fixes_S ⊕ ((Nat × jW) ⊕ jW)) → Option (Outcome × jW)} {t : Nat} {a1 : Int32} (h : hsh_fixes x en t a1) (W : jW) : jJ x 12 0 [(0, vR t), (1, vI a1)] [] W (fsh_fixes_0 t a1 W) en := by
  have h0 := h
  obtain ⟨hx, hm, hr, he, ht, k2, k40⟩ := h0
  unfold fsh_fixes_0
  refine j_runA hx 2 (tb := [(0, .iconst 0), (1, .istore_n 2)]) (jtb_ok (by decide +kernel)) (pc' := 2) (lv' := [(2, vI (kI 0)), (0, vR t), (1, vI a1)]) (st' := []) rfl ?_
  refine j_lv (lv' := [(0, vR t), (1, vI a1), (2, vI (kI 0))]) ⟨rfl, rfl, rfl, trivial⟩ ?_
  exact k2 (kI 0) W
theorem csh_fixes (t : Nat) (a1 : Int32) (W : jW) : jM yX3_fixes cX3_fixes 12 (Option.none : Option Jvm.ClassFile.FieldType) [] 7 96 [vR t, vI a1] W ((fsh_fixes t a1 W).bind (fun q => some (Sum.elim (fun z => (.threw (z.1 - 1), z.2)) (fun q => (.returned none, q)) q))) := by
  refine jM.of (Nat.le_of_ble_eq_true rfl) (fun x hx hm hr => ?_)
  refine j_begin (P := (Sum.elim (fun s => (2, [(0, vR t), (1, vI a1), (2, vI s.1)], s.2)) (fun s => (40, [(0, vR t), (1, vI a1), (2, vI s.1), (3, vI s.2.1), (4, vI s.2.2.1)], s.2.2.2)))) (fun en he hk => ?_)
  have h : hsh_fixes x en t a1 := ⟨hx, hm, hr, fun q => he _, fun z => he _, fun l2 W => hk (.inl (l2, W)), fun l2 l3 l4 W => hk (.inr (l2, l3, l4, W))⟩
  refine ⟨fun s => ?_, wsh_fixes h W⟩
  rcases s with s | s
  · exact wsh_fixes_2 h s.1 s.2
  · exact wsh_fixes_40 h s.1 s.2.1 s.2.2.1 s.2.2.2
def hsh_take (x : jCx) (en : (fsh_take_S ⊕ ((Nat × jW) ⊕ jW)) → Option (Outcome × jW)) (t : Nat) (a1 : Nat) : Prop :=
  jOK x RX3 cX3_take 3 ∧
  jMt x "take" (Option.none : Option Jvm.ClassFile.FieldType) [] ∧
  jRm x 8 123 ∧
  (∀ q : jW, en (.inr (.inr q)) = some (.returned none, q)) ∧
  (∀ z : Nat × jW, en (.inr (.inl z)) = some (.threw (z.1 - 1), z.2)) ∧
  (∀ (l2 : Int32) (W : jW), jJ x 3 11 [(0, vR t), (1, vR a1), (2, vI l2)] [] W (some (.inl (.inl (l2, W)))) en) ∧
  (∀ (l2 : Int32) (W : jW), jJ x 3 40 [(0, vR t), (1, vR a1), (2, vI l2)] [] W (some (.inl (.inr (l2, W)))) en)
theorem wsh_take_63 {x : jCx} {en : (fsh_take_S ⊕ ((Nat × jW) ⊕ jW)) → Option (Outcome × jW)} {t : Nat} {a1 : Nat} (h : hsh_take x en t a1) (l2 : Int32) (W : jW) : jJ x 3 63 [(0, vR t), (1, vR a1), (2, vI l2)] [] W (fsh_take_63 t a1 l2 W) en := by
  have h0 := h
  obtain ⟨hx, hm, hr, he, ht, k11, k40⟩ := h0
  unfold fsh_take_63
  refine j_runA hx 1 (tb := [(63, .iinc 2 1)]) (jtb_ok (by decide +kernel)) (pc' := 66) (lv' := [(2, vI (l2 + (kI 1))), (0, vR t), (1, vR a1)]) (st' := []) rfl ?_
  refine j_let (v := (l2 + (kI 1))) (lv := fun v27 => [(2, vI v27), (0, vR t), (1, vR a1)]) (st := fun _ => []) (fun v27 => ?_)
  refine j_goto hx (off := -26) (by decide +kernel) (tgt := 40) (by decide) ?_
  refine j_lv (lv' := [(0, vR t), (1, vR a1), (2, vI v27)]) ⟨rfl, rfl, rfl, trivial⟩ ?_
  exact k40 v27 W
theorem wsh_take_114 {x : jCx} {en : (fsh_take_S ⊕ ((Nat × jW) ⊕ jW)) → Option (Outcome × jW)} {t : Nat} {a1 : Nat} (h : hsh_take x en t a1) (s0 : Int32) (s1 : Nat) (W : jW) : jJ x 3 114 [(0, vR t), (1, vR a1)] [vI s0, vR s1] W (fsh_take_114 t a1 s0 s1 W) en := by
  have h0 := h
  obtain ⟨hx, hm, hr, he, ht, k11, k40⟩ := h0
  unfold fsh_take_114
  refine j_runA hx 2 (tb := [(114, .bipush 6), (116, .bipush 24)]) (jtb_ok (by decide +kernel)) (pc' := 118) (lv' := [(0, vR t), (1, vR a1)]) (st' := [vI (kI 24), vI (kI 6), vI s0, vR s1]) rfl ?_
  refine j_gd (fun h29 => ?_)
  refine j_EV (j_callV (av := [vI s0, vI (kI 6), vI (kI 24)]) (st := []) hx hr (Or.inl q757) q758 q759 rfl md_ftr_must np_ftr_must (ctr_must s1 s0 (kI 6) (kI 24) W) (by decide) (Nat.le_of_ble_eq_true rfl) h29 (by decide) (by decide +kernel)) (fun z _ r h9 => j_upE hm hx (ht z) h9) (fun q30 _ => ?_)
  exact j_vret hx hm (by decide +kernel) (he _)
theorem wsh_take_113 {x : jCx} {en : (fsh_take_S ⊕ ((Nat × jW) ⊕ jW)) → Option (Outcome × jW)} {t : Nat} {a1 : Nat} (h : hsh_take x en t a1) (s0 : Nat) (W : jW) : jJ x 3 113 [(0, vR t), (1, vR a1)] [vR s0] W (fsh_take_113 t a1 s0 W) en := by
  have h0 := h
  obtain ⟨hx, hm, hr, he, ht, k11, k40⟩ := h0
  unfold fsh_take_113
  refine j_runA hx 1 (tb := [(113, .iconst 0)]) (jtb_ok (by decide +kernel)) (pc' := 114) (lv' := [(0, vR t), (1, vR a1)]) (st' := [vI (kI 0), vR s0]) rfl ?_
  exact wsh_take_114 h (kI 0) s0 W
theorem wsh_take_40 {x : jCx} {en : (fsh_take_S ⊕ ((Nat × jW) ⊕ jW)) → Option (Outcome × jW)} {t : Nat} {a1 : Nat} (h : hsh_take x en t a1) (l2 : Int32) (W : jW) : jJ x 3 40 [(0, vR t), (1, vR a1), (2, vI l2)] [] W (fsh_take_40 t a1 l2 W) en := by
  have h0 := h
  obtain ⟨hx, hm, hr, he, ht, k11, k40⟩ := h0
  unfold fsh_take_40
  refine j_runA hx 2 (tb := [(40, .iload_n 2), (41, .aload_n 0)]) (jtb_ok (by decide +kernel)) (pc' := 42) (lv' := [(0, vR t), (1, vR a1), (2, vI l2)]) (st' := [vR t, vI l2]) rfl ?_
  refine j_gd (fun h19 => ?_)
  refine j_getI hx flX3_78 kd403 h19 (by decide) (by decide +kernel) ?_
  refine j_icmp_ge hx (off := 24) (tgt := 69) (by decide +kernel) (by decide) (fun _ => ?_) (fun _ => ?_)
  · refine j_runA hx 1 (tb := [(69, .aload_n 0)]) (jtb_ok (by decide +kernel)) (pc' := 70) (lv' := [(0, vR t), (1, vR a1), (2, vI l2)]) (st' := [vR t]) rfl ?_
    refine j_getR hx flX3_53 kl400 h19 (by decide) (by decide +kernel) ?_
    refine j_runA hx 1 (tb := [(73, .aload_n 0)]) (jtb_ok (by decide +kernel)) (pc' := 74) (lv' := [(0, vR t), (1, vR a1), (2, vI l2)]) (st' := [vR t, vR (jR W 400 t)]) rfl ?_
    refine j_getL hx flX3_83 kd404 h19 (by decide) (by decide +kernel) ?_
    refine j_runA hx 1 (tb := [(77, .aload_n 0)]) (jtb_ok (by decide +kernel)) (pc' := 78) (lv' := [(0, vR t), (1, vR a1), (2, vI l2)]) (st' := [vR t, vL (jL W 404 t), vR (jR W 400 t)]) rfl ?_
    refine j_getR hx flX3_15 kl408 h19 (by decide) (by decide +kernel) ?_
    refine j_runA hx 1 (tb := [(81, .aload_n 0)]) (jtb_ok (by decide +kernel)) (pc' := 82) (lv' := [(0, vR t), (1, vR a1), (2, vI l2)]) (st' := [vR t, vR (jR W 408 t), vL (jL W 404 t), vR (jR W 400 t)]) rfl ?_
    refine j_OI (j_callV (av := []) (st := [vR (jR W 408 t), vL (jL W 404 t), vR (jR W 400 t)]) hx hr (Or.inl q792) q793 q794 rfl md_fsh_last np_fsh_last (csh_last t W) (by decide) (Nat.le_of_ble_eq_true rfl) h19 (by decide) (by decide +kernel)) (fun q20 _ => ?_)
    refine j_gd (fun h21 => ?_)
    refine j_lald hx (f := 408) (o := t) kd408 rfl (by decide +kernel) h21 ?_
    refine j_runA hx 1 (tb := [(86, .aload_n 0)]) (jtb_ok (by decide +kernel)) (pc' := 87) (lv' := [(0, vR t), (1, vR a1), (2, vI l2)]) (st' := [vR t, vL (jB W 408 t (ix q20)), vL (jL W 404 t), vR (jR W 400 t)]) rfl ?_
    refine j_OL (j_callV (av := []) (st := [vL (jB W 408 t (ix q20)), vL (jL W 404 t), vR (jR W 400 t)]) hx hr (Or.inl q896) q897 q898 rfl md_fsh_end np_fsh_end (csh_end t W) (by decide) (Nat.le_of_ble_eq_true rfl) h19 (by decide) (by decide +kernel)) (fun q22 _ => ?_)
    refine j_TI (j_callS (av := [vL (jL W 404 t), vL (jB W 408 t (ix q20)), vL q22]) (st := [vR (jR W 400 t)]) hx hr (Or.inr ⟨_, q871⟩) q872 q226 md_fcl_isIn np_fcl_isIn (ccl_isIn (jL W 404 t) (jB W 408 t (ix q20)) q22 W) (by decide) (Nat.le_of_ble_eq_true rfl) (by decide +kernel)) ?_
    refine j_if_eq hx (off := 20) (tgt := 113) (by decide +kernel) (by decide) (fun _ => ?_) (fun _ => ?_)
    · refine j_lv (lv' := [(0, vR t), (1, vR a1)]) ⟨rfl, rfl, trivial⟩ ?_
      exact wsh_take_113 h (jR W 400 t) W
    refine j_runA hx 1 (tb := [(96, .aload_n 0)]) (jtb_ok (by decide +kernel)) (pc' := 97) (lv' := [(0, vR t), (1, vR a1), (2, vI l2)]) (st' := [vR t, vR (jR W 400 t)]) rfl ?_
    refine j_getL hx flX3_83 kd404 h19 (by decide) (by decide +kernel) ?_
    refine j_ldc2 hx (v := (kJ 4)) (jkd2 q849 (by decide +kernel)) (by decide +kernel) ?_
    refine j_lrem hx (by decide +kernel) (by decide +kernel) ?_
    refine j_runA hx 1 (tb := [(104, .lconst 0)]) (jtb_ok (by decide +kernel)) (pc' := 105) (lv' := [(0, vR t), (1, vR a1), (2, vI l2)]) (st' := [vL (kJ 0), vL (lrm (jL W 404 t) (kJ 4)), vR (jR W 400 t)]) rfl ?_
    refine j_lcmp_ne hx (off := 7) (tgt := 113) (by decide +kernel) (by decide +kernel) (by decide) (fun _ => ?_) (fun _ => ?_)
    · refine j_lv (lv' := [(0, vR t), (1, vR a1)]) ⟨rfl, rfl, trivial⟩ ?_
      exact wsh_take_113 h (jR W 400 t) W
    refine j_runA hx 1 (tb := [(109, .iconst 1)]) (jtb_ok (by decide +kernel)) (pc' := 110) (lv' := [(0, vR t), (1, vR a1), (2, vI l2)]) (st' := [vI (kI 1), vR (jR W 400 t)]) rfl ?_
    refine j_goto hx (off := 4) (by decide +kernel) (tgt := 114) (by decide) ?_
    refine j_lv (lv' := [(0, vR t), (1, vR a1)]) ⟨rfl, rfl, trivial⟩ ?_
    exact wsh_take_114 h (kI 1) (jR W 400 t) W
  refine j_runA hx 1 (tb := [(48, .aload_n 0)]) (jtb_ok (by decide +kernel)) (pc' := 49) (lv' := [(0, vR t), (1, vR a1), (2, vI l2)]) (st' := [vR t]) rfl ?_
  refine j_getR hx flX3_25 kl411 h19 (by decide) (by decide +kernel) ?_
  refine j_runA hx 1 (tb := [(52, .iload_n 2)]) (jtb_ok (by decide +kernel)) (pc' := 53) (lv' := [(0, vR t), (1, vR a1), (2, vI l2)]) (st' := [vI l2, vR (jR W 411 t)]) rfl ?_
  refine j_gd (fun h23 => ?_)
  refine j_iald hx (f := 411) (o := t) kd411 rfl (by decide +kernel) h23 ?_
  refine j_runA hx 1 (tb := [(54, .iconst 4)]) (jtb_ok (by decide +kernel)) (pc' := 55) (lv' := [(0, vR t), (1, vR a1), (2, vI l2)]) (st' := [vI (kI 4), vI (jA W 411 t (ix l2))]) rfl ?_
  refine j_icmp_ne hx (off := 8) (tgt := 63) (by decide +kernel) (by decide) (fun _ => ?_) (fun _ => ?_)
  · exact wsh_take_63 h l2 W
  refine j_runA hx 2 (tb := [(58, .aload_n 0), (59, .iload_n 2)]) (jtb_ok (by decide +kernel)) (pc' := 60) (lv' := [(0, vR t), (1, vR a1), (2, vI l2)]) (st' := [vI l2, vR t]) rfl ?_
  refine j_EV (j_callV (av := [vI l2]) (st := []) hx hr (Or.inl q900) q902 qs12 rfl md_fsh_fixes np_fsh_fixes (csh_fixes t l2 W) (by decide) (Nat.le_of_ble_eq_true rfl) h19 (by decide) (by decide +kernel)) (fun z _ r h9 => j_upE hm hx (ht z) h9) (fun q24 _ => ?_)
  exact wsh_take_63 h l2 q24
theorem wsh_take_11 {x : jCx} {en : (fsh_take_S ⊕ ((Nat × jW) ⊕ jW)) → Option (Outcome × jW)} {t : Nat} {a1 : Nat} (h : hsh_take x en t a1) (l2 : Int32) (W : jW) : jJ x 3 11 [(0, vR t), (1, vR a1), (2, vI l2)] [] W (fsh_take_11 t a1 l2 W) en := by
  have h0 := h
  obtain ⟨hx, hm, hr, he, ht, k11, k40⟩ := h0
  unfold fsh_take_11
  refine j_runA hx 2 (tb := [(11, .iload_n 2), (12, .aload_n 0)]) (jtb_ok (by decide +kernel)) (pc' := 13) (lv' := [(0, vR t), (1, vR a1), (2, vI l2)]) (st' := [vR t, vI l2]) rfl ?_
  refine j_gd (fun h9 => ?_)
  refine j_getI hx flX3_64 kd402 h9 (by decide) (by decide +kernel) ?_
  refine j_icmp_ge hx (off := 14) (tgt := 30) (by decide +kernel) (by decide) (fun _ => ?_) (fun _ => ?_)
  · refine j_runA hx 1 (tb := [(30, .aload_n 0)]) (jtb_ok (by decide +kernel)) (pc' := 31) (lv' := [(0, vR t), (1, vR a1), (2, vI l2)]) (st' := [vR t]) rfl ?_
    refine j_EV (j_callV (av := []) (st := []) hx hr (Or.inl q829) q831 qs5 rfl md_fsh_sections np_fsh_sections (csh_sections t W) (by decide) (Nat.le_of_ble_eq_true rfl) h9 (by decide) (by decide +kernel)) (fun z _ r h9 => j_upE hm hx (ht z) h9) (fun q10 _ => ?_)
    refine j_runA hx 1 (tb := [(34, .aload_n 0)]) (jtb_ok (by decide +kernel)) (pc' := 35) (lv' := [(0, vR t), (1, vR a1), (2, vI l2)]) (st' := [vR t]) rfl ?_
    refine j_gd (fun h12 => ?_)
    refine j_EV (j_callV (av := []) (st := []) hx hr (Or.inl q875) q877 qs11 rfl md_fsh_symbols np_fsh_symbols (csh_symbols t q10) (by decide) (Nat.le_of_ble_eq_true rfl) h12 (by decide) (by decide +kernel)) (fun z _ r h9 => j_upE hm hx (ht z) h9) (fun q13 _ => ?_)
    refine j_runA hx 2 (tb := [(38, .iconst 1), (39, .istore_n 2)]) (jtb_ok (by decide +kernel)) (pc' := 40) (lv' := [(2, vI (kI 1)), (0, vR t), (1, vR a1)]) (st' := []) rfl ?_
    refine j_lv (lv' := [(0, vR t), (1, vR a1), (2, vI (kI 1))]) ⟨rfl, rfl, rfl, trivial⟩ ?_
    exact k40 (kI 1) q13
  refine j_runA hx 2 (tb := [(19, .aload_n 0), (20, .iload_n 2)]) (jtb_ok (by decide +kernel)) (pc' := 21) (lv' := [(0, vR t), (1, vR a1), (2, vI l2)]) (st' := [vI l2, vR t]) rfl ?_
  refine j_EV (j_callV (av := [vI l2]) (st := []) hx hr (Or.inl q814) q816 qs4 rfl md_fsh_segment np_fsh_segment (csh_segment t l2 W) (by decide) (Nat.le_of_ble_eq_true rfl) h9 (by decide) (by decide +kernel)) (fun z _ r h9 => j_upE hm hx (ht z) h9) (fun q15 _ => ?_)
  refine j_runA hx 1 (tb := [(24, .iinc 2 1)]) (jtb_ok (by decide +kernel)) (pc' := 27) (lv' := [(2, vI (l2 + (kI 1))), (0, vR t), (1, vR a1)]) (st' := []) rfl ?_
  refine j_let (v := (l2 + (kI 1))) (lv := fun v17 => [(2, vI v17), (0, vR t), (1, vR a1)]) (st := fun _ => []) (fun v17 => ?_)
  refine j_goto hx (off := -16) (by decide +kernel) (tgt := 11) (by decide) ?_
  refine j_lv (lv' := [(0, vR t), (1, vR a1), (2, vI v17)]) ⟨rfl, rfl, rfl, trivial⟩ ?_
  exact k11 v17 q15
theorem wsh_take {x : jCx} {en : (fsh_take_S ⊕ ((Nat × jW) ⊕ jW)) → Option (Outcome × jW)} {t : Nat} {a1 : Nat} (h : hsh_take x en t a1) (W : jW) : jJ x 3 0 [(0, vR t), (1, vR a1)] [] W (fsh_take_0 t a1 W) en := by
  have h0 := h
  obtain ⟨hx, hm, hr, he, ht, k11, k40⟩ := h0
  unfold fsh_take_0
  refine j_runA hx 2 (tb := [(0, .aload_n 0), (1, .aload_n 1)]) (jtb_ok (by decide +kernel)) (pc' := 2) (lv' := [(0, vR t), (1, vR a1)]) (st' := [vR a1, vR t]) rfl ?_
  refine j_gd (fun h1 => ?_)
  refine j_putR hx fwX3_57 wf401 kd401 h1 (by decide) (by decide +kernel) nr401 fr401 ?_
  refine j_ltw rfl (fun W2 hc3 => ?_)
  have h4 : jC W2 t = 4 := (congrFun hc3 _).trans h1
  refine j_runA hx 1 (tb := [(5, .aload_n 0)]) (jtb_ok (by decide +kernel)) (pc' := 6) (lv' := [(0, vR t), (1, vR a1)]) (st' := [vR t]) rfl ?_
  refine j_EV (j_callV (av := []) (st := []) hx hr (Or.inl q744) q746 qs2 rfl md_fsh_head np_fsh_head (csh_head t W2) (by decide) (Nat.le_of_ble_eq_true rfl) h4 (by decide) (by decide +kernel)) (fun z _ r h9 => j_upE hm hx (ht z) h9) (fun q6 _ => ?_)
  refine j_runA hx 2 (tb := [(9, .iconst 0), (10, .istore_n 2)]) (jtb_ok (by decide +kernel)) (pc' := 11) (lv' := [(2, vI (kI 0)), (0, vR t), (1, vR a1)]) (st' := []) rfl ?_
  refine j_lv (lv' := [(0, vR t), (1, vR a1), (2, vI (kI 0))]) ⟨rfl, rfl, rfl, trivial⟩ ?_
  exact k11 (kI 0) q6
theorem csh_take (t : Nat) (a1 : Nat) (W : jW) : jM yX3_take cX3_take 3 (Option.none : Option Jvm.ClassFile.FieldType) [] 8 123 [vR t, vR a1] W ((fsh_take t a1 W).bind (fun q => some (Sum.elim (fun z => (.threw (z.1 - 1), z.2)) (fun q => (.returned none, q)) q))) := by
  refine jM.of (Nat.le_of_ble_eq_true rfl) (fun x hx hm hr => ?_)
  refine j_begin (P := (Sum.elim (fun s => (11, [(0, vR t), (1, vR a1), (2, vI s.1)], s.2)) (fun s => (40, [(0, vR t), (1, vR a1), (2, vI s.1)], s.2)))) (fun en he hk => ?_)
  have h : hsh_take x en t a1 := ⟨hx, hm, hr, fun q => he _, fun z => he _, fun l2 W => hk (.inl (l2, W)), fun l2 W => hk (.inr (l2, W))⟩
  refine ⟨fun s => ?_, wsh_take h W⟩
  rcases s with s | s
  · exact wsh_take_11 h s.1 s.2
  · exact wsh_take_40 h s.1 s.2
def hpg_room (x : jCx) (en : (jW) → Option (Outcome × jW)) (t : Nat) : Prop :=
  jOK x RX1 cX1_room 1 ∧
  jMt x "room" (Option.none : Option Jvm.ClassFile.FieldType) [] ∧
  jRm x 0 0 ∧
  (∀ q : jW, en q = some (.returned none, q))
theorem wpg_room {x : jCx} {en : (jW) → Option (Outcome × jW)} {t : Nat} (h : hpg_room x en t) (W : jW) : jJ x 1 0 [(0, vR t)] [] W (fpg_room t W) en := by
  have h0 := h
  obtain ⟨hx, hm, hr, he⟩ := h0
  unfold fpg_room
  refine j_runA hx 2 (tb := [(0, .aload_n 0), (1, .aload_n 0)]) (jtb_ok (by decide +kernel)) (pc' := 2) (lv' := [(0, vR t)]) (st' := [vR t, vR t]) rfl ?_
  refine j_gd (fun h1 => ?_)
  refine j_getI hx flX1_124 kd203 h1 (by decide) (by decide +kernel) ?_
  refine j_gd (fun h2 => ?_)
  refine j_nwA hx fwX1_32 wf204 ka204 ja204_3 h1 (by decide) nr204 fr204 (by decide +kernel) (by decide +kernel) h2 ?_
  refine j_ltw rfl (fun W3 hc4 => ?_)
  have h5 : jC W3 t = 2 := (congrFun hc4 _).trans h1
  refine j_runA hx 2 (tb := [(10, .aload_n 0), (11, .aload_n 0)]) (jtb_ok (by decide +kernel)) (pc' := 12) (lv' := [(0, vR t)]) (st' := [vR t, vR t]) rfl ?_
  refine j_getI hx flX1_124 kd203 h5 (by decide) (by decide +kernel) ?_
  refine j_gd (fun h7 => ?_)
  refine j_nwA hx fwX1_36 wf205 ka205 ja205_3 h5 (by decide) nr205 fr205 (by decide +kernel) (by decide +kernel) h7 ?_
  refine j_ltw rfl (fun W8 hc9 => ?_)
  have h10 : jC W8 t = 2 := (congrFun hc9 _).trans h5
  refine j_runA hx 2 (tb := [(20, .aload_n 0), (21, .aload_n 0)]) (jtb_ok (by decide +kernel)) (pc' := 22) (lv' := [(0, vR t)]) (st' := [vR t, vR t]) rfl ?_
  refine j_getI hx flX1_124 kd203 h10 (by decide) (by decide +kernel) ?_
  refine j_gd (fun h12 => ?_)
  refine j_nwA hx fwX1_39 wf206 ka206 ja206_3 h10 (by decide) nr206 fr206 (by decide +kernel) (by decide +kernel) h12 ?_
  refine j_ltw rfl (fun W13 hc14 => ?_)
  have h15 : jC W13 t = 2 := (congrFun hc14 _).trans h10
  refine j_runA hx 2 (tb := [(30, .aload_n 0), (31, .aload_n 0)]) (jtb_ok (by decide +kernel)) (pc' := 32) (lv' := [(0, vR t)]) (st' := [vR t, vR t]) rfl ?_
  refine j_getI hx flX1_124 kd203 h15 (by decide) (by decide +kernel) ?_
  refine j_gd (fun h17 => ?_)
  refine j_nwA hx fwX1_42 wf207 ka207 ja207_3 h15 (by decide) nr207 fr207 (by decide +kernel) (by decide +kernel) h17 ?_
  refine j_ltw rfl (fun W18 hc19 => ?_)
  have h20 : jC W18 t = 2 := (congrFun hc19 _).trans h15
  refine j_runA hx 2 (tb := [(40, .aload_n 0), (41, .aload_n 0)]) (jtb_ok (by decide +kernel)) (pc' := 42) (lv' := [(0, vR t)]) (st' := [vR t, vR t]) rfl ?_
  refine j_getI hx flX1_124 kd203 h20 (by decide) (by decide +kernel) ?_
  refine j_gd (fun h22 => ?_)
  refine j_nwA hx fwX1_45 wf208 ka208 ja208_5 h20 (by decide) nr208 fr208 (by decide +kernel) (by decide +kernel) h22 ?_
  refine j_ltw rfl (fun W23 hc24 => ?_)
  have h25 : jC W23 t = 2 := (congrFun hc24 _).trans h20
  refine j_runA hx 2 (tb := [(50, .aload_n 0), (51, .aload_n 0)]) (jtb_ok (by decide +kernel)) (pc' := 52) (lv' := [(0, vR t)]) (st' := [vR t, vR t]) rfl ?_
  refine j_getI hx flX1_124 kd203 h25 (by decide) (by decide +kernel) ?_
  refine j_gd (fun h27 => ?_)
  refine j_nwA hx fwX1_62 wf212 ka212 ja212_3 h25 (by decide) nr212 fr212 (by decide +kernel) (by decide +kernel) h27 ?_
  refine j_ltw rfl (fun W28 hc29 => ?_)
  have h30 : jC W28 t = 2 := (congrFun hc29 _).trans h25
  refine j_runA hx 2 (tb := [(60, .aload_n 0), (61, .aload_n 0)]) (jtb_ok (by decide +kernel)) (pc' := 62) (lv' := [(0, vR t)]) (st' := [vR t, vR t]) rfl ?_
  refine j_getI hx flX1_124 kd203 h30 (by decide) (by decide +kernel) ?_
  refine j_gd (fun h32 => ?_)
  refine j_nwA hx fwX1_68 wf214 ka214 ja214_3 h30 (by decide) nr214 fr214 (by decide +kernel) (by decide +kernel) h32 ?_
  refine j_ltw rfl (fun W33 hc34 => ?_)
  have h35 : jC W33 t = 2 := (congrFun hc34 _).trans h30
  refine j_runA hx 2 (tb := [(70, .aload_n 0), (71, .aload_n 0)]) (jtb_ok (by decide +kernel)) (pc' := 72) (lv' := [(0, vR t)]) (st' := [vR t, vR t]) rfl ?_
  refine j_getI hx flX1_124 kd203 h35 (by decide) (by decide +kernel) ?_
  refine j_gd (fun h37 => ?_)
  refine j_nwA hx fwX1_71 wf215 ka215 ja215_3 h35 (by decide) nr215 fr215 (by decide +kernel) (by decide +kernel) h37 ?_
  refine j_ltw rfl (fun W38 hc39 => ?_)
  have h40 : jC W38 t = 2 := (congrFun hc39 _).trans h35
  refine j_runA hx 2 (tb := [(80, .aload_n 0), (81, .aload_n 0)]) (jtb_ok (by decide +kernel)) (pc' := 82) (lv' := [(0, vR t)]) (st' := [vR t, vR t]) rfl ?_
  refine j_getI hx flX1_124 kd203 h40 (by decide) (by decide +kernel) ?_
  refine j_gd (fun h42 => ?_)
  refine j_nwA hx fwX1_74 wf216 ka216 ja216_5 h40 (by decide) nr216 fr216 (by decide +kernel) (by decide +kernel) h42 ?_
  refine j_ltw rfl (fun W43 hc44 => ?_)
  have h45 : jC W43 t = 2 := (congrFun hc44 _).trans h40
  exact j_vret hx hm (by decide +kernel) (he _)
theorem cpg_room (t : Nat) (W : jW) : jM yX1_room cX1_room 1 (Option.none : Option Jvm.ClassFile.FieldType) [] 0 0 [vR t] W ((fpg_room t W).bind (fun q => some (.returned none, q))) := 
  jM.of (Nat.le_of_ble_eq_true rfl) (fun x hx hm hr => wpg_room ⟨hx, hm, hr, fun _ => rfl⟩ W)
def hpg_placeOf (x : jCx) (en : (Int32) → Option (Outcome × jW)) (t : Nat) (a1 : Int32) (W : jW) : Prop :=
  jOK x RX1 cX1_placeOf 2 ∧
  jMt x "placeOf" (Option.some Jvm.ClassFile.FieldType.int) [] ∧
  jRm x 2 25 ∧
  (∀ q : Int32, en q = some (.returned (some (.int q)), W))
theorem wpg_placeOf {x : jCx} {en : (Int32) → Option (Outcome × jW)} {W : jW} {t : Nat} {a1 : Int32} (h : hpg_placeOf x en t a1 W) : jJ x 2 0 [(0, vR t), (1, vI a1)] [] W (fpg_placeOf t a1 W) en := by
  have h0 := h
  obtain ⟨hx, hm, hr, he⟩ := h0
  unfold fpg_placeOf
  refine j_runA hx 1 (tb := [(0, .aload_n 0)]) (jtb_ok (by decide +kernel)) (pc' := 1) (lv' := [(0, vR t), (1, vI a1)]) (st' := [vR t]) rfl ?_
  refine j_gd (fun h1 => ?_)
  refine j_getR hx flX1_21 kl201 h1 (by decide) (by decide +kernel) ?_
  refine j_gd (fun h2 => ?_)
  refine j_OI (j_callV (av := []) (st := []) hx hr (Or.inl q942) q789 q790 rfl md_fsh_textOffset np_fsh_textOffset (csh_textOffset (jR W 201 t) W) (by decide) (Nat.le_of_ble_eq_true rfl) h2 (by decide) (by decide +kernel)) (fun q3 _ => ?_)
  refine j_runA hx 4 (tb := [(7, .iconst 4), (8, .iload_n 1), (9, .imul), (10, .iadd)]) (jtb_ok (by decide +kernel)) (pc' := 11) (lv' := [(0, vR t), (1, vI a1)]) (st' := [vI (q3 + ((kI 4) * a1))]) rfl ?_
  exact j_iret hx hm (by decide +kernel) rfl (he _)
theorem cpg_placeOf (t : Nat) (a1 : Int32) (W : jW) : jM yX1_placeOf cX1_placeOf 2 (Option.some Jvm.ClassFile.FieldType.int) [] 2 25 [vR t, vI a1] W ((fpg_placeOf t a1 W).bind (fun q => some (.returned (some (.int q)), W))) := 
  jM.of (Nat.le_of_ble_eq_true rfl) (fun x hx hm hr => wpg_placeOf ⟨hx, hm, hr, fun _ => rfl⟩)
def hwo_is (x : jCx) (en : (Int32) → Option (Outcome × jW)) (a0 : Int32) (a1 : Int32) (a2 : Int32) (W : jW) : Prop :=
  jOK x RX12 cX12_is 3 ∧
  jMt x "is" (Option.some Jvm.ClassFile.FieldType.boolean) [] ∧
  jRm x 0 0 ∧
  (∀ q : Int32, en q = some (.returned (some (.int q)), W))
theorem wwo_is {x : jCx} {en : (Int32) → Option (Outcome × jW)} {W : jW} {a0 : Int32} {a1 : Int32} {a2 : Int32} (h : hwo_is x en a0 a1 a2 W) : jJ x 3 0 [(0, vI a0), (1, vI a1), (2, vI a2)] [] W (some (fwo_is a0 a1 a2)) en := by
  have h0 := h
  obtain ⟨hx, hm, hr, he⟩ := h0
  unfold fwo_is
  refine j_runA hx 4 (tb := [(0, .iload_n 0), (1, .iload_n 1), (2, .iand), (3, .iload_n 2)]) (jtb_ok (by decide +kernel)) (pc' := 4) (lv' := [(0, vI a0), (1, vI a1), (2, vI a2)]) (st' := [vI a2, vI (a0 &&& a1)]) rfl ?_
  refine j_tot (j_icmp_ne hx (off := 7) (tgt := 11) (by decide +kernel) (by decide) (fun _ => ?_) (fun _ => ?_))
  · refine j_runA hx 1 (tb := [(11, .iconst 0)]) (jtb_ok (by decide +kernel)) (pc' := 12) (lv' := [(0, vI a0), (1, vI a1), (2, vI a2)]) (st' := [vI (kI 0)]) rfl ?_
    exact j_iret hx hm (by decide +kernel) jz0n (he _)
  refine j_runA hx 1 (tb := [(7, .iconst 1)]) (jtb_ok (by decide +kernel)) (pc' := 8) (lv' := [(0, vI a0), (1, vI a1), (2, vI a2)]) (st' := [vI (kI 1)]) rfl ?_
  refine j_goto hx (off := 4) (by decide +kernel) (tgt := 12) (by decide) ?_
  exact j_iret hx hm (by decide +kernel) jz1n (he _)
theorem cwo_is (a0 : Int32) (a1 : Int32) (a2 : Int32) (W : jW) : jM yX12_is cX12_is 3 (Option.some Jvm.ClassFile.FieldType.boolean) [] 0 0 [vI a0, vI a1, vI a2] W (some (.returned (some (.int (fwo_is a0 a1 a2))), W)) := 
  jM.of (mm := some (fwo_is a0 a1 a2)) (en := fun q => some (.returned (some (.int q)), W)) (Nat.le_of_ble_eq_true rfl) (fun x hx hm hr => wwo_is ⟨hx, hm, hr, fun _ => rfl⟩)
def hwo_isLong (x : jCx) (en : (Int32) → Option (Outcome × jW)) (a0 : Int32) (W : jW) : Prop :=
  jOK x RX12 cX12_isLong 1 ∧
  jMt x "isLong" (Option.some Jvm.ClassFile.FieldType.boolean) [] ∧
  jRm x 0 0 ∧
  (∀ q : Int32, en q = some (.returned (some (.int q)), W))
theorem wwo_isLong {x : jCx} {en : (Int32) → Option (Outcome × jW)} {W : jW} {a0 : Int32} (h : hwo_isLong x en a0 W) : jJ x 1 0 [(0, vI a0)] [] W (some (fwo_isLong a0)) en := by
  have h0 := h
  obtain ⟨hx, hm, hr, he⟩ := h0
  unfold fwo_isLong
  refine j_runA hx 1 (tb := [(0, .iload_n 0)]) (jtb_ok (by decide +kernel)) (pc' := 1) (lv' := [(0, vI a0)]) (st' := [vI a0]) rfl ?_
  refine j_tot (j_if_ge hx (off := 7) (tgt := 8) (by decide +kernel) (by decide) (fun _ => ?_) (fun _ => ?_))
  · refine j_runA hx 1 (tb := [(8, .iconst 0)]) (jtb_ok (by decide +kernel)) (pc' := 9) (lv' := [(0, vI a0)]) (st' := [vI (kI 0)]) rfl ?_
    exact j_iret hx hm (by decide +kernel) jz0n (he _)
  refine j_runA hx 1 (tb := [(4, .iconst 1)]) (jtb_ok (by decide +kernel)) (pc' := 5) (lv' := [(0, vI a0)]) (st' := [vI (kI 1)]) rfl ?_
  refine j_goto hx (off := 4) (by decide +kernel) (tgt := 9) (by decide) ?_
  exact j_iret hx hm (by decide +kernel) jz1n (he _)
theorem cwo_isLong (a0 : Int32) (W : jW) : jM yX12_isLong cX12_isLong 1 (Option.some Jvm.ClassFile.FieldType.boolean) [] 0 0 [vI a0] W (some (.returned (some (.int (fwo_isLong a0))), W)) := 
  jM.of (mm := some (fwo_isLong a0)) (en := fun q => some (.returned (some (.int q)), W)) (Nat.le_of_ble_eq_true rfl) (fun x hx hm hr => wwo_isLong ⟨hx, hm, hr, fun _ => rfl⟩)
def hwo_amount (x : jCx) (en : (Int32) → Option (Outcome × jW)) (a0 : Int32) (W : jW) : Prop :=
  jOK x RX12 cX12_amount 1 ∧
  jMt x "amount" (Option.some Jvm.ClassFile.FieldType.int) [] ∧
  jRm x 0 0 ∧
  (∀ q : Int32, en q = some (.returned (some (.int q)), W))
theorem wwo_amount {x : jCx} {en : (Int32) → Option (Outcome × jW)} {W : jW} {a0 : Int32} (h : hwo_amount x en a0 W) : jJ x 1 0 [(0, vI a0)] [] W (some (fwo_amount a0)) en := by
  have h0 := h
  obtain ⟨hx, hm, hr, he⟩ := h0
  unfold fwo_amount
  refine j_runA hx 5 (tb := [(0, .iload_n 0), (1, .bipush 10), (3, .ishr), (4, .bipush 63), (6, .iand)]) (jtb_ok (by decide +kernel)) (pc' := 7) (lv' := [(0, vI a0)]) (st' := [vI ((ixr a0 (kI 10)) &&& (kI 63))]) rfl ?_
  exact j_iret hx hm (by decide +kernel) rfl (he _)
theorem cwo_amount (a0 : Int32) (W : jW) : jM yX12_amount cX12_amount 1 (Option.some Jvm.ClassFile.FieldType.int) [] 0 0 [vI a0] W (some (.returned (some (.int (fwo_amount a0))), W)) := 
  jM.of (mm := some (fwo_amount a0)) (en := fun q => some (.returned (some (.int q)), W)) (Nat.le_of_ble_eq_true rfl) (fun x hx hm hr => wwo_amount ⟨hx, hm, hr, fun _ => rfl⟩)
def hwo_fits (x : jCx) (en : (Int32) → Option (Outcome × jW)) (a0 : Int32) (W : jW) : Prop :=
  jOK x RX12 cX12_fits 1 ∧
  jMt x "fits" (Option.some Jvm.ClassFile.FieldType.boolean) [] ∧
  jRm x 1 12 ∧
  (∀ q : Int32, en q = some (.returned (some (.int q)), W))
theorem wwo_fits_16 {x : jCx} {en : (Int32) → Option (Outcome × jW)} {W : jW} {a0 : Int32} (h : hwo_fits x en a0 W) : jJ x 1 16 [(0, vI a0)] [] W (some (fwo_fits_16 a0)) en := by
  have h0 := h
  obtain ⟨hx, hm, hr, he⟩ := h0
  unfold fwo_fits_16
  refine j_runA hx 1 (tb := [(16, .iconst 1)]) (jtb_ok (by decide +kernel)) (pc' := 17) (lv' := [(0, vI a0)]) (st' := [vI (kI 1)]) rfl ?_
  refine j_goto hx (off := 4) (by decide +kernel) (tgt := 21) (by decide) ?_
  exact j_iret hx hm (by decide +kernel) jz1n (he _)
theorem wwo_fits {x : jCx} {en : (Int32) → Option (Outcome × jW)} {W : jW} {a0 : Int32} (h : hwo_fits x en a0 W) : jJ x 1 0 [(0, vI a0)] [] W (some (fwo_fits a0)) en := by
  have h0 := h
  obtain ⟨hx, hm, hr, he⟩ := h0
  unfold fwo_fits
  refine j_runA hx 1 (tb := [(0, .iload_n 0)]) (jtb_ok (by decide +kernel)) (pc' := 1) (lv' := [(0, vI a0)]) (st' := [vI a0]) rfl ?_
  refine j_TI (j_callS (av := [vI a0]) (st := []) hx hr (Or.inl q960) q961 q247 md_fwo_isLong np_fwo_isLong (cwo_isLong a0 W) (by decide) (Nat.le_of_ble_eq_true rfl) (by decide +kernel)) ?_
  refine j_tot (j_if_ne hx (off := 12) (tgt := 16) (by decide +kernel) (by decide) (fun _ => ?_) (fun _ => ?_))
  · exact wwo_fits_16 h
  refine j_runA hx 1 (tb := [(7, .iload_n 0)]) (jtb_ok (by decide +kernel)) (pc' := 8) (lv' := [(0, vI a0)]) (st' := [vI a0]) rfl ?_
  refine j_TI (j_callS (av := [vI a0]) (st := []) hx hr (Or.inl q963) q964 q247 md_fwo_amount np_fwo_amount (cwo_amount a0 W) (by decide) (Nat.le_of_ble_eq_true rfl) (by decide +kernel)) ?_
  refine j_runA hx 1 (tb := [(11, .bipush 32)]) (jtb_ok (by decide +kernel)) (pc' := 13) (lv' := [(0, vI a0)]) (st' := [vI (kI 32), vI (fwo_amount a0)]) rfl ?_
  refine j_tot (j_icmp_ge hx (off := 7) (tgt := 20) (by decide +kernel) (by decide) (fun _ => ?_) (fun _ => ?_))
  · refine j_runA hx 1 (tb := [(20, .iconst 0)]) (jtb_ok (by decide +kernel)) (pc' := 21) (lv' := [(0, vI a0)]) (st' := [vI (kI 0)]) rfl ?_
    exact j_iret hx hm (by decide +kernel) jz0n (he _)
  exact wwo_fits_16 h
theorem cwo_fits (a0 : Int32) (W : jW) : jM yX12_fits cX12_fits 1 (Option.some Jvm.ClassFile.FieldType.boolean) [] 1 12 [vI a0] W (some (.returned (some (.int (fwo_fits a0))), W)) := 
  jM.of (mm := some (fwo_fits a0)) (en := fun q => some (.returned (some (.int q)), W)) (Nat.le_of_ble_eq_true rfl) (fun x hx hm hr => wwo_fits ⟨hx, hm, hr, fun _ => rfl⟩)
def hwo_isTwo (x : jCx) (en : (Int32) → Option (Outcome × jW)) (a0 : Int32) (W : jW) : Prop :=
  jOK x RX12 cX12_isTwo 1 ∧
  jMt x "isTwo" (Option.some Jvm.ClassFile.FieldType.boolean) [] ∧
  jRm x 0 0 ∧
  (∀ q : Int32, en q = some (.returned (some (.int q)), W))
theorem wwo_isTwo_22 {x : jCx} {en : (Int32) → Option (Outcome × jW)} {W : jW} {a0 : Int32} (h : hwo_isTwo x en a0 W) : jJ x 1 22 [(0, vI a0)] [] W (some (fwo_isTwo_22 a0)) en := by
  have h0 := h
  obtain ⟨hx, hm, hr, he⟩ := h0
  unfold fwo_isTwo_22
  refine j_runA hx 1 (tb := [(22, .iconst 1)]) (jtb_ok (by decide +kernel)) (pc' := 23) (lv' := [(0, vI a0)]) (st' := [vI (kI 1)]) rfl ?_
  refine j_goto hx (off := 4) (by decide +kernel) (tgt := 27) (by decide) ?_
  exact j_iret hx hm (by decide +kernel) jz1n (he _)
theorem wwo_isTwo_26 {x : jCx} {en : (Int32) → Option (Outcome × jW)} {W : jW} {a0 : Int32} (h : hwo_isTwo x en a0 W) : jJ x 1 26 [(0, vI a0)] [] W (some (fwo_isTwo_26 a0)) en := by
  have h0 := h
  obtain ⟨hx, hm, hr, he⟩ := h0
  unfold fwo_isTwo_26
  refine j_runA hx 1 (tb := [(26, .iconst 0)]) (jtb_ok (by decide +kernel)) (pc' := 27) (lv' := [(0, vI a0)]) (st' := [vI (kI 0)]) rfl ?_
  exact j_iret hx hm (by decide +kernel) jz0n (he _)
theorem wwo_isTwo {x : jCx} {en : (Int32) → Option (Outcome × jW)} {W : jW} {a0 : Int32} (h : hwo_isTwo x en a0 W) : jJ x 1 0 [(0, vI a0)] [] W (some (fwo_isTwo a0)) en := by
  have h0 := h
  obtain ⟨hx, hm, hr, he⟩ := h0
  unfold fwo_isTwo
  refine j_runA hx 2 (tb := [(0, .iload_n 0), (1, .iconst 2)]) (jtb_ok (by decide +kernel)) (pc' := 2) (lv' := [(0, vI a0)]) (st' := [vI (kI 2), vI a0]) rfl ?_
  refine j_tot (j_icmp_eq hx (off := 20) (tgt := 22) (by decide +kernel) (by decide) (fun _ => ?_) (fun _ => ?_))
  · exact wwo_isTwo_22 h
  refine j_runA hx 2 (tb := [(5, .iload_n 0), (6, .iconst 3)]) (jtb_ok (by decide +kernel)) (pc' := 7) (lv' := [(0, vI a0)]) (st' := [vI (kI 3), vI a0]) rfl ?_
  refine j_tot (j_icmp_eq hx (off := 15) (tgt := 22) (by decide +kernel) (by decide) (fun _ => ?_) (fun _ => ?_))
  · exact wwo_isTwo_22 h
  refine j_runA hx 2 (tb := [(10, .iload_n 0), (11, .bipush 8)]) (jtb_ok (by decide +kernel)) (pc' := 13) (lv' := [(0, vI a0)]) (st' := [vI (kI 8), vI a0]) rfl ?_
  refine j_tot (j_icmp_lt hx (off := 13) (tgt := 26) (by decide +kernel) (by decide) (fun _ => ?_) (fun _ => ?_))
  · exact wwo_isTwo_26 h
  refine j_runA hx 2 (tb := [(16, .iload_n 0), (17, .bipush 10)]) (jtb_ok (by decide +kernel)) (pc' := 19) (lv' := [(0, vI a0)]) (st' := [vI (kI 10), vI a0]) rfl ?_
  refine j_tot (j_icmp_gt hx (off := 7) (tgt := 26) (by decide +kernel) (by decide) (fun _ => ?_) (fun _ => ?_))
  · exact wwo_isTwo_26 h
  exact wwo_isTwo_22 h
theorem cwo_isTwo (a0 : Int32) (W : jW) : jM yX12_isTwo cX12_isTwo 1 (Option.some Jvm.ClassFile.FieldType.boolean) [] 0 0 [vI a0] W (some (.returned (some (.int (fwo_isTwo a0))), W)) := 
  jM.of (mm := some (fwo_isTwo a0)) (en := fun q => some (.returned (some (.int q)), W)) (Nat.le_of_ble_eq_true rfl) (fun x hx hm hr => wwo_isTwo ⟨hx, hm, hr, fun _ => rfl⟩)
def hwo_isSized (x : jCx) (en : (Int32) → Option (Outcome × jW)) (a0 : Int32) (W : jW) : Prop :=
  jOK x RX12 cX12_isSized 3 ∧
  jMt x "isSized" (Option.some Jvm.ClassFile.FieldType.boolean) [] ∧
  jRm x 0 0 ∧
  (∀ q : Int32, en q = some (.returned (some (.int q)), W))
theorem wwo_isSized_32 {x : jCx} {en : (Int32) → Option (Outcome × jW)} {W : jW} {a0 : Int32} (h : hwo_isSized x en a0 W) : jJ x 3 32 [(0, vI a0)] [] W (some (fwo_isSized_32 a0)) en := by
  have h0 := h
  obtain ⟨hx, hm, hr, he⟩ := h0
  unfold fwo_isSized_32
  refine j_runA hx 1 (tb := [(32, .iconst 1)]) (jtb_ok (by decide +kernel)) (pc' := 33) (lv' := [(0, vI a0)]) (st' := [vI (kI 1)]) rfl ?_
  refine j_goto hx (off := 4) (by decide +kernel) (tgt := 37) (by decide) ?_
  exact j_iret hx hm (by decide +kernel) jz1n (he _)
theorem wwo_isSized_36 {x : jCx} {en : (Int32) → Option (Outcome × jW)} {W : jW} {a0 : Int32} (h : hwo_isSized x en a0 W) : jJ x 3 36 [(0, vI a0)] [] W (some (fwo_isSized_36 a0)) en := by
  have h0 := h
  obtain ⟨hx, hm, hr, he⟩ := h0
  unfold fwo_isSized_36
  refine j_runA hx 1 (tb := [(36, .iconst 0)]) (jtb_ok (by decide +kernel)) (pc' := 37) (lv' := [(0, vI a0)]) (st' := [vI (kI 0)]) rfl ?_
  exact j_iret hx hm (by decide +kernel) jz0n (he _)
theorem wwo_isSized {x : jCx} {en : (Int32) → Option (Outcome × jW)} {W : jW} {a0 : Int32} (h : hwo_isSized x en a0 W) : jJ x 3 0 [(0, vI a0)] [] W (some (fwo_isSized a0)) en := by
  have h0 := h
  obtain ⟨hx, hm, hr, he⟩ := h0
  unfold fwo_isSized
  refine j_runA hx 4 (tb := [(0, .iload_n 0), (1, .bipush 30), (3, .iushr), (4, .istore_n 1)]) (jtb_ok (by decide +kernel)) (pc' := 5) (lv' := [(1, vI (ixu a0 (kI 30))), (0, vI a0)]) (st' := []) rfl ?_
  refine j_letT (v := (ixu a0 (kI 30))) (lv := fun v1 => [(1, vI v1), (0, vI a0)]) (st := fun _ => []) (fun v1 => ?_)
  refine j_runA hx 6 (tb := [(5, .iload_n 0), (6, .bipush 22), (8, .ishr), (9, .iconst 3), (10, .iand), (11, .istore_n 2)]) (jtb_ok (by decide +kernel)) (pc' := 12) (lv' := [(2, vI ((ixr a0 (kI 22)) &&& (kI 3))), (1, vI v1), (0, vI a0)]) (st' := []) rfl ?_
  refine j_letT (v := ((ixr a0 (kI 22)) &&& (kI 3))) (lv := fun v2 => [(2, vI v2), (1, vI v1), (0, vI a0)]) (st := fun _ => []) (fun v2 => ?_)
  refine j_runA hx 2 (tb := [(12, .iload_n 1), (13, .iconst 1)]) (jtb_ok (by decide +kernel)) (pc' := 14) (lv' := [(2, vI v2), (1, vI v1), (0, vI a0)]) (st' := [vI (kI 1), vI v1]) rfl ?_
  refine j_tot (j_icmp_eq hx (off := 22) (tgt := 36) (by decide +kernel) (by decide) (fun _ => ?_) (fun _ => ?_))
  · refine j_lv (lv' := [(0, vI a0)]) ⟨rfl, trivial⟩ ?_
    exact wwo_isSized_36 h
  refine j_runA hx 2 (tb := [(17, .iload_n 2), (18, .iconst 2)]) (jtb_ok (by decide +kernel)) (pc' := 19) (lv' := [(2, vI v2), (1, vI v1), (0, vI a0)]) (st' := [vI (kI 2), vI v2]) rfl ?_
  refine j_tot (j_icmp_lt hx (off := 13) (tgt := 32) (by decide +kernel) (by decide) (fun _ => ?_) (fun _ => ?_))
  · refine j_lv (lv' := [(0, vI a0)]) ⟨rfl, trivial⟩ ?_
    exact wwo_isSized_32 h
  refine j_runA hx 2 (tb := [(22, .iload_n 2), (23, .iconst 2)]) (jtb_ok (by decide +kernel)) (pc' := 24) (lv' := [(2, vI v2), (1, vI v1), (0, vI a0)]) (st' := [vI (kI 2), vI v2]) rfl ?_
  refine j_tot (j_icmp_ne hx (off := 12) (tgt := 36) (by decide +kernel) (by decide) (fun _ => ?_) (fun _ => ?_))
  · refine j_lv (lv' := [(0, vI a0)]) ⟨rfl, trivial⟩ ?_
    exact wwo_isSized_36 h
  refine j_runA hx 2 (tb := [(27, .iload_n 1), (28, .iconst 2)]) (jtb_ok (by decide +kernel)) (pc' := 29) (lv' := [(2, vI v2), (1, vI v1), (0, vI a0)]) (st' := [vI (kI 2), vI v1]) rfl ?_
  refine j_tot (j_icmp_ne hx (off := 7) (tgt := 36) (by decide +kernel) (by decide) (fun _ => ?_) (fun _ => ?_))
  · refine j_lv (lv' := [(0, vI a0)]) ⟨rfl, trivial⟩ ?_
    exact wwo_isSized_36 h
  refine j_lv (lv' := [(0, vI a0)]) ⟨rfl, trivial⟩ ?_
  exact wwo_isSized_32 h
theorem cwo_isSized (a0 : Int32) (W : jW) : jM yX12_isSized cX12_isSized 3 (Option.some Jvm.ClassFile.FieldType.boolean) [] 0 0 [vI a0] W (some (.returned (some (.int (fwo_isSized a0))), W)) := 
  jM.of (mm := some (fwo_isSized a0)) (en := fun q => some (.returned (some (.int q)), W)) (Nat.le_of_ble_eq_true rfl) (fun x hx hm hr => wwo_isSized ⟨hx, hm, hr, fun _ => rfl⟩)
def hwo_d (x : jCx) (en : (Int32) → Option (Outcome × jW)) (a0 : Int32) (W : jW) : Prop :=
  jOK x RX12 cX12_d 1 ∧
  jMt x "d" (Option.some Jvm.ClassFile.FieldType.int) [] ∧
  jRm x 0 0 ∧
  (∀ q : Int32, en q = some (.returned (some (.int q)), W))
theorem wwo_d {x : jCx} {en : (Int32) → Option (Outcome × jW)} {W : jW} {a0 : Int32} (h : hwo_d x en a0 W) : jJ x 1 0 [(0, vI a0)] [] W (some (fwo_d a0)) en := by
  have h0 := h
  obtain ⟨hx, hm, hr, he⟩ := h0
  unfold fwo_d
  refine j_runA hx 3 (tb := [(0, .iload_n 0), (1, .bipush 31), (3, .iand)]) (jtb_ok (by decide +kernel)) (pc' := 4) (lv' := [(0, vI a0)]) (st' := [vI (a0 &&& (kI 31))]) rfl ?_
  exact j_iret hx hm (by decide +kernel) rfl (he _)
theorem cwo_d (a0 : Int32) (W : jW) : jM yX12_d cX12_d 1 (Option.some Jvm.ClassFile.FieldType.int) [] 0 0 [vI a0] W (some (.returned (some (.int (fwo_d a0))), W)) := 
  jM.of (mm := some (fwo_d a0)) (en := fun q => some (.returned (some (.int q)), W)) (Nat.le_of_ble_eq_true rfl) (fun x hx hm hr => wwo_d ⟨hx, hm, hr, fun _ => rfl⟩)
def hwo_a (x : jCx) (en : (Int32) → Option (Outcome × jW)) (a0 : Int32) (W : jW) : Prop :=
  jOK x RX12 cX12_a 1 ∧
  jMt x "a" (Option.some Jvm.ClassFile.FieldType.int) [] ∧
  jRm x 0 0 ∧
  (∀ q : Int32, en q = some (.returned (some (.int q)), W))
theorem wwo_a {x : jCx} {en : (Int32) → Option (Outcome × jW)} {W : jW} {a0 : Int32} (h : hwo_a x en a0 W) : jJ x 1 0 [(0, vI a0)] [] W (some (fwo_a a0)) en := by
  have h0 := h
  obtain ⟨hx, hm, hr, he⟩ := h0
  unfold fwo_a
  refine j_runA hx 5 (tb := [(0, .iload_n 0), (1, .bipush 10), (3, .ishr), (4, .bipush 31), (6, .iand)]) (jtb_ok (by decide +kernel)) (pc' := 7) (lv' := [(0, vI a0)]) (st' := [vI ((ixr a0 (kI 10)) &&& (kI 31))]) rfl ?_
  exact j_iret hx hm (by decide +kernel) rfl (he _)
theorem cwo_a (a0 : Int32) (W : jW) : jM yX12_a cX12_a 1 (Option.some Jvm.ClassFile.FieldType.int) [] 0 0 [vI a0] W (some (.returned (some (.int (fwo_a a0))), W)) := 
  jM.of (mm := some (fwo_a a0)) (en := fun q => some (.returned (some (.int q)), W)) (Nat.le_of_ble_eq_true rfl) (fun x hx hm hr => wwo_a ⟨hx, hm, hr, fun _ => rfl⟩)
def hwo_n (x : jCx) (en : (Int32) → Option (Outcome × jW)) (a0 : Int32) (W : jW) : Prop :=
  jOK x RX12 cX12_n 1 ∧
  jMt x "n" (Option.some Jvm.ClassFile.FieldType.int) [] ∧
  jRm x 0 0 ∧
  (∀ q : Int32, en q = some (.returned (some (.int q)), W))
theorem wwo_n {x : jCx} {en : (Int32) → Option (Outcome × jW)} {W : jW} {a0 : Int32} (h : hwo_n x en a0 W) : jJ x 1 0 [(0, vI a0)] [] W (some (fwo_n a0)) en := by
  have h0 := h
  obtain ⟨hx, hm, hr, he⟩ := h0
  unfold fwo_n
  refine j_runA hx 5 (tb := [(0, .iload_n 0), (1, .iconst 5), (2, .ishr), (3, .bipush 31), (5, .iand)]) (jtb_ok (by decide +kernel)) (pc' := 6) (lv' := [(0, vI a0)]) (st' := [vI ((ixr a0 (kI 5)) &&& (kI 31))]) rfl ?_
  exact j_iret hx hm (by decide +kernel) rfl (he _)
theorem cwo_n (a0 : Int32) (W : jW) : jM yX12_n cX12_n 1 (Option.some Jvm.ClassFile.FieldType.int) [] 0 0 [vI a0] W (some (.returned (some (.int (fwo_n a0))), W)) := 
  jM.of (mm := some (fwo_n a0)) (en := fun q => some (.returned (some (.int q)), W)) (Nat.le_of_ble_eq_true rfl) (fun x hx hm hr => wwo_n ⟨hx, hm, hr, fun _ => rfl⟩)
def hwo_isPair (x : jCx) (en : (Int32) → Option (Outcome × jW)) (a0 : Int32) (W : jW) : Prop :=
  jOK x RX12 cX12_isPair 3 ∧
  jMt x "isPair" (Option.some Jvm.ClassFile.FieldType.boolean) [] ∧
  jRm x 1 13 ∧
  (∀ q : Int32, en q = some (.returned (some (.int q)), W))
theorem wwo_isPair_42 {x : jCx} {en : (Int32) → Option (Outcome × jW)} {W : jW} {a0 : Int32} (h : hwo_isPair x en a0 W) : jJ x 3 42 [(0, vI a0)] [] W (some (fwo_isPair_42 a0)) en := by
  have h0 := h
  obtain ⟨hx, hm, hr, he⟩ := h0
  unfold fwo_isPair_42
  refine j_runA hx 1 (tb := [(42, .iconst 0)]) (jtb_ok (by decide +kernel)) (pc' := 43) (lv' := [(0, vI a0)]) (st' := [vI (kI 0)]) rfl ?_
  exact j_iret hx hm (by decide +kernel) jz0n (he _)
theorem wwo_isPair_80 {x : jCx} {en : (Int32) → Option (Outcome × jW)} {W : jW} {a0 : Int32} (h : hwo_isPair x en a0 W) : jJ x 3 80 [(0, vI a0)] [] W (some (fwo_isPair_80 a0)) en := by
  have h0 := h
  obtain ⟨hx, hm, hr, he⟩ := h0
  unfold fwo_isPair_80
  refine j_runA hx 1 (tb := [(80, .iconst 1)]) (jtb_ok (by decide +kernel)) (pc' := 81) (lv' := [(0, vI a0)]) (st' := [vI (kI 1)]) rfl ?_
  refine j_goto hx (off := 4) (by decide +kernel) (tgt := 85) (by decide) ?_
  exact j_iret hx hm (by decide +kernel) jz1n (he _)
theorem wwo_isPair_84 {x : jCx} {en : (Int32) → Option (Outcome × jW)} {W : jW} {a0 : Int32} (h : hwo_isPair x en a0 W) : jJ x 3 84 [(0, vI a0)] [] W (some (fwo_isPair_84 a0)) en := by
  have h0 := h
  obtain ⟨hx, hm, hr, he⟩ := h0
  unfold fwo_isPair_84
  refine j_runA hx 1 (tb := [(84, .iconst 0)]) (jtb_ok (by decide +kernel)) (pc' := 85) (lv' := [(0, vI a0)]) (st' := [vI (kI 0)]) rfl ?_
  exact j_iret hx hm (by decide +kernel) jz0n (he _)
theorem wwo_isPair_44 {x : jCx} {en : (Int32) → Option (Outcome × jW)} {W : jW} {a0 : Int32} (h : hwo_isPair x en a0 W) (l1 : Int32) : jJ x 3 44 [(0, vI a0), (1, vI l1)] [] W (some (fwo_isPair_44 a0 l1)) en := by
  have h0 := h
  obtain ⟨hx, hm, hr, he⟩ := h0
  unfold fwo_isPair_44
  refine j_runA hx 2 (tb := [(44, .iload_n 1), (45, .iconst 2)]) (jtb_ok (by decide +kernel)) (pc' := 46) (lv' := [(0, vI a0), (1, vI l1)]) (st' := [vI (kI 2), vI l1]) rfl ?_
  refine j_tot (j_icmp_eq hx (off := 34) (tgt := 80) (by decide +kernel) (by decide) (fun _ => ?_) (fun _ => ?_))
  · refine j_lv (lv' := [(0, vI a0)]) ⟨rfl, trivial⟩ ?_
    exact wwo_isPair_80 h
  refine j_runA hx 1 (tb := [(49, .iload_n 0)]) (jtb_ok (by decide +kernel)) (pc' := 50) (lv' := [(0, vI a0), (1, vI l1)]) (st' := [vI a0]) rfl ?_
  refine j_TI (j_callS (av := [vI a0]) (st := []) hx hr (Or.inl q997) q998 q247 md_fwo_n np_fwo_n (cwo_n a0 W) (by decide) (Nat.le_of_ble_eq_true rfl) (by decide +kernel)) ?_
  refine j_runA hx 1 (tb := [(53, .bipush 31)]) (jtb_ok (by decide +kernel)) (pc' := 55) (lv' := [(0, vI a0), (1, vI l1)]) (st' := [vI (kI 31), vI (fwo_n a0)]) rfl ?_
  refine j_tot (j_icmp_eq hx (off := 25) (tgt := 80) (by decide +kernel) (by decide) (fun _ => ?_) (fun _ => ?_))
  · refine j_lv (lv' := [(0, vI a0)]) ⟨rfl, trivial⟩ ?_
    exact wwo_isPair_80 h
  refine j_runA hx 1 (tb := [(58, .iload_n 0)]) (jtb_ok (by decide +kernel)) (pc' := 59) (lv' := [(0, vI a0), (1, vI l1)]) (st' := [vI a0]) rfl ?_
  refine j_TI (j_callS (av := [vI a0]) (st := []) hx hr (Or.inl q997) q998 q247 md_fwo_n np_fwo_n (cwo_n a0 W) (by decide) (Nat.le_of_ble_eq_true rfl) (by decide +kernel)) ?_
  refine j_runA hx 1 (tb := [(62, .iload_n 0)]) (jtb_ok (by decide +kernel)) (pc' := 63) (lv' := [(0, vI a0), (1, vI l1)]) (st' := [vI a0, vI (fwo_n a0)]) rfl ?_
  refine j_TI (j_callS (av := [vI a0]) (st := [vI (fwo_n a0)]) hx hr (Or.inl q991) q992 q247 md_fwo_d np_fwo_d (cwo_d a0 W) (by decide) (Nat.le_of_ble_eq_true rfl) (by decide +kernel)) ?_
  refine j_tot (j_icmp_eq hx (off := 18) (tgt := 84) (by decide +kernel) (by decide) (fun _ => ?_) (fun _ => ?_))
  · refine j_lv (lv' := [(0, vI a0)]) ⟨rfl, trivial⟩ ?_
    exact wwo_isPair_84 h
  refine j_runA hx 1 (tb := [(69, .iload_n 0)]) (jtb_ok (by decide +kernel)) (pc' := 70) (lv' := [(0, vI a0), (1, vI l1)]) (st' := [vI a0]) rfl ?_
  refine j_TI (j_callS (av := [vI a0]) (st := []) hx hr (Or.inl q997) q998 q247 md_fwo_n np_fwo_n (cwo_n a0 W) (by decide) (Nat.le_of_ble_eq_true rfl) (by decide +kernel)) ?_
  refine j_runA hx 1 (tb := [(73, .iload_n 0)]) (jtb_ok (by decide +kernel)) (pc' := 74) (lv' := [(0, vI a0), (1, vI l1)]) (st' := [vI a0, vI (fwo_n a0)]) rfl ?_
  refine j_TI (j_callS (av := [vI a0]) (st := [vI (fwo_n a0)]) hx hr (Or.inl q994) q995 q247 md_fwo_a np_fwo_a (cwo_a a0 W) (by decide) (Nat.le_of_ble_eq_true rfl) (by decide +kernel)) ?_
  refine j_tot (j_icmp_eq hx (off := 7) (tgt := 84) (by decide +kernel) (by decide) (fun _ => ?_) (fun _ => ?_))
  · refine j_lv (lv' := [(0, vI a0)]) ⟨rfl, trivial⟩ ?_
    exact wwo_isPair_84 h
  refine j_lv (lv' := [(0, vI a0)]) ⟨rfl, trivial⟩ ?_
  exact wwo_isPair_80 h
theorem wwo_isPair_22 {x : jCx} {en : (Int32) → Option (Outcome × jW)} {W : jW} {a0 : Int32} (h : hwo_isPair x en a0 W) (l1 : Int32) (s0 : Int32) : jJ x 3 22 [(0, vI a0), (1, vI l1)] [vI s0] W (some (fwo_isPair_22 a0 l1 s0)) en := by
  have h0 := h
  obtain ⟨hx, hm, hr, he⟩ := h0
  unfold fwo_isPair_22
  refine j_runA hx 2 (tb := [(22, .istore_n 2), (23, .iload_n 1)]) (jtb_ok (by decide +kernel)) (pc' := 24) (lv' := [(2, vI s0), (0, vI a0), (1, vI l1)]) (st' := [vI l1]) rfl ?_
  refine j_tot (j_if_eq hx (off := 18) (tgt := 42) (by decide +kernel) (by decide) (fun _ => ?_) (fun _ => ?_))
  · refine j_lv (lv' := [(0, vI a0)]) ⟨rfl, trivial⟩ ?_
    exact wwo_isPair_42 h
  refine j_runA hx 1 (tb := [(27, .iload_n 2)]) (jtb_ok (by decide +kernel)) (pc' := 28) (lv' := [(2, vI s0), (0, vI a0), (1, vI l1)]) (st' := [vI s0]) rfl ?_
  refine j_tot (j_if_eq hx (off := 16) (tgt := 44) (by decide +kernel) (by decide) (fun _ => ?_) (fun _ => ?_))
  · refine j_lv (lv' := [(0, vI a0), (1, vI l1)]) ⟨rfl, rfl, trivial⟩ ?_
    exact wwo_isPair_44 h l1
  refine j_runA hx 1 (tb := [(31, .iload_n 0)]) (jtb_ok (by decide +kernel)) (pc' := 32) (lv' := [(2, vI s0), (0, vI a0), (1, vI l1)]) (st' := [vI a0]) rfl ?_
  refine j_TI (j_callS (av := [vI a0]) (st := []) hx hr (Or.inl q991) q992 q247 md_fwo_d np_fwo_d (cwo_d a0 W) (by decide) (Nat.le_of_ble_eq_true rfl) (by decide +kernel)) ?_
  refine j_runA hx 1 (tb := [(35, .iload_n 0)]) (jtb_ok (by decide +kernel)) (pc' := 36) (lv' := [(2, vI s0), (0, vI a0), (1, vI l1)]) (st' := [vI a0, vI (fwo_d a0)]) rfl ?_
  refine j_TI (j_callS (av := [vI a0]) (st := [vI (fwo_d a0)]) hx hr (Or.inl q994) q995 q247 md_fwo_a np_fwo_a (cwo_a a0 W) (by decide) (Nat.le_of_ble_eq_true rfl) (by decide +kernel)) ?_
  refine j_tot (j_icmp_ne hx (off := 5) (tgt := 44) (by decide +kernel) (by decide) (fun _ => ?_) (fun _ => ?_))
  · refine j_lv (lv' := [(0, vI a0), (1, vI l1)]) ⟨rfl, rfl, trivial⟩ ?_
    exact wwo_isPair_44 h l1
  refine j_lv (lv' := [(0, vI a0)]) ⟨rfl, trivial⟩ ?_
  exact wwo_isPair_42 h
theorem wwo_isPair {x : jCx} {en : (Int32) → Option (Outcome × jW)} {W : jW} {a0 : Int32} (h : hwo_isPair x en a0 W) : jJ x 3 0 [(0, vI a0)] [] W (some (fwo_isPair a0)) en := by
  have h0 := h
  obtain ⟨hx, hm, hr, he⟩ := h0
  unfold fwo_isPair
  refine j_runA hx 6 (tb := [(0, .iload_n 0), (1, .bipush 23), (3, .ishr), (4, .iconst 3), (5, .iand), (6, .istore_n 1)]) (jtb_ok (by decide +kernel)) (pc' := 7) (lv' := [(1, vI ((ixr a0 (kI 23)) &&& (kI 3))), (0, vI a0)]) (st' := []) rfl ?_
  refine j_letT (v := ((ixr a0 (kI 23)) &&& (kI 3))) (lv := fun v1 => [(1, vI v1), (0, vI a0)]) (st := fun _ => []) (fun v1 => ?_)
  refine j_runA hx 6 (tb := [(7, .iload_n 0), (8, .bipush 22), (10, .ishr), (11, .iconst 1), (12, .iand), (13, .iconst 1)]) (jtb_ok (by decide +kernel)) (pc' := 14) (lv' := [(1, vI v1), (0, vI a0)]) (st' := [vI (kI 1), vI ((ixr a0 (kI 22)) &&& (kI 1))]) rfl ?_
  refine j_tot (j_icmp_ne hx (off := 7) (tgt := 21) (by decide +kernel) (by decide) (fun _ => ?_) (fun _ => ?_))
  · refine j_runA hx 1 (tb := [(21, .iconst 0)]) (jtb_ok (by decide +kernel)) (pc' := 22) (lv' := [(1, vI v1), (0, vI a0)]) (st' := [vI (kI 0)]) rfl ?_
    refine j_lv (lv' := [(0, vI a0), (1, vI v1)]) ⟨rfl, rfl, trivial⟩ ?_
    exact wwo_isPair_22 h v1 (kI 0)
  refine j_runA hx 1 (tb := [(17, .iconst 1)]) (jtb_ok (by decide +kernel)) (pc' := 18) (lv' := [(1, vI v1), (0, vI a0)]) (st' := [vI (kI 1)]) rfl ?_
  refine j_goto hx (off := 4) (by decide +kernel) (tgt := 22) (by decide) ?_
  refine j_lv (lv' := [(0, vI a0), (1, vI v1)]) ⟨rfl, rfl, trivial⟩ ?_
  exact wwo_isPair_22 h v1 (kI 1)
theorem cwo_isPair (a0 : Int32) (W : jW) : jM yX12_isPair cX12_isPair 3 (Option.some Jvm.ClassFile.FieldType.boolean) [] 1 13 [vI a0] W (some (.returned (some (.int (fwo_isPair a0))), W)) := 
  jM.of (mm := some (fwo_isPair a0)) (en := fun q => some (.returned (some (.int q)), W)) (Nat.le_of_ble_eq_true rfl) (fun x hx hm hr => wwo_isPair ⟨hx, hm, hr, fun _ => rfl⟩)
def hwo_branch (x : jCx) (en : (Int32) → Option (Outcome × jW)) (a0 : Int32) (W : jW) : Prop :=
  jOK x RX12 cX12_branch 1 ∧
  jMt x "branch" (Option.some Jvm.ClassFile.FieldType.int) [] ∧
  jRm x 1 14 ∧
  (∀ q : Int32, en q = some (.returned (some (.int q)), W))
theorem wwo_branch {x : jCx} {en : (Int32) → Option (Outcome × jW)} {W : jW} {a0 : Int32} (h : hwo_branch x en a0 W) : jJ x 1 0 [(0, vI a0)] [] W (some (fwo_branch a0)) en := by
  have h0 := h
  obtain ⟨hx, hm, hr, he⟩ := h0
  unfold fwo_branch
  refine j_runA hx 1 (tb := [(0, .iload_n 0)]) (jtb_ok (by decide +kernel)) (pc' := 1) (lv' := [(0, vI a0)]) (st' := [vI a0]) rfl ?_
  refine j_ldc hx (v := (kI (-67108864))) (jkc q1003 (by decide +kernel)) (by decide +kernel) ?_
  refine j_ldc hx (v := (kI 335544320)) (jkc q1004 (by decide +kernel)) (by decide +kernel) ?_
  refine j_TI (j_callS (av := [vI a0, vI (kI (-67108864)), vI (kI 335544320)]) (st := []) hx hr (Or.inl q952) q953 q247 md_fwo_is np_fwo_is (cwo_is a0 (kI (-67108864)) (kI 335544320) W) (by decide) (Nat.le_of_ble_eq_true rfl) (by decide +kernel)) ?_
  refine j_tot (j_if_eq hx (off := 6) (tgt := 14) (by decide +kernel) (by decide) (fun _ => ?_) (fun _ => ?_))
  · refine j_runA hx 1 (tb := [(14, .iload_n 0)]) (jtb_ok (by decide +kernel)) (pc' := 15) (lv' := [(0, vI a0)]) (st' := [vI a0]) rfl ?_
    refine j_ldc hx (v := (kI (-67108864))) (jkc q1003 (by decide +kernel)) (by decide +kernel) ?_
    refine j_ldc hx (v := (kI (-1811939328))) (jkc q1005 (by decide +kernel)) (by decide +kernel) ?_
    refine j_TI (j_callS (av := [vI a0, vI (kI (-67108864)), vI (kI (-1811939328))]) (st := []) hx hr (Or.inl q952) q953 q247 md_fwo_is np_fwo_is (cwo_is a0 (kI (-67108864)) (kI (-1811939328)) W) (by decide) (Nat.le_of_ble_eq_true rfl) (by decide +kernel)) ?_
    refine j_tot (j_if_eq hx (off := 6) (tgt := 28) (by decide +kernel) (by decide) (fun _ => ?_) (fun _ => ?_))
    · refine j_runA hx 1 (tb := [(28, .iload_n 0)]) (jtb_ok (by decide +kernel)) (pc' := 29) (lv' := [(0, vI a0)]) (st' := [vI a0]) rfl ?_
      refine j_ldc hx (v := (kI (-16777200))) (jkc q1006 (by decide +kernel)) (by decide +kernel) ?_
      refine j_ldc hx (v := (kI 1409286144)) (jkc q1007 (by decide +kernel)) (by decide +kernel) ?_
      refine j_TI (j_callS (av := [vI a0, vI (kI (-16777200)), vI (kI 1409286144)]) (st := []) hx hr (Or.inl q952) q953 q247 md_fwo_is np_fwo_is (cwo_is a0 (kI (-16777200)) (kI 1409286144) W) (by decide) (Nat.le_of_ble_eq_true rfl) (by decide +kernel)) ?_
      refine j_tot (j_if_eq hx (off := 19) (tgt := 55) (by decide +kernel) (by decide) (fun _ => ?_) (fun _ => ?_))
      · refine j_runA hx 1 (tb := [(55, .iload_n 0)]) (jtb_ok (by decide +kernel)) (pc' := 56) (lv' := [(0, vI a0)]) (st' := [vI a0]) rfl ?_
        refine j_ldc hx (v := (kI 2113929216)) (jkc q1008 (by decide +kernel)) (by decide +kernel) ?_
        refine j_ldc hx (v := (kI 872415232)) (jkc q1009 (by decide +kernel)) (by decide +kernel) ?_
        refine j_TI (j_callS (av := [vI a0, vI (kI 2113929216), vI (kI 872415232)]) (st := []) hx hr (Or.inl q952) q953 q247 md_fwo_is np_fwo_is (cwo_is a0 (kI 2113929216) (kI 872415232) W) (by decide) (Nat.le_of_ble_eq_true rfl) (by decide +kernel)) ?_
        refine j_tot (j_if_eq hx (off := 6) (tgt := 69) (by decide +kernel) (by decide) (fun _ => ?_) (fun _ => ?_))
        · refine j_runA hx 1 (tb := [(69, .iload_n 0)]) (jtb_ok (by decide +kernel)) (pc' := 70) (lv' := [(0, vI a0)]) (st' := [vI a0]) rfl ?_
          refine j_ldc hx (v := (kI 2113929216)) (jkc q1008 (by decide +kernel)) (by decide +kernel) ?_
          refine j_ldc hx (v := (kI 905969664)) (jkc q1010 (by decide +kernel)) (by decide +kernel) ?_
          refine j_TI (j_callS (av := [vI a0, vI (kI 2113929216), vI (kI 905969664)]) (st := []) hx hr (Or.inl q952) q953 q247 md_fwo_is np_fwo_is (cwo_is a0 (kI 2113929216) (kI 905969664) W) (by decide) (Nat.le_of_ble_eq_true rfl) (by decide +kernel)) ?_
          refine j_tot (j_if_eq hx (off := 6) (tgt := 83) (by decide +kernel) (by decide) (fun _ => ?_) (fun _ => ?_))
          · refine j_runA hx 2 (tb := [(83, .iload_n 0), (84, .sipush (-993))]) (jtb_ok (by decide +kernel)) (pc' := 87) (lv' := [(0, vI a0)]) (st' := [vI (kI (-993)), vI a0]) rfl ?_
            refine j_ldc hx (v := (kI (-702611456))) (jkc q1011 (by decide +kernel)) (by decide +kernel) ?_
            refine j_TI (j_callS (av := [vI a0, vI (kI (-993)), vI (kI (-702611456))]) (st := []) hx hr (Or.inl q952) q953 q247 md_fwo_is np_fwo_is (cwo_is a0 (kI (-993)) (kI (-702611456)) W) (by decide) (Nat.le_of_ble_eq_true rfl) (by decide +kernel)) ?_
            refine j_tot (j_if_eq hx (off := 6) (tgt := 98) (by decide +kernel) (by decide) (fun _ => ?_) (fun _ => ?_))
            · refine j_runA hx 2 (tb := [(98, .iload_n 0), (99, .sipush (-993))]) (jtb_ok (by decide +kernel)) (pc' := 102) (lv' := [(0, vI a0)]) (st' := [vI (kI (-993)), vI a0]) rfl ?_
              refine j_ldc hx (v := (kI (-700514304))) (jkc q1012 (by decide +kernel)) (by decide +kernel) ?_
              refine j_TI (j_callS (av := [vI a0, vI (kI (-993)), vI (kI (-700514304))]) (st := []) hx hr (Or.inl q952) q953 q247 md_fwo_is np_fwo_is (cwo_is a0 (kI (-993)) (kI (-700514304)) W) (by decide) (Nat.le_of_ble_eq_true rfl) (by decide +kernel)) ?_
              refine j_tot (j_if_eq hx (off := 6) (tgt := 113) (by decide +kernel) (by decide) (fun _ => ?_) (fun _ => ?_))
              · refine j_runA hx 2 (tb := [(113, .iload_n 0), (114, .sipush (-993))]) (jtb_ok (by decide +kernel)) (pc' := 117) (lv' := [(0, vI a0)]) (st' := [vI (kI (-993)), vI a0]) rfl ?_
                refine j_ldc hx (v := (kI (-698417152))) (jkc q1013 (by decide +kernel)) (by decide +kernel) ?_
                refine j_TI (j_callS (av := [vI a0, vI (kI (-993)), vI (kI (-698417152))]) (st := []) hx hr (Or.inl q952) q953 q247 md_fwo_is np_fwo_is (cwo_is a0 (kI (-993)) (kI (-698417152)) W) (by decide) (Nat.le_of_ble_eq_true rfl) (by decide +kernel)) ?_
                refine j_tot (j_if_eq hx (off := 6) (tgt := 128) (by decide +kernel) (by decide) (fun _ => ?_) (fun _ => ?_))
                · refine j_runA hx 1 (tb := [(128, .iload_n 0)]) (jtb_ok (by decide +kernel)) (pc' := 129) (lv' := [(0, vI a0)]) (st' := [vI a0]) rfl ?_
                  refine j_ldc hx (v := (kI (-2097121))) (jkc q1014 (by decide +kernel)) (by decide +kernel) ?_
                  refine j_ldc hx (v := (kI (-738197503))) (jkc q1015 (by decide +kernel)) (by decide +kernel) ?_
                  refine j_TI (j_callS (av := [vI a0, vI (kI (-2097121)), vI (kI (-738197503))]) (st := []) hx hr (Or.inl q952) q953 q247 md_fwo_is np_fwo_is (cwo_is a0 (kI (-2097121)) (kI (-738197503)) W) (by decide) (Nat.le_of_ble_eq_true rfl) (by decide +kernel)) ?_
                  refine j_tot (j_if_eq hx (off := 6) (tgt := 142) (by decide +kernel) (by decide) (fun _ => ?_) (fun _ => ?_))
                  · refine j_runA hx 1 (tb := [(142, .iload_n 0)]) (jtb_ok (by decide +kernel)) (pc' := 143) (lv' := [(0, vI a0)]) (st' := [vI a0]) rfl ?_
                    refine j_ldc hx (v := (kI (-721215457))) (jkc q1016 (by decide +kernel)) (by decide +kernel) ?_
                    refine j_tot (j_icmp_ne hx (off := 8) (tgt := 153) (by decide +kernel) (by decide) (fun _ => ?_) (fun _ => ?_))
                    · refine j_runA hx 1 (tb := [(153, .iconst 0)]) (jtb_ok (by decide +kernel)) (pc' := 154) (lv' := [(0, vI a0)]) (st' := [vI (kI 0)]) rfl ?_
                      exact j_iret hx hm (by decide +kernel) rfl (he _)
                    refine j_runA hx 1 (tb := [(148, .bipush 21)]) (jtb_ok (by decide +kernel)) (pc' := 150) (lv' := [(0, vI a0)]) (st' := [vI (kI 21)]) rfl ?_
                    refine j_goto hx (off := 4) (by decide +kernel) (tgt := 154) (by decide) ?_
                    exact j_iret hx hm (by decide +kernel) rfl (he _)
                  refine j_runA hx 1 (tb := [(139, .bipush 20)]) (jtb_ok (by decide +kernel)) (pc' := 141) (lv' := [(0, vI a0)]) (st' := [vI (kI 20)]) rfl ?_
                  exact j_iret hx hm (by decide +kernel) rfl (he _)
                refine j_runA hx 1 (tb := [(125, .bipush 19)]) (jtb_ok (by decide +kernel)) (pc' := 127) (lv' := [(0, vI a0)]) (st' := [vI (kI 19)]) rfl ?_
                exact j_iret hx hm (by decide +kernel) rfl (he _)
              refine j_runA hx 1 (tb := [(110, .bipush 18)]) (jtb_ok (by decide +kernel)) (pc' := 112) (lv' := [(0, vI a0)]) (st' := [vI (kI 18)]) rfl ?_
              exact j_iret hx hm (by decide +kernel) rfl (he _)
            refine j_runA hx 1 (tb := [(95, .bipush 17)]) (jtb_ok (by decide +kernel)) (pc' := 97) (lv' := [(0, vI a0)]) (st' := [vI (kI 17)]) rfl ?_
            exact j_iret hx hm (by decide +kernel) rfl (he _)
          refine j_runA hx 1 (tb := [(80, .bipush 16)]) (jtb_ok (by decide +kernel)) (pc' := 82) (lv' := [(0, vI a0)]) (st' := [vI (kI 16)]) rfl ?_
          exact j_iret hx hm (by decide +kernel) rfl (he _)
        refine j_runA hx 1 (tb := [(66, .bipush 15)]) (jtb_ok (by decide +kernel)) (pc' := 68) (lv' := [(0, vI a0)]) (st' := [vI (kI 15)]) rfl ?_
        exact j_iret hx hm (by decide +kernel) rfl (he _)
      refine j_runA hx 4 (tb := [(39, .iload_n 0), (40, .bipush 15), (42, .iand), (43, .bipush 14)]) (jtb_ok (by decide +kernel)) (pc' := 45) (lv' := [(0, vI a0)]) (st' := [vI (kI 14), vI (a0 &&& (kI 15))]) rfl ?_
      refine j_tot (j_icmp_ge hx (off := 8) (tgt := 53) (by decide +kernel) (by decide) (fun _ => ?_) (fun _ => ?_))
      · refine j_runA hx 1 (tb := [(53, .iconst 0)]) (jtb_ok (by decide +kernel)) (pc' := 54) (lv' := [(0, vI a0)]) (st' := [vI (kI 0)]) rfl ?_
        exact j_iret hx hm (by decide +kernel) rfl (he _)
      refine j_runA hx 1 (tb := [(48, .bipush 14)]) (jtb_ok (by decide +kernel)) (pc' := 50) (lv' := [(0, vI a0)]) (st' := [vI (kI 14)]) rfl ?_
      refine j_goto hx (off := 4) (by decide +kernel) (tgt := 54) (by decide) ?_
      exact j_iret hx hm (by decide +kernel) rfl (he _)
    refine j_runA hx 1 (tb := [(25, .bipush 13)]) (jtb_ok (by decide +kernel)) (pc' := 27) (lv' := [(0, vI a0)]) (st' := [vI (kI 13)]) rfl ?_
    exact j_iret hx hm (by decide +kernel) rfl (he _)
  refine j_runA hx 1 (tb := [(11, .bipush 12)]) (jtb_ok (by decide +kernel)) (pc' := 13) (lv' := [(0, vI a0)]) (st' := [vI (kI 12)]) rfl ?_
  exact j_iret hx hm (by decide +kernel) rfl (he _)
theorem cwo_branch (a0 : Int32) (W : jW) : jM yX12_branch cX12_branch 1 (Option.some Jvm.ClassFile.FieldType.int) [] 1 14 [vI a0] W (some (.returned (some (.int (fwo_branch a0))), W)) := 
  jM.of (mm := some (fwo_branch a0)) (en := fun q => some (.returned (some (.int q)), W)) (Nat.le_of_ble_eq_true rfl) (fun x hx hm hr => wwo_branch ⟨hx, hm, hr, fun _ => rfl⟩)
